/-! block equations of the component and of the JDK: by gen/cemit.py -/
section cbq
variable {σ : Type} (lc : Nat → Int64) (gi : Nat → Option Nat → σ → Option Int32) (gr : Nat → Option Nat → σ → Option (Option Nat)) (pi : Nat → Option Nat → Int32 → σ → Option σ) (pr : Nat → Option Nat → Option Nat → σ → Option σ) (ai : Nat → Option Nat → Int32 → σ → Option Int32) (ar : Option Nat → Int32 → σ → Option (Option Nat)) (wi : Nat → Option Nat → Int32 → Int32 → σ → Option σ) (wr : Option Nat → Int32 → Option Nat → σ → Option σ) (an : Option Nat → σ → Option Int32) (nw : Nat → σ → Nat × σ) (na : Nat → Int32 → σ → Option (Nat × σ)) (io : Nat → Option Nat → σ → Option Bool) (dp : Nat → Option Nat → σ → Option Nat) (ca : Nat → List pj_V → σ → cx_O σ) (jm : Nat → List pj_V → List pj_V → σ → cx_O σ)
set_option maxRecDepth 100000 in
theorem cb_X1_init (x0 : Nat) (s : σ) : cx_B ct_lc gi gr pi pr ai ar wi wr an nw na io dp ct_ft ct_sg 0 [] ct_X1_init ca jm 1000 ct_X1_init [some (vr_ (some x0))] [] s =
  (cx_bV cx_th (ca 151 [vr_ (some x0)] s) fun s1 =>
  ((na 201 6000 s1).bind fun q2 =>
  ((pr 38 (some x0) (some q2.1) q2.2).bind fun s3 =>
  (cx_bV cx_th (ca 316 [vr_ (some (nw 6 s3).1)] (nw 6 s3).2) fun s4 =>
  ((pr 41 (some x0) (some (nw 6 s3).1) s4).bind fun s5 =>
  (cx_bV cx_th (ca 322 [vr_ (some (nw 3 s5).1)] (nw 3 s5).2) fun s6 =>
  ((pr 42 (some x0) (some (nw 3 s5).1) s6).bind fun s7 =>
  (cx_bV cx_th (ca 352 [vr_ (some (nw 1 s7).1)] (nw 1 s7).2) fun s8 =>
  ((pr 43 (some x0) (some (nw 1 s7).1) s8).bind fun s9 =>
  ((gr 41 (some x0) s9).bind fun v10 =>
  ((gr 121 v10 s9).bind fun v11 =>
  ((pr 44 (some x0) v11 s9).bind fun s12 =>
  ((na 200 200 s12).bind fun q13 =>
  ((pr 45 (some x0) (some q13.1) q13.2).bind fun s14 =>
  ((na 200 200 s14).bind fun q15 =>
  ((pr 46 (some x0) (some q15.1) q15.2).bind fun s16 =>
  ((na 200 200 s16).bind fun q17 =>
  ((pr 47 (some x0) (some q17.1) q17.2).bind fun s18 =>
  ((na 200 200 s18).bind fun q19 =>
  ((pr 48 (some x0) (some q19.1) q19.2).bind fun s20 =>
  ((pi 51 (some x0) (-1) s20).bind fun s21 =>
  ((pi 52 (some x0) 4096 s21).bind fun s22 =>
  ((pi 53 (some x0) 4096 s22).bind fun s23 =>
  ((na 200 1500 s23).bind fun q24 =>
  ((pr 54 (some x0) (some q24.1) q24.2).bind fun s25 =>
  ((na 200 100 s25).bind fun q26 =>
  ((pr 55 (some x0) (some q26.1) q26.2).bind fun s27 =>
  (cx_bR cx_th (ca 203 [] s27) fun v29 s28 =>
  ((pr 56 (some x0) v29 s28).bind fun s30 =>
  ((na 212 4 s30).bind fun q31 =>
  (cx_bV cx_th (ca 362 [vr_ (some (nw 13 q31.2).1), vi_ 6000, vi_ 1] (nw 13 q31.2).2) fun s32 =>
  ((wr (some q31.1) 0 (some (nw 13 q31.2).1) s32).bind fun s33 =>
  (cx_bV cx_th (ca 362 [vr_ (some (nw 13 s33).1), vi_ 6000, vi_ 1] (nw 13 s33).2) fun s34 =>
  ((wr (some q31.1) 1 (some (nw 13 s33).1) s34).bind fun s35 =>
  (cx_bV cx_th (ca 362 [vr_ (some (nw 13 s35).1), vi_ 6000, vi_ 1] (nw 13 s35).2) fun s36 =>
  ((wr (some q31.1) 2 (some (nw 13 s35).1) s36).bind fun s37 =>
  (cx_bV cx_th (ca 362 [vr_ (some (nw 13 s37).1), vi_ 6000, vi_ 1] (nw 13 s37).2) fun s38 =>
  ((wr (some q31.1) 3 (some (nw 13 s37).1) s38).bind fun s39 =>
  ((pr 57 (some x0) (some q31.1) s39).bind fun s40 =>
  ((na 212 2 s40).bind fun q41 =>
  (cx_bV cx_th (ca 362 [vr_ (some (nw 13 q41.2).1), vi_ 4096, vi_ 0] (nw 13 q41.2).2) fun s42 =>
  ((wr (some q41.1) 0 (some (nw 13 q41.2).1) s42).bind fun s43 =>
  (cx_bV cx_th (ca 362 [vr_ (some (nw 13 s43).1), vi_ 4096, vi_ 0] (nw 13 s43).2) fun s44 =>
  ((wr (some q41.1) 1 (some (nw 13 s43).1) s44).bind fun s45 =>
  ((pr 58 (some x0) (some q41.1) s45).bind fun s46 =>
  ((gr 57 (some x0) s46).bind fun v47 =>
  ((ar v47 0 s46).bind fun v48 =>
  ((pr 59 (some x0) v48 s46).bind fun s49 =>
  ((gr 58 (some x0) s49).bind fun v50 =>
  ((ar v50 0 s49).bind fun v51 =>
  ((pr 60 (some x0) v51 s49).bind fun s52 =>
  ((na 200 65536 s52).bind fun q53 =>
  ((pr 61 (some x0) (some q53.1) q53.2).bind fun s54 =>
  ((na 200 1024 s54).bind fun q55 =>
  ((pr 67 (some x0) (some q55.1) q55.2).bind fun s56 =>
  ((na 200 100 s56).bind fun q57 =>
  ((pr 68 (some x0) (some q57.1) q57.2).bind fun s58 =>
  ((na 200 100 s58).bind fun q59 =>
  ((pr 69 (some x0) (some q59.1) q59.2).bind fun s60 =>
  ((na 200 100 s60).bind fun q61 =>
  ((pr 70 (some x0) (some q61.1) q61.2).bind fun s62 =>
  ((na 200 100 s62).bind fun q63 =>
  ((pr 71 (some x0) (some q63.1) q63.2).bind fun s64 =>
  ((na 200 64 s64).bind fun q65 =>
  ((pr 75 (some x0) (some q65.1) q65.2).bind fun s66 =>
  ((na 200 64 s66).bind fun q67 =>
  ((pr 76 (some x0) (some q67.1) q67.2).bind fun s68 =>
  some (.inl none, s68)))))))))))))))))))))))))))))))))))))))))))))))))))))))))))))))))))) := by rfl
set_option maxRecDepth 100000 in
theorem cb_X1_libraryNames (s : σ) : cx_B ct_lc gi gr pi pr ai ar wi wr an nw na io dp ct_ft ct_sg 3 [] ct_X1_libraryNames ca jm 1000 ct_X1_libraryNames [none, none, none, none] [] s =
  (cx_bV cx_th (ca 1 [vr_ (some (nw 38 s).1)] (nw 38 s).2) fun s1 =>
  jm 14 [vr_ (some (nw 38 s).1), vi_ 0, vi_ 0, vi_ 0] [] s1) := by rfl
set_option maxRecDepth 100000 in
theorem cb_X1_libraryNames_14 (x1 x2 x3 : Int32) (x0 : Option Nat) (s : σ) : cx_B ct_lc gi gr pi pr ai ar wi wr an nw na io dp ct_ft ct_sg 3 [] ct_X1_libraryNames ca jm 1000 (pj_at ct_X1_libraryNames 14) [some (vr_ x0), some (vi_ x1), some (vi_ x2), some (vi_ x3)] [] s =
  ((dp 86 (some 1013) s).bind fun m1 =>
  (cx_bI cx_th (ca m1 [vr_ (some 1013)] s) fun v3 s2 =>
  (if v3 < x3 then
    some (.inl (some (vr_ x0)), s2)
  else
    ((dp 86 (some 1013) s2).bind fun m4 =>
    (cx_bI cx_th (ca m4 [vr_ (some 1013)] s2) fun v6 s5 =>
    (if x3 < v6 then
      ((dp 88 (some 1013) s5).bind fun m7 =>
      (cx_bI cx_th (ca m7 [vr_ (some 1013), vi_ x3] s5) fun v9 s8 =>
      (if v9 = 32 then
        jm 49 [vr_ x0, vi_ x1, vi_ x2, vi_ x3] [] s8
      else
        jm 14 [vr_ x0, vi_ x1, vi_ x2, vi_ (x3 + 1)] [] s8)))
    else
      jm 49 [vr_ x0, vi_ x1, vi_ x2, vi_ x3] [] s5)))))) := by rfl
set_option maxRecDepth 100000 in
theorem cb_X1_libraryNames_49 (x1 x2 x3 : Int32) (x0 : Option Nat) (s : σ) : cx_B ct_lc gi gr pi pr ai ar wi wr an nw na io dp ct_ft ct_sg 3 [] ct_X1_libraryNames ca jm 1000 (pj_at ct_X1_libraryNames 49) [some (vr_ x0), some (vi_ x1), some (vi_ x2), some (vi_ x3)] [] s =
  ((dp 91 (some 1013) s).bind fun m1 =>
  (cx_bR cx_th (ca m1 [vr_ (some 1013), vi_ x2, vi_ x3] s) fun v3 s2 =>
  (cx_bV cx_th (ca 361 [vr_ (some (nw 7 s2).1), vr_ (some 1014), vi_ (2000000 + x1)] (nw 7 s2).2) fun s4 =>
  ((dp 2 x0 s4).bind fun m5 =>
  (cx_bR cx_th (ca m5 [vr_ x0, vr_ v3, vr_ (some (nw 7 s2).1)] s4) fun v7 s6 =>
  jm 14 [vr_ x0, vi_ (x1 + 1), vi_ (x3 + 1), vi_ (x3 + 1)] [] s6))))) := by rfl
set_option maxRecDepth 100000 in
theorem cb_X1_feed (x1 x2 x3 x4 x5 : Int32) (x0 : Nat) (s : σ) : cx_B ct_lc gi gr pi pr ai ar wi wr an nw na io dp ct_ft ct_sg 4 [] ct_X1_feed ca jm 1000 ct_X1_feed [some (vr_ (some x0)), some (vi_ x1), some (vi_ x2), some (vi_ x3), some (vi_ x4), some (vi_ x5), none, none] [] s =
  ((gi 39 (some x0) s).bind fun v1 =>
  ((gr 38 (some x0) s).bind fun v2 =>
  ((an v2 s).bind fun v3 =>
  (if v3 < (v1 + 20) then
    some (.inl (some (vi_ 0)), s)
  else
    jm 20 [vr_ (some x0), vi_ x1, vi_ x2, vi_ x3, vi_ x4, vi_ x5, vi_ 0] [] s)))) := by rfl
set_option maxRecDepth 100000 in
theorem cb_X1_feed_20 (x1 x2 x3 x4 x5 x6 : Int32) (x0 : Nat) (s : σ) : cx_B ct_lc gi gr pi pr ai ar wi wr an nw na io dp ct_ft ct_sg 4 [] ct_X1_feed ca jm 1000 (pj_at ct_X1_feed 20) [some (vr_ (some x0)), some (vi_ x1), some (vi_ x2), some (vi_ x3), some (vi_ x4), some (vi_ x5), some (vi_ x6), none] [] s =
  (if x6 < 20 then
    (if x6 < 4 then
      jm 73 [vr_ (some x0), vi_ x1, vi_ x2, vi_ x3, vi_ x4, vi_ x5, vi_ x6] [vi_ x1] s
    else
      (if x6 < 8 then
        jm 73 [vr_ (some x0), vi_ x1, vi_ x2, vi_ x3, vi_ x4, vi_ x5, vi_ x6] [vi_ x2] s
      else
        (if x6 < 12 then
          jm 73 [vr_ (some x0), vi_ x1, vi_ x2, vi_ x3, vi_ x4, vi_ x5, vi_ x6] [vi_ x3] s
        else
          (if x6 < 16 then
            jm 73 [vr_ (some x0), vi_ x1, vi_ x2, vi_ x3, vi_ x4, vi_ x5, vi_ x6] [vi_ x4] s
          else
            jm 73 [vr_ (some x0), vi_ x1, vi_ x2, vi_ x3, vi_ x4, vi_ x5, vi_ x6] [vi_ x5] s))))
  else
    some (.inl (some (vi_ 1)), s)) := by rfl
set_option maxRecDepth 100000 in
theorem cb_X1_feed_73 (x1 x2 x3 x4 x5 x6 y0 : Int32) (x0 : Nat) (s : σ) : cx_B ct_lc gi gr pi pr ai ar wi wr an nw na io dp ct_ft ct_sg 4 [] ct_X1_feed ca jm 1000 (pj_at ct_X1_feed 73) [some (vr_ (some x0)), some (vi_ x1), some (vi_ x2), some (vi_ x3), some (vi_ x4), some (vi_ x5), some (vi_ x6), none] [vi_ y0] s =
  ((gr 38 (some x0) s).bind fun v1 =>
  ((gi 39 (some x0) s).bind fun v2 =>
  ((pj_rem x6 4).bind fun v3 =>
  ((wi 1 v1 v2 ((y0 >>> ((24 - (8 * v3)) &&& 31)) : Int32).toInt8.toInt32 s).bind fun s4 =>
  ((gi 39 (some x0) s4).bind fun v5 =>
  ((pi 39 (some x0) (v5 + 1) s4).bind fun s6 =>
  jm 20 [vr_ (some x0), vi_ x1, vi_ x2, vi_ x3, vi_ x4, vi_ x5, vi_ (x6 + 1)] [] s6)))))) := by rfl
set_option maxRecDepth 100000 in
theorem cb_X1_end (x1 : Int32) (x0 : Nat) (s : σ) : cx_B ct_lc gi gr pi pr ai ar wi wr an nw na io dp ct_ft ct_sg 4 [] ct_X1_end ca jm 1000 ct_X1_end [some (vr_ (some x0)), some (vi_ x1)] [] s =
  (if x1 < 0 then
    some (.inl (some (vi_ 0)), s)
  else
    ((gi 39 (some x0) s).bind fun v1 =>
    (if v1 < x1 then
      some (.inl (some (vi_ 0)), s)
    else
      ((pi 39 (some x0) x1 s).bind fun s2 =>
      some (.inl (some (vi_ 1)), s2))))) := by rfl
set_option maxRecDepth 100000 in
theorem cb_X1_store (x1 : Int32) (x0 : Nat) (s : σ) : cx_B ct_lc gi gr pi pr ai ar wi wr an nw na io dp ct_ft ct_sg 4 [] ct_X1_store ca jm 1000 ct_X1_store [some (vr_ (some x0)), some (vi_ x1)] [] s =
  (if x1 < 4096 then
    some (.inl (some (vi_ 0)), s)
  else
    (if 65536 < x1 then
      some (.inl (some (vi_ 0)), s)
    else
      (cx_bI cx_th (ca 27 [vi_ x1] s) fun v2 s1 =>
      (if v2 = 1 then
        ((pi 53 (some x0) x1 s1).bind fun s3 =>
        some (.inl (some (vi_ 1)), s3))
      else
        some (.inl (some (vi_ 0)), s1))))) := by rfl
set_option maxRecDepth 100000 in
theorem cb_X1_compile (x0 : Nat) (s : σ) : cx_B ct_lc gi gr pi pr ai ar wi wr an nw na io dp ct_ft ct_sg 1 [(83, 127, 130, 8)] ct_X1_compile ca jm 1000 ct_X1_compile [some (vr_ (some x0)), none, none, none, none] [] s =
  ((gi 39 (some x0) s).bind fun v1 =>
  ((pi 39 (some x0) 0 s).bind fun s2 =>
  ((pi 40 (some x0) 0 s2).bind fun s3 =>
  ((pi 51 (some x0) (-1) s3).bind fun s4 =>
  jm 22 [vr_ (some x0), vi_ v1, vi_ 0] [] s4)))) := by rfl
set_option maxRecDepth 100000 in
theorem cb_X1_compile_22 (x1 x2 : Int32) (x0 : Nat) (s : σ) : cx_B ct_lc gi gr pi pr ai ar wi wr an nw na io dp ct_ft ct_sg 1 [(83, 127, 130, 8)] ct_X1_compile ca jm 1000 (pj_at ct_X1_compile 22) [some (vr_ (some x0)), some (vi_ x1), some (vi_ x2), none, none] [] s =
  (if x2 < 1500 then
    ((gr 54 (some x0) s).bind fun v1 =>
    ((wi 0 v1 x2 0 s).bind fun s2 =>
    jm 22 [vr_ (some x0), vi_ x1, vi_ (x2 + 1)] [] s2))
  else
    jm 44 [vr_ (some x0), vi_ x1, vi_ 0] [] s) := by rfl
set_option maxRecDepth 100000 in
theorem cb_X1_compile_44 (x1 x2 : Int32) (x0 : Nat) (s : σ) : cx_B ct_lc gi gr pi pr ai ar wi wr an nw na io dp ct_ft ct_sg 1 [(83, 127, 130, 8)] ct_X1_compile ca jm 1000 (pj_at ct_X1_compile 44) [some (vr_ (some x0)), some (vi_ x1), some (vi_ x2), none, none] [] s =
  (if x2 < 100 then
    ((gr 55 (some x0) s).bind fun v1 =>
    ((wi 0 v1 x2 0 s).bind fun s2 =>
    jm 44 [vr_ (some x0), vi_ x1, vi_ (x2 + 1)] [] s2))
  else
    ((gr 54 (some x0) (nw 15 s).2).bind fun v3 =>
    ((gr 55 (some x0) (nw 15 s).2).bind fun v4 =>
    ((gr 56 (some x0) (nw 15 s).2).bind fun v5 =>
    (cx_bV cx_th (ca 368 [vr_ (some (nw 15 s).1), vr_ v3, vr_ v4, vr_ v5] (nw 15 s).2) fun s6 =>
    ((gr 38 (some x0) (nw 4 s6).2).bind fun v7 =>
    (cx_bV (fun e8 s9 => (io 8 (some e8) s9).bind fun b10 => cx_ib b10 (jm 130 [vr_ (some x0)] [vr_ (some e8)] s9) (some (.inr e8, s9))) (ca 250 [vr_ (some (nw 4 s6).1), vr_ v7, vi_ x1] (nw 4 s6).2) fun s11 =>
    ((dp 251 (some (nw 4 s6).1) s11).bind fun m15 =>
    (cx_bV (fun e12 s13 => (io 8 (some e12) s13).bind fun b14 => cx_ib b14 (jm 130 [vr_ (some x0)] [vr_ (some e12)] s13) (some (.inr e12, s13))) (ca m15 [vr_ (some (nw 4 s6).1)] s11) fun s16 =>
    ((gr 82 (some (nw 4 s6).1) (nw 10 s16).2).bind fun v17 =>
    (cx_bV (fun e18 s19 => (io 8 (some e18) s19).bind fun b20 => cx_ib b20 (jm 130 [vr_ (some x0)] [vr_ (some e18)] s19) (some (.inr e18, s19))) (ca 268 [vr_ (some (nw 10 s16).1), vr_ v17] (nw 10 s16).2) fun s21 =>
    ((dp 269 (some (nw 10 s16).1) s21).bind fun m25 =>
    (cx_bR (fun e22 s23 => (io 8 (some e22) s23).bind fun b24 => cx_ib b24 (jm 130 [vr_ (some x0)] [vr_ (some e22)] s23) (some (.inr e22, s23))) (ca m25 [vr_ (some (nw 10 s16).1)] s21) fun v27 s26 =>
    ((gr 96 (some (nw 10 s16).1) s26).bind fun v28 =>
    ((dp 369 (some (nw 15 s).1) s26).bind fun m32 =>
    (cx_bV (fun e29 s30 => (io 8 (some e29) s30).bind fun b31 => cx_ib b31 (jm 130 [vr_ (some x0)] [vr_ (some e29)] s30) (some (.inr e29, s30))) (ca m32 [vr_ (some (nw 15 s).1), vr_ v27, vr_ v28] s26) fun s33 =>
    ((gi 173 (some (nw 15 s).1) s33).bind fun v34 =>
    (if v34 < 0 then
      ((dp 217 (some x0) s33).bind fun m35 =>
      (cx_bV cx_th (ca m35 [vr_ (some x0), vr_ (some (nw 15 s).1)] s33) fun s36 =>
      ((gi 50 (some x0) s36).bind fun v37 =>
      some (.inl (some (vi_ (100 + v37))), s36))))
    else
      ((gi 174 (some (nw 15 s).1) s33).bind fun v38 =>
      ((pi 40 (some x0) v38 s33).bind fun s39 =>
      ((gi 173 (some (nw 15 s).1) s39).bind fun v40 =>
      some (.inl (some (vi_ ((-1) - v40))), s39)))))))))))))))))))))) := by rfl
set_option maxRecDepth 100000 in
theorem cb_X1_compile_130 (y0 : Option Nat) (x0 : Nat) (s : σ) : cx_B ct_lc gi gr pi pr ai ar wi wr an nw na io dp ct_ft ct_sg 1 [(83, 127, 130, 8)] ct_X1_compile ca jm 1000 (pj_at ct_X1_compile 130) [some (vr_ (some x0)), none, none, none, none] [vr_ y0] s =
  ((gi 92 y0 s).bind fun v1 =>
  ((pi 40 (some x0) v1 s).bind fun s2 =>
  ((gi 91 y0 s2).bind fun v3 =>
  some (.inl (some (vi_ ((-1) - v3))), s2)))) := by rfl
set_option maxRecDepth 100000 in
theorem cb_X1_levelOf (x0 : Option Nat) (s : σ) : cx_B ct_lc gi gr pi pr ai ar wi wr an nw na io dp ct_ft ct_sg 1 [] ct_X1_levelOf ca jm 1000 ct_X1_levelOf [some (vr_ x0), none, none] [] s =
  ((dp 95 x0 s).bind fun m1 =>
  (cx_bI cx_th (ca m1 [vr_ x0] s) fun v3 s2 =>
  (if v3 = Int32.ofInt 38 then
    ((dp 99 x0 s2).bind fun m4 =>
    (cx_bI cx_th (ca m4 [vr_ x0, vr_ (some 1018)] s2) fun v6 s5 =>
    (if v6 = 0 then
      jm 402 [vi_ (-1)] [] s5
    else
      jm 402 [vi_ 3] [] s5)))
  else
  (if v3 = Int32.ofInt 42 then
    ((dp 99 x0 s2).bind fun m7 =>
    (cx_bI cx_th (ca m7 [vr_ x0, vr_ (some 1029)] s2) fun v9 s8 =>
    (if v9 = 0 then
      jm 402 [vi_ (-1)] [] s8
    else
      jm 402 [vi_ 14] [] s8)))
  else
  (if v3 = Int32.ofInt 43 then
    ((dp 99 x0 s2).bind fun m10 =>
    (cx_bI cx_th (ca m10 [vr_ x0, vr_ (some 1027)] s2) fun v12 s11 =>
    (if v12 = 0 then
      jm 402 [vi_ (-1)] [] s11
    else
      jm 402 [vi_ 12] [] s11)))
  else
  (if v3 = Int32.ofInt 45 then
    ((dp 99 x0 s2).bind fun m13 =>
    (cx_bI cx_th (ca m13 [vr_ x0, vr_ (some 1028)] s2) fun v15 s14 =>
    (if v15 = 0 then
      jm 402 [vi_ (-1)] [] s14
    else
      jm 402 [vi_ 13] [] s14)))
  else
  (if v3 = Int32.ofInt 47 then
    ((dp 99 x0 s2).bind fun m16 =>
    (cx_bI cx_th (ca m16 [vr_ x0, vr_ (some 1030)] s2) fun v18 s17 =>
    (if v18 = 0 then
      jm 402 [vi_ (-1)] [] s17
    else
      jm 402 [vi_ 15] [] s17)))
  else
  (if v3 = Int32.ofInt 60 then
    ((dp 99 x0 s2).bind fun m19 =>
    (cx_bI cx_th (ca m19 [vr_ x0, vr_ (some 1023)] s2) fun v21 s20 =>
    (if v21 = 0 then
      jm 402 [vi_ (-1)] [] s20
    else
      jm 402 [vi_ 8] [] s20)))
  else
  (if v3 = Int32.ofInt 61 then
    ((dp 99 x0 s2).bind fun m22 =>
    (cx_bI cx_th (ca m22 [vr_ x0, vr_ (some 1021)] s2) fun v24 s23 =>
    (if v24 = 0 then
      jm 402 [vi_ (-1)] [] s23
    else
      jm 402 [vi_ 6] [] s23)))
  else
  (if v3 = Int32.ofInt 62 then
    ((dp 99 x0 s2).bind fun m25 =>
    (cx_bI cx_th (ca m25 [vr_ x0, vr_ (some 1025)] s2) fun v27 s26 =>
    (if v27 = 0 then
      jm 402 [vi_ (-1)] [] s26
    else
      jm 402 [vi_ 10] [] s26)))
  else
  (if v3 = Int32.ofInt 124 then
    ((dp 99 x0 s2).bind fun m28 =>
    (cx_bI cx_th (ca m28 [vr_ x0, vr_ (some 1017)] s2) fun v30 s29 =>
    (if v30 = 0 then
      jm 402 [vi_ (-1)] [] s29
    else
      jm 402 [vi_ 2] [] s29)))
  else
  (if v3 = Int32.ofInt 1920 then
    ((dp 99 x0 s2).bind fun m31 =>
    (cx_bI cx_th (ca m31 [vr_ x0, vr_ (some 1019)] s2) fun v33 s32 =>
    (if v33 = 0 then
      jm 402 [vi_ (-1)] [] s32
    else
      jm 402 [vi_ 4] [] s32)))
  else
  (if v3 = Int32.ofInt 1921 then
    ((dp 99 x0 s2).bind fun m34 =>
    (cx_bI cx_th (ca m34 [vr_ x0, vr_ (some 1024)] s2) fun v36 s35 =>
    (if v36 = 0 then
      jm 402 [vi_ (-1)] [] s35
    else
      jm 402 [vi_ 9] [] s35)))
  else
  (if v3 = Int32.ofInt 1983 then
    ((dp 99 x0 s2).bind fun m37 =>
    (cx_bI cx_th (ca m37 [vr_ x0, vr_ (some 1026)] s2) fun v39 s38 =>
    (if v39 = 0 then
      jm 402 [vi_ (-1)] [] s38
    else
      jm 402 [vi_ 11] [] s38)))
  else
  (if v3 = Int32.ofInt 1984 then
    ((dp 99 x0 s2).bind fun m40 =>
    (cx_bI cx_th (ca m40 [vr_ x0, vr_ (some 1020)] s2) fun v42 s41 =>
    (if v42 = 0 then
      jm 402 [vi_ (-1)] [] s41
    else
      jm 402 [vi_ 5] [] s41)))
  else
  (if v3 = Int32.ofInt 3967 then
    ((dp 99 x0 s2).bind fun m43 =>
    (cx_bI cx_th (ca m43 [vr_ x0, vr_ (some 1022)] s2) fun v45 s44 =>
    (if v45 = 0 then
      jm 402 [vi_ (-1)] [] s44
    else
      jm 402 [vi_ 7] [] s44)))
  else
  (if v3 = Int32.ofInt 68906 then
    ((dp 99 x0 s2).bind fun m46 =>
    (cx_bI cx_th (ca m46 [vr_ x0, vr_ (some 1015)] s2) fun v48 s47 =>
    (if v48 = 0 then
      jm 402 [vi_ (-1)] [] s47
    else
      jm 402 [vi_ 0] [] s47)))
  else
  (if v3 = Int32.ofInt 81018 then
    ((dp 99 x0 s2).bind fun m49 =>
    (cx_bI cx_th (ca m49 [vr_ x0, vr_ (some 1031)] s2) fun v51 s50 =>
    (if v51 = 0 then
      jm 402 [vi_ (-1)] [] s50
    else
      jm 402 [vi_ 16] [] s50)))
  else
  (if v3 = Int32.ofInt 2392604 then
    ((dp 99 x0 s2).bind fun m52 =>
    (cx_bI cx_th (ca m52 [vr_ x0, vr_ (some 1016)] s2) fun v54 s53 =>
    (if v54 = 0 then
      jm 402 [vi_ (-1)] [] s53
    else
      jm 402 [vi_ 1] [] s53)))
  else
  jm 402 [vi_ (-1)] [] s2))))))))))))))))))) := by rfl
set_option maxRecDepth 100000 in
theorem cb_X1_levelOf_402 (x2 : Int32) (s : σ) : cx_B ct_lc gi gr pi pr ai ar wi wr an nw na io dp ct_ft ct_sg 1 [] ct_X1_levelOf ca jm 1000 (pj_at ct_X1_levelOf 402) [none, none, some (vi_ x2)] [] s =
  (if x2 = Int32.ofInt 0 then
    some (.inl (some (vi_ 0)), s)
  else
  (if x2 = Int32.ofInt 1 then
    some (.inl (some (vi_ 0)), s)
  else
  (if x2 = Int32.ofInt 2 then
    some (.inl (some (vi_ 1)), s)
  else
  (if x2 = Int32.ofInt 3 then
    some (.inl (some (vi_ 2)), s)
  else
  (if x2 = Int32.ofInt 4 then
    some (.inl (some (vi_ 3)), s)
  else
  (if x2 = Int32.ofInt 5 then
    some (.inl (some (vi_ 3)), s)
  else
  (if x2 = Int32.ofInt 6 then
    some (.inl (some (vi_ 4)), s)
  else
  (if x2 = Int32.ofInt 7 then
    some (.inl (some (vi_ 4)), s)
  else
  (if x2 = Int32.ofInt 8 then
    some (.inl (some (vi_ 4)), s)
  else
  (if x2 = Int32.ofInt 9 then
    some (.inl (some (vi_ 4)), s)
  else
  (if x2 = Int32.ofInt 10 then
    some (.inl (some (vi_ 4)), s)
  else
  (if x2 = Int32.ofInt 11 then
    some (.inl (some (vi_ 4)), s)
  else
  (if x2 = Int32.ofInt 12 then
    some (.inl (some (vi_ 5)), s)
  else
  (if x2 = Int32.ofInt 13 then
    some (.inl (some (vi_ 5)), s)
  else
  (if x2 = Int32.ofInt 14 then
    some (.inl (some (vi_ 6)), s)
  else
  (if x2 = Int32.ofInt 15 then
    some (.inl (some (vi_ 6)), s)
  else
  (if x2 = Int32.ofInt 16 then
    some (.inl (some (vi_ 6)), s)
  else
  some (.inl (some (vi_ (-1))), s)))))))))))))))))) := by rfl
set_option maxRecDepth 100000 in
theorem cb_X1_isKeyword (x0 : Option Nat) (s : σ) : cx_B ct_lc gi gr pi pr ai ar wi wr an nw na io dp ct_ft ct_sg 4 [] ct_X1_isKeyword ca jm 1000 ct_X1_isKeyword [some (vr_ x0), none, none] [] s =
  ((dp 95 x0 s).bind fun m1 =>
  (cx_bI cx_th (ca m1 [vr_ x0] s) fun v3 s2 =>
  (if v3 = Int32.ofInt (-1881202277) then
    ((dp 99 x0 s2).bind fun m4 =>
    (cx_bI cx_th (ca m4 [vr_ x0, vr_ (some 1045)] s2) fun v6 s5 =>
    (if v6 = 0 then
      jm 448 [vr_ x0, vi_ (-1)] [] s5
    else
      jm 448 [vr_ x0, vi_ 16] [] s5)))
  else
  (if v3 = Int32.ofInt (-524341629) then
    ((dp 99 x0 s2).bind fun m7 =>
    (cx_bI cx_th (ca m7 [vr_ x0, vr_ (some 1047)] s2) fun v9 s8 =>
    (if v9 = 0 then
      jm 448 [vr_ x0, vi_ (-1)] [] s8
    else
      jm 448 [vr_ x0, vi_ 18] [] s8)))
  else
  (if v3 = Int32.ofInt (-522683818) then
    ((dp 99 x0 s2).bind fun m10 =>
    (cx_bI cx_th (ca m10 [vr_ x0, vr_ (some 1046)] s2) fun v12 s11 =>
    (if v12 = 0 then
      jm 448 [vr_ x0, vi_ (-1)] [] s11
    else
      jm 448 [vr_ x0, vi_ 17] [] s11)))
  else
  (if v3 = Int32.ofInt 2115 then
    ((dp 99 x0 s2).bind fun m13 =>
    (cx_bI cx_th (ca m13 [vr_ x0, vr_ (some 1034)] s2) fun v15 s14 =>
    (if v15 = 0 then
      jm 448 [vr_ x0, vi_ (-1)] [] s14
    else
      jm 448 [vr_ x0, vi_ 5] [] s14)))
  else
  (if v3 = Int32.ofInt 2135 then
    ((dp 99 x0 s2).bind fun m16 =>
    (cx_bI cx_th (ca m16 [vr_ x0, vr_ (some 1043)] s2) fun v18 s17 =>
    (if v18 = 0 then
      jm 448 [vr_ x0, vi_ (-1)] [] s17
    else
      jm 448 [vr_ x0, vi_ 14] [] s17)))
  else
  (if v3 = Int32.ofInt 2187 then
    ((dp 99 x0 s2).bind fun m19 =>
    (cx_bI cx_th (ca m19 [vr_ x0, vr_ (some 1038)] s2) fun v21 s20 =>
    (if v21 = 0 then
      jm 448 [vr_ x0, vi_ (-1)] [] s20
    else
      jm 448 [vr_ x0, vi_ 9] [] s20)))
  else
  (if v3 = Int32.ofInt 2531 then
    ((dp 99 x0 s2).bind fun m22 =>
    (cx_bI cx_th (ca m22 [vr_ x0, vr_ (some 1040)] s2) fun v24 s23 =>
    (if v24 = 0 then
      jm 448 [vr_ x0, vi_ (-1)] [] s23
    else
      jm 448 [vr_ x0, vi_ 11] [] s23)))
  else
  (if v3 = Int32.ofInt 2683 then
    ((dp 99 x0 s2).bind fun m25 =>
    (cx_bI cx_th (ca m25 [vr_ x0, vr_ (some 1042)] s2) fun v27 s26 =>
    (if v27 = 0 then
      jm 448 [vr_ x0, vi_ (-1)] [] s26
    else
      jm 448 [vr_ x0, vi_ 13] [] s26)))
  else
  (if v3 = Int32.ofInt 64951 then
    ((dp 99 x0 s2).bind fun m28 =>
    (cx_bI cx_th (ca m28 [vr_ x0, vr_ (some 1033)] s2) fun v30 s29 =>
    (if v30 = 0 then
      jm 448 [vr_ x0, vi_ (-1)] [] s29
    else
      jm 448 [vr_ x0, vi_ 4] [] s29)))
  else
  (if v3 = Int32.ofInt 68906 then
    ((dp 99 x0 s2).bind fun m31 =>
    (cx_bI cx_th (ca m31 [vr_ x0, vr_ (some 1015)] s2) fun v33 s32 =>
    (if v33 = 0 then
      jm 448 [vr_ x0, vi_ (-1)] [] s32
    else
      jm 448 [vr_ x0, vi_ 1] [] s32)))
  else
  (if v3 = Int32.ofInt 70454 then
    ((dp 99 x0 s2).bind fun m34 =>
    (cx_bI cx_th (ca m34 [vr_ x0, vr_ (some 1036)] s2) fun v36 s35 =>
    (if v36 = 0 then
      jm 448 [vr_ x0, vi_ (-1)] [] s35
    else
      jm 448 [vr_ x0, vi_ 7] [] s35)))
  else
  (if v3 = Int32.ofInt 77491 then
    ((dp 99 x0 s2).bind fun m37 =>
    (cx_bI cx_th (ca m37 [vr_ x0, vr_ (some 1032)] s2) fun v39 s38 =>
    (if v39 = 0 then
      jm 448 [vr_ x0, vi_ (-1)] [] s38
    else
      jm 448 [vr_ x0, vi_ 3] [] s38)))
  else
  (if v3 = Int32.ofInt 81018 then
    ((dp 99 x0 s2).bind fun m40 =>
    (cx_bI cx_th (ca m40 [vr_ x0, vr_ (some 1031)] s2) fun v42 s41 =>
    (if v42 = 0 then
      jm 448 [vr_ x0, vi_ (-1)] [] s41
    else
      jm 448 [vr_ x0, vi_ 0] [] s41)))
  else
  (if v3 = Int32.ofInt 84852 then
    ((dp 99 x0 s2).bind fun m43 =>
    (cx_bI cx_th (ca m43 [vr_ x0, vr_ (some 1035)] s2) fun v45 s44 =>
    (if v45 = 0 then
      jm 448 [vr_ x0, vi_ (-1)] [] s44
    else
      jm 448 [vr_ x0, vi_ 6] [] s44)))
  else
  (if v3 = Int32.ofInt 2131257 then
    ((dp 99 x0 s2).bind fun m46 =>
    (cx_bI cx_th (ca m46 [vr_ x0, vr_ (some 1041)] s2) fun v48 s47 =>
    (if v48 = 0 then
      jm 448 [vr_ x0, vi_ (-1)] [] s47
    else
      jm 448 [vr_ x0, vi_ 12] [] s47)))
  else
  (if v3 = Int32.ofInt 2193763 then
    ((dp 99 x0 s2).bind fun m49 =>
    (cx_bI cx_th (ca m49 [vr_ x0, vr_ (some 1037)] s2) fun v51 s50 =>
    (if v51 = 0 then
      jm 448 [vr_ x0, vi_ (-1)] [] s50
    else
      jm 448 [vr_ x0, vi_ 8] [] s50)))
  else
  (if v3 = Int32.ofInt 2252384 then
    ((dp 99 x0 s2).bind fun m52 =>
    (cx_bI cx_th (ca m52 [vr_ x0, vr_ (some 1044)] s2) fun v54 s53 =>
    (if v54 = 0 then
      jm 448 [vr_ x0, vi_ (-1)] [] s53
    else
      jm 448 [vr_ x0, vi_ 15] [] s53)))
  else
  (if v3 = Int32.ofInt 2392604 then
    ((dp 99 x0 s2).bind fun m55 =>
    (cx_bI cx_th (ca m55 [vr_ x0, vr_ (some 1016)] s2) fun v57 s56 =>
    (if v57 = 0 then
      jm 448 [vr_ x0, vi_ (-1)] [] s56
    else
      jm 448 [vr_ x0, vi_ 2] [] s56)))
  else
  (if v3 = Int32.ofInt 2573853 then
    ((dp 99 x0 s2).bind fun m58 =>
    (cx_bI cx_th (ca m58 [vr_ x0, vr_ (some 1039)] s2) fun v60 s59 =>
    (if v60 = 0 then
      jm 448 [vr_ x0, vi_ (-1)] [] s59
    else
      jm 448 [vr_ x0, vi_ 10] [] s59)))
  else
  jm 448 [vr_ x0, vi_ (-1)] [] s2))))))))))))))))))))) := by rfl
set_option maxRecDepth 100000 in
theorem cb_X1_isKeyword_448 (x2 : Int32) (x0 : Option Nat) (s : σ) : cx_B ct_lc gi gr pi pr ai ar wi wr an nw na io dp ct_ft ct_sg 4 [] ct_X1_isKeyword ca jm 1000 (pj_at ct_X1_isKeyword 448) [some (vr_ x0), none, some (vi_ x2)] [] s =
  (if x2 = Int32.ofInt 0 then
    some (.inl (some (vi_ 1)), s)
  else
  (if x2 = Int32.ofInt 1 then
    some (.inl (some (vi_ 1)), s)
  else
  (if x2 = Int32.ofInt 2 then
    some (.inl (some (vi_ 1)), s)
  else
  (if x2 = Int32.ofInt 3 then
    some (.inl (some (vi_ 1)), s)
  else
  (if x2 = Int32.ofInt 4 then
    some (.inl (some (vi_ 1)), s)
  else
  (if x2 = Int32.ofInt 5 then
    some (.inl (some (vi_ 1)), s)
  else
  (if x2 = Int32.ofInt 6 then
    some (.inl (some (vi_ 1)), s)
  else
  (if x2 = Int32.ofInt 7 then
    some (.inl (some (vi_ 1)), s)
  else
  (if x2 = Int32.ofInt 8 then
    some (.inl (some (vi_ 1)), s)
  else
  (if x2 = Int32.ofInt 9 then
    some (.inl (some (vi_ 1)), s)
  else
  (if x2 = Int32.ofInt 10 then
    some (.inl (some (vi_ 1)), s)
  else
  (if x2 = Int32.ofInt 11 then
    some (.inl (some (vi_ 1)), s)
  else
  (if x2 = Int32.ofInt 12 then
    some (.inl (some (vi_ 1)), s)
  else
  (if x2 = Int32.ofInt 13 then
    some (.inl (some (vi_ 1)), s)
  else
  (if x2 = Int32.ofInt 14 then
    some (.inl (some (vi_ 1)), s)
  else
  (if x2 = Int32.ofInt 15 then
    some (.inl (some (vi_ 1)), s)
  else
  (if x2 = Int32.ofInt 16 then
    some (.inl (some (vi_ 1)), s)
  else
  (if x2 = Int32.ofInt 17 then
    some (.inl (some (vi_ 1)), s)
  else
  (if x2 = Int32.ofInt 18 then
    some (.inl (some (vi_ 1)), s)
  else
  ((dp 88 x0 s).bind fun m1 =>
    (cx_bI cx_th (ca m1 [vr_ x0, vi_ 0] s) fun v3 s2 =>
    (if v3 < 65 then
      some (.inl (some (vi_ 0)), s2)
    else
      ((dp 88 x0 s2).bind fun m4 =>
      (cx_bI cx_th (ca m4 [vr_ x0, vi_ 0] s2) fun v6 s5 =>
      (if 90 < v6 then
        some (.inl (some (vi_ 0)), s5)
      else
        (cx_bI cx_th (ca 210 [vr_ x0] s5) fun v8 s7 =>
        (if v8 = 0 then
          (cx_bI cx_th (ca 211 [vr_ x0] s7) fun v10 s9 =>
          (if v10 = 0 then
            some (.inl (some (vi_ 0)), s9)
          else
            some (.inl (some (vi_ 1)), s9)))
        else
          some (.inl (some (vi_ 1)), s7)))))))))))))))))))))))))))) := by rfl
set_option maxRecDepth 100000 in
theorem cb_X1_begins (x0 : Option Nat) (s : σ) : cx_B ct_lc gi gr pi pr ai ar wi wr an nw na io dp ct_ft ct_sg 4 [] ct_X1_begins ca jm 1000 ct_X1_begins [some (vr_ x0), none, none] [] s =
  ((dp 95 x0 s).bind fun m1 =>
  (cx_bI cx_th (ca m1 [vr_ x0] s) fun v3 s2 =>
  (if v3 = Int32.ofInt (-2032180703) then
    ((dp 99 x0 s2).bind fun m4 =>
    (cx_bI cx_th (ca m4 [vr_ x0, vr_ (some 1064)] s2) fun v6 s5 =>
    (if v6 = 0 then
      jm 655 [vi_ (-1)] [] s5
    else
      jm 655 [vi_ 16] [] s5)))
  else
  (if v3 = Int32.ofInt (-1881067216) then
    ((dp 99 x0 s2).bind fun m7 =>
    (cx_bI cx_th (ca m7 [vr_ x0, vr_ (some 1068)] s2) fun v9 s8 =>
    (if v9 = 0 then
      jm 655 [vi_ (-1)] [] s8
    else
      jm 655 [vi_ 20] [] s8)))
  else
  (if v3 = Int32.ofInt (-1839152530) then
    ((dp 99 x0 s2).bind fun m10 =>
    (cx_bI cx_th (ca m10 [vr_ x0, vr_ (some 1074)] s2) fun v12 s11 =>
    (if v12 = 0 then
      jm 655 [vi_ (-1)] [] s11
    else
      jm 655 [vi_ 27] [] s11)))
  else
  (if v3 = Int32.ofInt (-1787121742) then
    ((dp 99 x0 s2).bind fun m13 =>
    (cx_bI cx_th (ca m13 [vr_ x0, vr_ (some 1057)] s2) fun v15 s14 =>
    (if v15 = 0 then
      jm 655 [vi_ (-1)] [] s14
    else
      jm 655 [vi_ 9] [] s14)))
  else
  (if v3 = Int32.ofInt (-888821141) then
    ((dp 99 x0 s2).bind fun m16 =>
    (cx_bI cx_th (ca m16 [vr_ x0, vr_ (some 1067)] s2) fun v18 s17 =>
    (if v18 = 0 then
      jm 655 [vi_ (-1)] [] s17
    else
      jm 655 [vi_ 19] [] s17)))
  else
  (if v3 = Int32.ofInt 33 then
    ((dp 99 x0 s2).bind fun m19 =>
    (cx_bI cx_th (ca m19 [vr_ x0, vr_ (some 1049)] s2) fun v21 s20 =>
    (if v21 = 0 then
      jm 655 [vi_ (-1)] [] s20
    else
      jm 655 [vi_ 1] [] s20)))
  else
  (if v3 = Int32.ofInt 40 then
    ((dp 99 x0 s2).bind fun m22 =>
    (cx_bI cx_th (ca m22 [vr_ x0, vr_ (some 1048)] s2) fun v24 s23 =>
    (if v24 = 0 then
      jm 655 [vi_ (-1)] [] s23
    else
      jm 655 [vi_ 0] [] s23)))
  else
  (if v3 = Int32.ofInt 64 then
    ((dp 99 x0 s2).bind fun m25 =>
    (cx_bI cx_th (ca m25 [vr_ x0, vr_ (some 1050)] s2) fun v27 s26 =>
    (if v27 = 0 then
      jm 655 [vi_ (-1)] [] s26
    else
      jm 655 [vi_ 2] [] s26)))
  else
  (if v3 = Int32.ofInt 1156 then
    ((dp 99 x0 s2).bind fun m28 =>
    (cx_bI cx_th (ca m28 [vr_ x0, vr_ (some 1051)] s2) fun v30 s29 =>
    (if v30 = 0 then
      jm 655 [vi_ (-1)] [] s29
    else
      jm 655 [vi_ 3] [] s29)))
  else
  (if v3 = Int32.ofInt 2333 then
    ((dp 99 x0 s2).bind fun m31 =>
    (cx_bI cx_th (ca m31 [vr_ x0, vr_ (some 1056)] s2) fun v33 s32 =>
    (if v33 = 0 then
      jm 655 [vi_ (-1)] [] s32
    else
      jm 655 [vi_ 8] [] s32)))
  else
  (if v3 = Int32.ofInt 69801 then
    ((dp 99 x0 s2).bind fun m34 =>
    (cx_bI cx_th (ca m34 [vr_ x0, vr_ (some 1061)] s2) fun v36 s35 =>
    (if v36 = 0 then
      jm 655 [vi_ (-1)] [] s35
    else
      jm 655 [vi_ 13] [] s35)))
  else
  (if v3 = Int32.ofInt 75259 then
    ((dp 99 x0 s2).bind fun m37 =>
    (cx_bI cx_th (ca m37 [vr_ x0, vr_ (some 1071)] s2) fun v39 s38 =>
    (if v39 = 0 then
      jm 655 [vi_ (-1)] [] s38
    else
      jm 655 [vi_ 24] [] s38)))
  else
  (if v3 = Int32.ofInt 2061104 then
    ((dp 99 x0 s2).bind fun m40 =>
    (cx_bI cx_th (ca m40 [vr_ x0, vr_ (some 1063)] s2) fun v42 s41 =>
    (if v42 = 0 then
      jm 655 [vi_ (-1)] [] s41
    else
      jm 655 [vi_ 15] [] s41)))
  else
  (if v3 = Int32.ofInt 2193763 then
    ((dp 99 x0 s2).bind fun m43 =>
    (cx_bI cx_th (ca m43 [vr_ x0, vr_ (some 1037)] s2) fun v45 s44 =>
    (if v45 = 0 then
      jm 655 [vi_ (-1)] [] s44
    else
      jm 655 [vi_ 23] [] s44)))
  else
  (if v3 = Int32.ofInt 2342564 then
    ((dp 99 x0 s2).bind fun m46 =>
    (cx_bI cx_th (ca m46 [vr_ x0, vr_ (some 1066)] s2) fun v48 s47 =>
    (if v48 = 0 then
      jm 655 [vi_ (-1)] [] s47
    else
      jm 655 [vi_ 18] [] s47)))
  else
  (if v3 = Int32.ofInt 2571410 then
    ((dp 99 x0 s2).bind fun m49 =>
    (cx_bI cx_th (ca m49 [vr_ x0, vr_ (some 1058)] s2) fun v51 s50 =>
    (if v51 = 0 then
      jm 655 [vi_ (-1)] [] s50
    else
      jm 655 [vi_ 10] [] s50)))
  else
  (if v3 = Int32.ofInt 2583950 then
    ((dp 99 x0 s2).bind fun m52 =>
    (cx_bI cx_th (ca m52 [vr_ x0, vr_ (some 1052)] s2) fun v54 s53 =>
    (if v54 = 0 then
      jm 655 [vi_ (-1)] [] s53
    else
      jm 655 [vi_ 4] [] s53)))
  else
  (if v3 = Int32.ofInt 63463647 then
    ((dp 99 x0 s2).bind fun m55 =>
    (cx_bI cx_th (ca m55 [vr_ x0, vr_ (some 1065)] s2) fun v57 s56 =>
    (if v57 = 0 then
      jm 655 [vi_ (-1)] [] s56
    else
      jm 655 [vi_ 17] [] s56)))
  else
  (if v3 = Int32.ofInt 66658563 then
    ((dp 99 x0 s2).bind fun m58 =>
    (cx_bI cx_th (ca m58 [vr_ x0, vr_ (some 1053)] s2) fun v60 s59 =>
    (if v60 = 0 then
      jm 655 [vi_ (-1)] [] s59
    else
      jm 655 [vi_ 5] [] s59)))
  else
  (if v3 = Int32.ofInt 79578030 then
    ((dp 99 x0 s2).bind fun m61 =>
    (cx_bI cx_th (ca m61 [vr_ x0, vr_ (some 1055)] s2) fun v63 s62 =>
    (if v63 = 0 then
      jm 655 [vi_ (-1)] [] s62
    else
      jm 655 [vi_ 7] [] s62)))
  else
  (if v3 = Int32.ofInt 80906046 then
    ((dp 99 x0 s2).bind fun m64 =>
    (cx_bI cx_th (ca m64 [vr_ x0, vr_ (some 1060)] s2) fun v66 s65 =>
    (if v66 = 0 then
      jm 655 [vi_ (-1)] [] s65
    else
      jm 655 [vi_ 12] [] s65)))
  else
  (if v3 = Int32.ofInt 81434776 then
    ((dp 99 x0 s2).bind fun m67 =>
    (cx_bI cx_th (ca m67 [vr_ x0, vr_ (some 1054)] s2) fun v69 s68 =>
    (if v69 = 0 then
      jm 655 [vi_ (-1)] [] s68
    else
      jm 655 [vi_ 6] [] s68)))
  else
  (if v3 = Int32.ofInt 82563857 then
    ((dp 99 x0 s2).bind fun m70 =>
    (cx_bI cx_th (ca m70 [vr_ x0, vr_ (some 1059)] s2) fun v72 s71 =>
    (if v72 = 0 then
      jm 655 [vi_ (-1)] [] s71
    else
      jm 655 [vi_ 11] [] s71)))
  else
  (if v3 = Int32.ofInt 446837255 then
    ((dp 99 x0 s2).bind fun m73 =>
    (cx_bI cx_th (ca m73 [vr_ x0, vr_ (some 1069)] s2) fun v75 s74 =>
    (if v75 = 0 then
      jm 655 [vi_ (-1)] [] s74
    else
      jm 655 [vi_ 21] [] s74)))
  else
  (if v3 = Int32.ofInt 697350163 then
    ((dp 99 x0 s2).bind fun m76 =>
    (cx_bI cx_th (ca m76 [vr_ x0, vr_ (some 1062)] s2) fun v78 s77 =>
    (if v78 = 0 then
      jm 655 [vi_ (-1)] [] s77
    else
      jm 655 [vi_ 14] [] s77)))
  else
  (if v3 = Int32.ofInt 913251887 then
    ((dp 99 x0 s2).bind fun m79 =>
    (cx_bI cx_th (ca m79 [vr_ x0, vr_ (some 1073)] s2) fun v81 s80 =>
    (if v81 = 0 then
      jm 655 [vi_ (-1)] [] s80
    else
      jm 655 [vi_ 26] [] s80)))
  else
  (if v3 = Int32.ofInt 2073854099 then
    ((dp 99 x0 s2).bind fun m82 =>
    (cx_bI cx_th (ca m82 [vr_ x0, vr_ (some 1070)] s2) fun v84 s83 =>
    (if v84 = 0 then
      jm 655 [vi_ (-1)] [] s83
    else
      jm 655 [vi_ 22] [] s83)))
  else
  (if v3 = Int32.ofInt 2105276323 then
    ((dp 99 x0 s2).bind fun m85 =>
    (cx_bI cx_th (ca m85 [vr_ x0, vr_ (some 1072)] s2) fun v87 s86 =>
    (if v87 = 0 then
      jm 655 [vi_ (-1)] [] s86
    else
      jm 655 [vi_ 25] [] s86)))
  else
  jm 655 [vi_ (-1)] [] s2)))))))))))))))))))))))))))))) := by rfl
set_option maxRecDepth 100000 in
theorem cb_X1_begins_655 (x2 : Int32) (s : σ) : cx_B ct_lc gi gr pi pr ai ar wi wr an nw na io dp ct_ft ct_sg 4 [] ct_X1_begins ca jm 1000 (pj_at ct_X1_begins 655) [none, none, some (vi_ x2)] [] s =
  (if x2 = Int32.ofInt 0 then
    some (.inl (some (vi_ 1)), s)
  else
  (if x2 = Int32.ofInt 1 then
    some (.inl (some (vi_ 1)), s)
  else
  (if x2 = Int32.ofInt 2 then
    some (.inl (some (vi_ 1)), s)
  else
  (if x2 = Int32.ofInt 3 then
    some (.inl (some (vi_ 1)), s)
  else
  (if x2 = Int32.ofInt 4 then
    some (.inl (some (vi_ 1)), s)
  else
  (if x2 = Int32.ofInt 5 then
    some (.inl (some (vi_ 1)), s)
  else
  (if x2 = Int32.ofInt 6 then
    some (.inl (some (vi_ 1)), s)
  else
  (if x2 = Int32.ofInt 7 then
    some (.inl (some (vi_ 1)), s)
  else
  (if x2 = Int32.ofInt 8 then
    some (.inl (some (vi_ 1)), s)
  else
  (if x2 = Int32.ofInt 9 then
    some (.inl (some (vi_ 1)), s)
  else
  (if x2 = Int32.ofInt 10 then
    some (.inl (some (vi_ 1)), s)
  else
  (if x2 = Int32.ofInt 11 then
    some (.inl (some (vi_ 1)), s)
  else
  (if x2 = Int32.ofInt 12 then
    some (.inl (some (vi_ 1)), s)
  else
  (if x2 = Int32.ofInt 13 then
    some (.inl (some (vi_ 1)), s)
  else
  (if x2 = Int32.ofInt 14 then
    some (.inl (some (vi_ 1)), s)
  else
  (if x2 = Int32.ofInt 15 then
    some (.inl (some (vi_ 1)), s)
  else
  (if x2 = Int32.ofInt 16 then
    some (.inl (some (vi_ 1)), s)
  else
  (if x2 = Int32.ofInt 17 then
    some (.inl (some (vi_ 1)), s)
  else
  (if x2 = Int32.ofInt 18 then
    some (.inl (some (vi_ 1)), s)
  else
  (if x2 = Int32.ofInt 19 then
    some (.inl (some (vi_ 1)), s)
  else
  (if x2 = Int32.ofInt 20 then
    some (.inl (some (vi_ 1)), s)
  else
  (if x2 = Int32.ofInt 21 then
    some (.inl (some (vi_ 1)), s)
  else
  (if x2 = Int32.ofInt 22 then
    some (.inl (some (vi_ 1)), s)
  else
  (if x2 = Int32.ofInt 23 then
    some (.inl (some (vi_ 1)), s)
  else
  (if x2 = Int32.ofInt 24 then
    some (.inl (some (vi_ 1)), s)
  else
  (if x2 = Int32.ofInt 25 then
    some (.inl (some (vi_ 1)), s)
  else
  (if x2 = Int32.ofInt 26 then
    some (.inl (some (vi_ 1)), s)
  else
  (if x2 = Int32.ofInt 27 then
    some (.inl (some (vi_ 1)), s)
  else
  some (.inl (some (vi_ 0)), s))))))))))))))))))))))))))))) := by rfl
set_option maxRecDepth 100000 in
theorem cb_X1_ends (x0 : Option Nat) (s : σ) : cx_B ct_lc gi gr pi pr ai ar wi wr an nw na io dp ct_ft ct_sg 4 [] ct_X1_ends ca jm 1000 ct_X1_ends [some (vr_ x0), none, none] [] s =
  ((dp 95 x0 s).bind fun m1 =>
  (cx_bI cx_th (ca m1 [vr_ x0] s) fun v3 s2 =>
  (if v3 = Int32.ofInt (-1881067216) then
    ((dp 99 x0 s2).bind fun m4 =>
    (cx_bI cx_th (ca m4 [vr_ x0, vr_ (some 1068)] s2) fun v6 s5 =>
    (if v6 = 0 then
      jm 218 [vi_ (-1)] [] s5
    else
      jm 218 [vi_ 7] [] s5)))
  else
  (if v3 = Int32.ofInt (-888821141) then
    ((dp 99 x0 s2).bind fun m7 =>
    (cx_bI cx_th (ca m7 [vr_ x0, vr_ (some 1067)] s2) fun v9 s8 =>
    (if v9 = 0 then
      jm 218 [vi_ (-1)] [] s8
    else
      jm 218 [vi_ 6] [] s8)))
  else
  (if v3 = Int32.ofInt 41 then
    ((dp 99 x0 s2).bind fun m10 =>
    (cx_bI cx_th (ca m10 [vr_ x0, vr_ (some 1076)] s2) fun v12 s11 =>
    (if v12 = 0 then
      jm 218 [vi_ (-1)] [] s11
    else
      jm 218 [vi_ 1] [] s11)))
  else
  (if v3 = Int32.ofInt 1157 then
    ((dp 99 x0 s2).bind fun m13 =>
    (cx_bI cx_th (ca m13 [vr_ x0, vr_ (some 1075)] s2) fun v15 s14 =>
    (if v15 = 0 then
      jm 218 [vi_ (-1)] [] s14
    else
      jm 218 [vi_ 0] [] s14)))
  else
  (if v3 = Int32.ofInt 2342564 then
    ((dp 99 x0 s2).bind fun m16 =>
    (cx_bI cx_th (ca m16 [vr_ x0, vr_ (some 1066)] s2) fun v18 s17 =>
    (if v18 = 0 then
      jm 218 [vi_ (-1)] [] s17
    else
      jm 218 [vi_ 5] [] s17)))
  else
  (if v3 = Int32.ofInt 2583950 then
    ((dp 99 x0 s2).bind fun m19 =>
    (cx_bI cx_th (ca m19 [vr_ x0, vr_ (some 1052)] s2) fun v21 s20 =>
    (if v21 = 0 then
      jm 218 [vi_ (-1)] [] s20
    else
      jm 218 [vi_ 2] [] s20)))
  else
  (if v3 = Int32.ofInt 63463647 then
    ((dp 99 x0 s2).bind fun m22 =>
    (cx_bI cx_th (ca m22 [vr_ x0, vr_ (some 1065)] s2) fun v24 s23 =>
    (if v24 = 0 then
      jm 218 [vi_ (-1)] [] s23
    else
      jm 218 [vi_ 4] [] s23)))
  else
  (if v3 = Int32.ofInt 66658563 then
    ((dp 99 x0 s2).bind fun m25 =>
    (cx_bI cx_th (ca m25 [vr_ x0, vr_ (some 1053)] s2) fun v27 s26 =>
    (if v27 = 0 then
      jm 218 [vi_ (-1)] [] s26
    else
      jm 218 [vi_ 3] [] s26)))
  else
  (if v3 = Int32.ofInt 2073854099 then
    ((dp 99 x0 s2).bind fun m28 =>
    (cx_bI cx_th (ca m28 [vr_ x0, vr_ (some 1070)] s2) fun v30 s29 =>
    (if v30 = 0 then
      jm 218 [vi_ (-1)] [] s29
    else
      jm 218 [vi_ 8] [] s29)))
  else
  jm 218 [vi_ (-1)] [] s2))))))))))) := by rfl
set_option maxRecDepth 100000 in
theorem cb_X1_ends_218 (x2 : Int32) (s : σ) : cx_B ct_lc gi gr pi pr ai ar wi wr an nw na io dp ct_ft ct_sg 4 [] ct_X1_ends ca jm 1000 (pj_at ct_X1_ends 218) [none, none, some (vi_ x2)] [] s =
  (if x2 = Int32.ofInt 0 then
    some (.inl (some (vi_ 1)), s)
  else
  (if x2 = Int32.ofInt 1 then
    some (.inl (some (vi_ 1)), s)
  else
  (if x2 = Int32.ofInt 2 then
    some (.inl (some (vi_ 1)), s)
  else
  (if x2 = Int32.ofInt 3 then
    some (.inl (some (vi_ 1)), s)
  else
  (if x2 = Int32.ofInt 4 then
    some (.inl (some (vi_ 1)), s)
  else
  (if x2 = Int32.ofInt 5 then
    some (.inl (some (vi_ 1)), s)
  else
  (if x2 = Int32.ofInt 6 then
    some (.inl (some (vi_ 1)), s)
  else
  (if x2 = Int32.ofInt 7 then
    some (.inl (some (vi_ 1)), s)
  else
  (if x2 = Int32.ofInt 8 then
    some (.inl (some (vi_ 1)), s)
  else
  some (.inl (some (vi_ 0)), s)))))))))) := by rfl
set_option maxRecDepth 100000 in
theorem cb_X1_operatorOf (x0 : Option Nat) (s : σ) : cx_B ct_lc gi gr pi pr ai ar wi wr an nw na io dp ct_ft ct_sg 1 [] ct_X1_operatorOf ca jm 1000 ct_X1_operatorOf [some (vr_ x0), none, none] [] s =
  ((dp 95 x0 s).bind fun m1 =>
  (cx_bI cx_th (ca m1 [vr_ x0] s) fun v3 s2 =>
  (if v3 = Int32.ofInt 38 then
    ((dp 99 x0 s2).bind fun m4 =>
    (cx_bI cx_th (ca m4 [vr_ x0, vr_ (some 1018)] s2) fun v6 s5 =>
    (if v6 = 0 then
      jm 241 [vi_ (-1)] [] s5
    else
      jm 241 [vi_ 5] [] s5)))
  else
  (if v3 = Int32.ofInt 42 then
    ((dp 99 x0 s2).bind fun m7 =>
    (cx_bI cx_th (ca m7 [vr_ x0, vr_ (some 1029)] s2) fun v9 s8 =>
    (if v9 = 0 then
      jm 241 [vi_ (-1)] [] s8
    else
      jm 241 [vi_ 2] [] s8)))
  else
  (if v3 = Int32.ofInt 43 then
    ((dp 99 x0 s2).bind fun m10 =>
    (cx_bI cx_th (ca m10 [vr_ x0, vr_ (some 1027)] s2) fun v12 s11 =>
    (if v12 = 0 then
      jm 241 [vi_ (-1)] [] s11
    else
      jm 241 [vi_ 0] [] s11)))
  else
  (if v3 = Int32.ofInt 45 then
    ((dp 99 x0 s2).bind fun m13 =>
    (cx_bI cx_th (ca m13 [vr_ x0, vr_ (some 1028)] s2) fun v15 s14 =>
    (if v15 = 0 then
      jm 241 [vi_ (-1)] [] s14
    else
      jm 241 [vi_ 1] [] s14)))
  else
  (if v3 = Int32.ofInt 47 then
    ((dp 99 x0 s2).bind fun m16 =>
    (cx_bI cx_th (ca m16 [vr_ x0, vr_ (some 1030)] s2) fun v18 s17 =>
    (if v18 = 0 then
      jm 241 [vi_ (-1)] [] s17
    else
      jm 241 [vi_ 3] [] s17)))
  else
  (if v3 = Int32.ofInt 124 then
    ((dp 99 x0 s2).bind fun m19 =>
    (cx_bI cx_th (ca m19 [vr_ x0, vr_ (some 1017)] s2) fun v21 s20 =>
    (if v21 = 0 then
      jm 241 [vi_ (-1)] [] s20
    else
      jm 241 [vi_ 6] [] s20)))
  else
  (if v3 = Int32.ofInt 1920 then
    ((dp 99 x0 s2).bind fun m22 =>
    (cx_bI cx_th (ca m22 [vr_ x0, vr_ (some 1019)] s2) fun v24 s23 =>
    (if v24 = 0 then
      jm 241 [vi_ (-1)] [] s23
    else
      jm 241 [vi_ 9] [] s23)))
  else
  (if v3 = Int32.ofInt 68906 then
    ((dp 99 x0 s2).bind fun m25 =>
    (cx_bI cx_th (ca m25 [vr_ x0, vr_ (some 1015)] s2) fun v27 s26 =>
    (if v27 = 0 then
      jm 241 [vi_ (-1)] [] s26
    else
      jm 241 [vi_ 7] [] s26)))
  else
  (if v3 = Int32.ofInt 81018 then
    ((dp 99 x0 s2).bind fun m28 =>
    (cx_bI cx_th (ca m28 [vr_ x0, vr_ (some 1031)] s2) fun v30 s29 =>
    (if v30 = 0 then
      jm 241 [vi_ (-1)] [] s29
    else
      jm 241 [vi_ 4] [] s29)))
  else
  (if v3 = Int32.ofInt 2392604 then
    ((dp 99 x0 s2).bind fun m31 =>
    (cx_bI cx_th (ca m31 [vr_ x0, vr_ (some 1016)] s2) fun v33 s32 =>
    (if v33 = 0 then
      jm 241 [vi_ (-1)] [] s32
    else
      jm 241 [vi_ 8] [] s32)))
  else
  jm 241 [vi_ (-1)] [] s2)))))))))))) := by rfl
set_option maxRecDepth 100000 in
theorem cb_X1_operatorOf_241 (x2 : Int32) (s : σ) : cx_B ct_lc gi gr pi pr ai ar wi wr an nw na io dp ct_ft ct_sg 1 [] ct_X1_operatorOf ca jm 1000 (pj_at ct_X1_operatorOf 241) [none, none, some (vi_ x2)] [] s =
  (if x2 = Int32.ofInt 0 then
    some (.inl (some (vi_ 0)), s)
  else
  (if x2 = Int32.ofInt 1 then
    some (.inl (some (vi_ 1)), s)
  else
  (if x2 = Int32.ofInt 2 then
    some (.inl (some (vi_ 2)), s)
  else
  (if x2 = Int32.ofInt 3 then
    some (.inl (some (vi_ 3)), s)
  else
  (if x2 = Int32.ofInt 4 then
    some (.inl (some (vi_ 4)), s)
  else
  (if x2 = Int32.ofInt 5 then
    some (.inl (some (vi_ 5)), s)
  else
  (if x2 = Int32.ofInt 6 then
    some (.inl (some (vi_ 6)), s)
  else
  (if x2 = Int32.ofInt 7 then
    some (.inl (some (vi_ 7)), s)
  else
  (if x2 = Int32.ofInt 8 then
    some (.inl (some (vi_ 8)), s)
  else
  (if x2 = Int32.ofInt 9 then
    some (.inl (some (vi_ 9)), s)
  else
  some (.inl (some (vi_ 10)), s))))))))))) := by rfl
set_option maxRecDepth 100000 in
theorem cb_X1_relationOf (x0 : Option Nat) (s : σ) : cx_B ct_lc gi gr pi pr ai ar wi wr an nw na io dp ct_ft ct_sg 1 [] ct_X1_relationOf ca jm 1000 ct_X1_relationOf [some (vr_ x0), none, none] [] s =
  ((dp 95 x0 s).bind fun m1 =>
  (cx_bI cx_th (ca m1 [vr_ x0] s) fun v3 s2 =>
  (if v3 = Int32.ofInt 60 then
    ((dp 99 x0 s2).bind fun m4 =>
    (cx_bI cx_th (ca m4 [vr_ x0, vr_ (some 1023)] s2) fun v6 s5 =>
    (if v6 = 0 then
      (if (-1) = Int32.ofInt 0 then
        some (.inl (some (vi_ 0)), s5)
      else
      (if (-1) = Int32.ofInt 1 then
        some (.inl (some (vi_ 1)), s5)
      else
      (if (-1) = Int32.ofInt 2 then
        some (.inl (some (vi_ 2)), s5)
      else
      (if (-1) = Int32.ofInt 3 then
        some (.inl (some (vi_ 3)), s5)
      else
      (if (-1) = Int32.ofInt 4 then
        some (.inl (some (vi_ 4)), s5)
      else
      some (.inl (some (vi_ 5)), s5))))))
    else
      (if 2 = Int32.ofInt 0 then
        some (.inl (some (vi_ 0)), s5)
      else
      (if 2 = Int32.ofInt 1 then
        some (.inl (some (vi_ 1)), s5)
      else
      (if 2 = Int32.ofInt 2 then
        some (.inl (some (vi_ 2)), s5)
      else
      (if 2 = Int32.ofInt 3 then
        some (.inl (some (vi_ 3)), s5)
      else
      (if 2 = Int32.ofInt 4 then
        some (.inl (some (vi_ 4)), s5)
      else
      some (.inl (some (vi_ 5)), s5)))))))))
  else
  (if v3 = Int32.ofInt 61 then
    ((dp 99 x0 s2).bind fun m7 =>
    (cx_bI cx_th (ca m7 [vr_ x0, vr_ (some 1021)] s2) fun v9 s8 =>
    (if v9 = 0 then
      (if (-1) = Int32.ofInt 0 then
        some (.inl (some (vi_ 0)), s8)
      else
      (if (-1) = Int32.ofInt 1 then
        some (.inl (some (vi_ 1)), s8)
      else
      (if (-1) = Int32.ofInt 2 then
        some (.inl (some (vi_ 2)), s8)
      else
      (if (-1) = Int32.ofInt 3 then
        some (.inl (some (vi_ 3)), s8)
      else
      (if (-1) = Int32.ofInt 4 then
        some (.inl (some (vi_ 4)), s8)
      else
      some (.inl (some (vi_ 5)), s8))))))
    else
      (if 0 = Int32.ofInt 0 then
        some (.inl (some (vi_ 0)), s8)
      else
      (if 0 = Int32.ofInt 1 then
        some (.inl (some (vi_ 1)), s8)
      else
      (if 0 = Int32.ofInt 2 then
        some (.inl (some (vi_ 2)), s8)
      else
      (if 0 = Int32.ofInt 3 then
        some (.inl (some (vi_ 3)), s8)
      else
      (if 0 = Int32.ofInt 4 then
        some (.inl (some (vi_ 4)), s8)
      else
      some (.inl (some (vi_ 5)), s8)))))))))
  else
  (if v3 = Int32.ofInt 62 then
    ((dp 99 x0 s2).bind fun m10 =>
    (cx_bI cx_th (ca m10 [vr_ x0, vr_ (some 1025)] s2) fun v12 s11 =>
    (if v12 = 0 then
      (if (-1) = Int32.ofInt 0 then
        some (.inl (some (vi_ 0)), s11)
      else
      (if (-1) = Int32.ofInt 1 then
        some (.inl (some (vi_ 1)), s11)
      else
      (if (-1) = Int32.ofInt 2 then
        some (.inl (some (vi_ 2)), s11)
      else
      (if (-1) = Int32.ofInt 3 then
        some (.inl (some (vi_ 3)), s11)
      else
      (if (-1) = Int32.ofInt 4 then
        some (.inl (some (vi_ 4)), s11)
      else
      some (.inl (some (vi_ 5)), s11))))))
    else
      (if 4 = Int32.ofInt 0 then
        some (.inl (some (vi_ 0)), s11)
      else
      (if 4 = Int32.ofInt 1 then
        some (.inl (some (vi_ 1)), s11)
      else
      (if 4 = Int32.ofInt 2 then
        some (.inl (some (vi_ 2)), s11)
      else
      (if 4 = Int32.ofInt 3 then
        some (.inl (some (vi_ 3)), s11)
      else
      (if 4 = Int32.ofInt 4 then
        some (.inl (some (vi_ 4)), s11)
      else
      some (.inl (some (vi_ 5)), s11)))))))))
  else
  (if v3 = Int32.ofInt 1921 then
    ((dp 99 x0 s2).bind fun m13 =>
    (cx_bI cx_th (ca m13 [vr_ x0, vr_ (some 1024)] s2) fun v15 s14 =>
    (if v15 = 0 then
      (if (-1) = Int32.ofInt 0 then
        some (.inl (some (vi_ 0)), s14)
      else
      (if (-1) = Int32.ofInt 1 then
        some (.inl (some (vi_ 1)), s14)
      else
      (if (-1) = Int32.ofInt 2 then
        some (.inl (some (vi_ 2)), s14)
      else
      (if (-1) = Int32.ofInt 3 then
        some (.inl (some (vi_ 3)), s14)
      else
      (if (-1) = Int32.ofInt 4 then
        some (.inl (some (vi_ 4)), s14)
      else
      some (.inl (some (vi_ 5)), s14))))))
    else
      (if 3 = Int32.ofInt 0 then
        some (.inl (some (vi_ 0)), s14)
      else
      (if 3 = Int32.ofInt 1 then
        some (.inl (some (vi_ 1)), s14)
      else
      (if 3 = Int32.ofInt 2 then
        some (.inl (some (vi_ 2)), s14)
      else
      (if 3 = Int32.ofInt 3 then
        some (.inl (some (vi_ 3)), s14)
      else
      (if 3 = Int32.ofInt 4 then
        some (.inl (some (vi_ 4)), s14)
      else
      some (.inl (some (vi_ 5)), s14)))))))))
  else
  (if v3 = Int32.ofInt 3967 then
    ((dp 99 x0 s2).bind fun m16 =>
    (cx_bI cx_th (ca m16 [vr_ x0, vr_ (some 1022)] s2) fun v18 s17 =>
    (if v18 = 0 then
      (if (-1) = Int32.ofInt 0 then
        some (.inl (some (vi_ 0)), s17)
      else
      (if (-1) = Int32.ofInt 1 then
        some (.inl (some (vi_ 1)), s17)
      else
      (if (-1) = Int32.ofInt 2 then
        some (.inl (some (vi_ 2)), s17)
      else
      (if (-1) = Int32.ofInt 3 then
        some (.inl (some (vi_ 3)), s17)
      else
      (if (-1) = Int32.ofInt 4 then
        some (.inl (some (vi_ 4)), s17)
      else
      some (.inl (some (vi_ 5)), s17))))))
    else
      (if 1 = Int32.ofInt 0 then
        some (.inl (some (vi_ 0)), s17)
      else
      (if 1 = Int32.ofInt 1 then
        some (.inl (some (vi_ 1)), s17)
      else
      (if 1 = Int32.ofInt 2 then
        some (.inl (some (vi_ 2)), s17)
      else
      (if 1 = Int32.ofInt 3 then
        some (.inl (some (vi_ 3)), s17)
      else
      (if 1 = Int32.ofInt 4 then
        some (.inl (some (vi_ 4)), s17)
      else
      some (.inl (some (vi_ 5)), s17)))))))))
  else
  (if (-1) = Int32.ofInt 0 then
      some (.inl (some (vi_ 0)), s2)
    else
    (if (-1) = Int32.ofInt 1 then
      some (.inl (some (vi_ 1)), s2)
    else
    (if (-1) = Int32.ofInt 2 then
      some (.inl (some (vi_ 2)), s2)
    else
    (if (-1) = Int32.ofInt 3 then
      some (.inl (some (vi_ 3)), s2)
    else
    (if (-1) = Int32.ofInt 4 then
      some (.inl (some (vi_ 4)), s2)
    else
    some (.inl (some (vi_ 5)), s2))))))))))))) := by rfl
set_option maxRecDepth 100000 in
theorem cb_X1_holds (x0 x1 x2 : Int32) (s : σ) : cx_B ct_lc gi gr pi pr ai ar wi wr an nw na io dp ct_ft ct_sg 4 [] ct_X1_holds ca jm 1000 ct_X1_holds [some (vi_ x0), some (vi_ x1), some (vi_ x2)] [] s =
  (if x0 = Int32.ofInt 0 then
    (if x1 = x2 then
      some (.inl (some (vi_ 1)), s)
    else
      some (.inl (some (vi_ 0)), s))
  else
  (if x0 = Int32.ofInt 1 then
    (if x1 = x2 then
      some (.inl (some (vi_ 0)), s)
    else
      some (.inl (some (vi_ 1)), s))
  else
  (if x0 = Int32.ofInt 2 then
    (if x1 < x2 then
      some (.inl (some (vi_ 1)), s)
    else
      some (.inl (some (vi_ 0)), s))
  else
  (if x0 = Int32.ofInt 3 then
    (if x2 < x1 then
      some (.inl (some (vi_ 0)), s)
    else
      some (.inl (some (vi_ 1)), s))
  else
  (if x0 = Int32.ofInt 4 then
    (if x2 < x1 then
      some (.inl (some (vi_ 1)), s)
    else
      some (.inl (some (vi_ 0)), s))
  else
  (if x1 < x2 then
      some (.inl (some (vi_ 0)), s)
    else
      some (.inl (some (vi_ 1)), s))))))) := by rfl
set_option maxRecDepth 100000 in
theorem cb_X1_operated (x0 x1 x2 : Int32) (s : σ) : cx_B ct_lc gi gr pi pr ai ar wi wr an nw na io dp ct_ft ct_sg 1 [] ct_X1_operated ca jm 1000 ct_X1_operated [some (vi_ x0), some (vi_ x1), some (vi_ x2)] [] s =
  (if x0 = Int32.ofInt 0 then
    some (.inl (some (vi_ (x1 + x2))), s)
  else
  (if x0 = Int32.ofInt 1 then
    some (.inl (some (vi_ (x1 - x2))), s)
  else
  (if x0 = Int32.ofInt 2 then
    some (.inl (some (vi_ (x1 * x2))), s)
  else
  (if x0 = Int32.ofInt 3 then
    ((pj_div x1 x2).bind fun v1 =>
    some (.inl (some (vi_ v1)), s))
  else
  (if x0 = Int32.ofInt 4 then
    ((pj_rem x1 x2).bind fun v2 =>
    some (.inl (some (vi_ v2)), s))
  else
  (if x0 = Int32.ofInt 5 then
    some (.inl (some (vi_ (x1 &&& x2))), s)
  else
  (if x0 = Int32.ofInt 6 then
    some (.inl (some (vi_ (x1 ||| x2))), s)
  else
  (if x0 = Int32.ofInt 7 then
    some (.inl (some (vi_ ((x1 ^^^ x2) ^^^ (-1)))), s)
  else
  (if x0 = Int32.ofInt 8 then
    some (.inl (some (vi_ (x1 ^^^ x2))), s)
  else
  (if x0 = 9 then
      (cx_bI cx_th (ca 216 [vi_ x1, vi_ x2, vi_ 1] s) fun v4 s3 =>
      some (.inl (some (vi_ v4)), s3))
    else
      (cx_bI cx_th (ca 216 [vi_ x1, vi_ x2, vi_ 0] s) fun v6 s5 =>
      some (.inl (some (vi_ v6)), s5)))))))))))) := by rfl
set_option maxRecDepth 100000 in
theorem cb_X1_shifted (x0 x1 x2 : Int32) (s : σ) : cx_B ct_lc gi gr pi pr ai ar wi wr an nw na io dp ct_ft ct_sg 1 [] ct_X1_shifted ca jm 1000 ct_X1_shifted [some (vi_ x0), some (vi_ x1), some (vi_ x2)] [] s =
  (if x1 < 0 then
    some (.inl (some (vi_ 0)), s)
  else
    (if 31 < x1 then
      some (.inl (some (vi_ 0)), s)
    else
      (if x2 = 0 then
        some (.inl (some (vi_ ((x0 : Int32).toUInt32 >>> ((x1 : Int32).toUInt32 &&& Int32.toUInt32 31)).toInt32)), s)
      else
        some (.inl (some (vi_ (x0 <<< (x1 &&& 31)))), s)))) := by rfl
set_option maxRecDepth 100000 in
theorem cb_X1_lays (x1 : Option Nat) (x0 : Nat) (s : σ) : cx_B ct_lc gi gr pi pr ai ar wi wr an nw na io dp ct_ft ct_sg 0 [] ct_X1_lays ca jm 1000 ct_X1_lays [some (vr_ (some x0)), some (vr_ x1), none, none] [] s =
  ((gr 170 x1 s).bind fun v1 =>
  ((dp 78 v1 s).bind fun m2 =>
  (cx_bI cx_th (ca m2 [vr_ v1] s) fun v4 s3 =>
  ((pi 49 (some x0) v4 s3).bind fun s5 =>
  ((gr 41 (some x0) s5).bind fun v6 =>
  ((pi 122 v6 0 s5).bind fun s7 =>
  jm 23 [vr_ (some x0), vr_ x1, vi_ 0] [] s7)))))) := by rfl
set_option maxRecDepth 100000 in
theorem cb_X1_lays_23 (x2 : Int32) (x1 : Option Nat) (x0 : Nat) (s : σ) : cx_B ct_lc gi gr pi pr ai ar wi wr an nw na io dp ct_ft ct_sg 0 [] ct_X1_lays ca jm 1000 (pj_at ct_X1_lays 23) [some (vr_ (some x0)), some (vr_ x1), some (vi_ x2), none] [] s =
  ((gi 49 (some x0) s).bind fun v1 =>
  (if x2 < v1 then
    ((gr 170 x1 s).bind fun v2 =>
    ((dp 79 v2 s).bind fun m3 =>
    (cx_bR cx_th (ca m3 [vr_ v2, vi_ x2] s) fun v5 s4 =>
    ((cx_cst io 11 v5 s4).bind fun _ =>
    ((gr 43 (some x0) s4).bind fun v6 =>
    ((dp 353 v6 s4).bind fun m7 =>
    (cx_bV cx_th (ca m7 [vr_ v6, vr_ v5] s4) fun s8 =>
    ((gr 48 (some x0) s8).bind fun v9 =>
    ((gr 42 (some x0) s8).bind fun v10 =>
    ((dp 323 v10 s8).bind fun m11 =>
    (cx_bI cx_th (ca m11 [vr_ v10, vr_ v5] s8) fun v13 s12 =>
    ((wi 0 v9 x2 v13 s12).bind fun s14 =>
    ((gr 45 (some x0) s14).bind fun v15 =>
    ((gr 41 (some x0) s14).bind fun v16 =>
    ((gr 42 (some x0) s14).bind fun v17 =>
    ((gr 128 v17 s14).bind fun v18 =>
    ((dp 318 v16 s14).bind fun m19 =>
    (cx_bI cx_th (ca m19 [vr_ v16, vr_ v18] s14) fun v21 s20 =>
    ((wi 0 v15 x2 v21 s20).bind fun s22 =>
    ((gr 46 (some x0) s22).bind fun v23 =>
    ((gi 116 v5 s22).bind fun v24 =>
    ((wi 0 v23 x2 v24 s22).bind fun s25 =>
    ((gr 47 (some x0) s25).bind fun v26 =>
    ((gi 118 v5 s25).bind fun v27 =>
    ((wi 0 v26 x2 v27 s25).bind fun s28 =>
    jm 23 [vr_ (some x0), vr_ x1, vi_ (x2 + 1)] [] s28)))))))))))))))))))))))))
  else
    ((gr 41 (some x0) s).bind fun v29 =>
    ((gr 121 v29 s).bind fun v30 =>
    ((pr 44 (some x0) v30 s).bind fun s31 =>
    ((gi 172 x1 s31).bind fun v32 =>
    ((pi 50 (some x0) v32 s31).bind fun s33 =>
    ((gi 175 x1 s33).bind fun v34 =>
    ((pi 51 (some x0) v34 s33).bind fun s35 =>
    ((gi 53 (some x0) s35).bind fun v36 =>
    ((pi 52 (some x0) v36 s35).bind fun s37 =>
    some (.inl none, s37)))))))))))) := by rfl
set_option maxRecDepth 100000 in
theorem cb_X1_fault (x0 : Nat) (s : σ) : cx_B ct_lc gi gr pi pr ai ar wi wr an nw na io dp ct_ft ct_sg 1 [] ct_X1_fault ca jm 1000 ct_X1_fault [some (vr_ (some x0))] [] s =
  ((gi 40 (some x0) s).bind fun v1 =>
  some (.inl (some (vi_ v1)), s)) := by rfl
set_option maxRecDepth 100000 in
theorem cb_X1_input (x1 : Int32) (x0 : Nat) (s : σ) : cx_B ct_lc gi gr pi pr ai ar wi wr an nw na io dp ct_ft ct_sg 1 [] ct_X1_input ca jm 1000 ct_X1_input [some (vr_ (some x0)), some (vi_ x1), none] [] s =
  ((gi 39 (some x0) s).bind fun v1 =>
  ((pi 39 (some x0) 0 s).bind fun s2 =>
  (if x1 < 0 then
    some (.inl (some (vi_ (-1))), s2)
  else
    (if x1 < 4 then
      ((gr 38 (some x0) s2).bind fun v3 =>
      ((gr 57 (some x0) s2).bind fun v4 =>
      ((ar v4 x1 s2).bind fun v5 =>
      ((gr 162 v5 s2).bind fun v6 =>
      (cx_bV cx_th (ca 416 [vr_ v3, vi_ 0, vr_ v6, vi_ 0, vi_ v1] s2) fun s7 =>
      ((gr 57 (some x0) s7).bind fun v8 =>
      ((ar v8 x1 s7).bind fun v9 =>
      ((dp 363 v9 s7).bind fun m10 =>
      (cx_bV cx_th (ca m10 [vr_ v9, vi_ v1] s7) fun s11 =>
      some (.inl (some (vi_ v1)), s11))))))))))
    else
      some (.inl (some (vi_ (-1))), s2))))) := by rfl
set_option maxRecDepth 100000 in
theorem cb_X1_run (x1 : Int32) (x0 : Nat) (s : σ) : cx_B ct_lc gi gr pi pr ai ar wi wr an nw na io dp ct_ft ct_sg 1 [(167, 206, 209, 2)] ct_X1_run ca jm 1000 ct_X1_run [some (vr_ (some x0)), some (vi_ x1), none] [] s =
  ((gi 51 (some x0) s).bind fun v1 =>
  (if v1 < 0 then
    some (.inl (some (vi_ (-1))), s)
  else
    (if x1 < 0 then
      some (.inl (some (vi_ (-1))), s)
    else
      (if 100000 < x1 then
        some (.inl (some (vi_ (-1))), s)
      else
        ((pi 73 (some x0) x1 s).bind fun s2 =>
        ((pi 74 (some x0) 0 s2).bind fun s3 =>
        ((pi 72 (some x0) 0 s3).bind fun s4 =>
        ((pi 62 (some x0) 0 s4).bind fun s5 =>
        ((pi 63 (some x0) 0 s5).bind fun s6 =>
        ((pi 64 (some x0) 0 s6).bind fun s7 =>
        ((pi 65 (some x0) 0 s7).bind fun s8 =>
        ((pi 66 (some x0) 0 s8).bind fun s9 =>
        ((pi 77 (some x0) 0 s9).bind fun s10 =>
        ((gr 57 (some x0) s10).bind fun v11 =>
        ((ar v11 0 s10).bind fun v12 =>
        ((pr 59 (some x0) v12 s10).bind fun s13 =>
        ((gr 58 (some x0) s13).bind fun v14 =>
        ((ar v14 0 s13).bind fun v15 =>
        ((pr 60 (some x0) v15 s13).bind fun s16 =>
        jm 87 [vr_ (some x0), vi_ 0] [] s16))))))))))))))))))) := by rfl
set_option maxRecDepth 100000 in
theorem cb_X1_run_87 (x2 : Int32) (x0 : Nat) (s : σ) : cx_B ct_lc gi gr pi pr ai ar wi wr an nw na io dp ct_ft ct_sg 1 [(167, 206, 209, 2)] ct_X1_run ca jm 1000 (pj_at ct_X1_run 87) [some (vr_ (some x0)), none, some (vi_ x2)] [] s =
  (if x2 < 2 then
    ((gr 58 (some x0) s).bind fun v1 =>
    ((ar v1 x2 s).bind fun v2 =>
    ((pi 163 v2 0 s).bind fun s3 =>
    jm 87 [vr_ (some x0), vi_ (x2 + 1)] [] s3)))
  else
    jm 110 [vr_ (some x0), vi_ 0] [] s) := by rfl
set_option maxRecDepth 100000 in
theorem cb_X1_run_110 (x2 : Int32) (x0 : Nat) (s : σ) : cx_B ct_lc gi gr pi pr ai ar wi wr an nw na io dp ct_ft ct_sg 1 [(167, 206, 209, 2)] ct_X1_run ca jm 1000 (pj_at ct_X1_run 110) [some (vr_ (some x0)), none, some (vi_ x2)] [] s =
  (if x2 < 65536 then
    ((gr 61 (some x0) s).bind fun v1 =>
    (if x2 < 100 then
      ((gr 55 (some x0) s).bind fun v2 =>
      ((ai 0 v2 x2 s).bind fun v3 =>
      ((wi 0 v1 x2 v3 s).bind fun s4 =>
      jm 110 [vr_ (some x0), vi_ (x2 + 1)] [] s4)))
    else
      ((gi 50 (some x0) s).bind fun v5 =>
      (if x2 < (100 + v5) then
        ((gr 54 (some x0) s).bind fun v6 =>
        ((ai 0 v6 (x2 - 100) s).bind fun v7 =>
        ((wi 0 v1 x2 v7 s).bind fun s8 =>
        jm 110 [vr_ (some x0), vi_ (x2 + 1)] [] s8)))
      else
        ((wi 0 v1 x2 0 s).bind fun s9 =>
        jm 110 [vr_ (some x0), vi_ (x2 + 1)] [] s9)))))
  else
    ((gi 51 (some x0) s).bind fun v10 =>
    ((gi 50 (some x0) s).bind fun v11 =>
    ((dp 221 (some x0) s).bind fun m15 =>
    (cx_bV (fun e12 s13 => (io 2 (some e12) s13).bind fun b14 => cx_ib b14 (jm 209 [] [vr_ (some e12)] s13) (some (.inr e12, s13))) (ca m15 [vr_ (some x0), vi_ v10, vi_ 0, vi_ 0, vi_ (100 + v11)] s) fun s16 =>
    jm 184 [vr_ (some x0)] [] s16))))) := by rfl
set_option maxRecDepth 100000 in
theorem cb_X1_run_184 (x0 : Nat) (s : σ) : cx_B ct_lc gi gr pi pr ai ar wi wr an nw na io dp ct_ft ct_sg 1 [(167, 206, 209, 2)] ct_X1_run ca jm 1000 (pj_at ct_X1_run 184) [some (vr_ (some x0)), none, none] [] s =
  ((gi 72 (some x0) s).bind fun v1 =>
  (if 0 < v1 then
    ((dp 225 (some x0) s).bind fun m5 =>
    (cx_bV (fun e2 s3 => (io 2 (some e2) s3).bind fun b4 => cx_ib b4 (jm 209 [] [vr_ (some e2)] s3) (some (.inr e2, s3))) (ca m5 [vr_ (some x0)] s) fun s6 =>
    jm 184 [vr_ (some x0)] [] s6))
  else
    ((gi 62 (some x0) s).bind fun v7 =>
    ((pi 74 (some x0) v7 s).bind fun s8 =>
    some (.inl (some (vi_ 0)), s8))))) := by rfl
set_option maxRecDepth 100000 in
theorem cb_X1_run_209 (y0 : Option Nat) (s : σ) : cx_B ct_lc gi gr pi pr ai ar wi wr an nw na io dp ct_ft ct_sg 1 [(167, 206, 209, 2)] ct_X1_run ca jm 1000 (pj_at ct_X1_run 209) [none, none, none] [vr_ y0] s =
  ((gi 120 y0 s).bind fun v1 =>
  some (.inl (some (vi_ v1)), s)) := by rfl
set_option maxRecDepth 100000 in
theorem cb_X1_enter (x1 x2 x3 x4 : Int32) (x0 : Nat) (s : σ) : cx_B ct_lc gi gr pi pr ai ar wi wr an nw na io dp ct_ft ct_sg 0 [] ct_X1_enter ca jm 1000 ct_X1_enter [some (vr_ (some x0)), some (vi_ x1), some (vi_ x2), some (vi_ x3), some (vi_ x4), none] [] s =
  ((dp 222 (some x0) s).bind fun m1 =>
  (cx_bV cx_th (ca m1 [vr_ (some x0)] s) fun s2 =>
  ((gi 72 (some x0) s2).bind fun v3 =>
  (if v3 < 100 then
    ((gr 47 (some x0) s2).bind fun v4 =>
    ((ai 0 v4 x1 s2).bind fun v5 =>
    ((dp 224 (some x0) s2).bind fun m6 =>
    (cx_bI cx_th (ca m6 [vr_ (some x0)] s2) fun v8 s7 =>
    (if v8 < (x4 + v5) then
      jm 34 [vr_ (some x0), vi_ x1, vi_ x2, vi_ x3, vi_ x4] [vi_ 0] s7
    else
      jm 34 [vr_ (some x0), vi_ x1, vi_ x2, vi_ x3, vi_ x4] [vi_ 1] s7)))))
  else
    jm 34 [vr_ (some x0), vi_ x1, vi_ x2, vi_ x3, vi_ x4] [vi_ 0] s2)))) := by rfl
set_option maxRecDepth 100000 in
theorem cb_X1_enter_34 (x1 x2 x3 x4 y0 : Int32) (x0 : Nat) (s : σ) : cx_B ct_lc gi gr pi pr ai ar wi wr an nw na io dp ct_ft ct_sg 0 [] ct_X1_enter ca jm 1000 (pj_at ct_X1_enter 34) [some (vr_ (some x0)), some (vi_ x1), some (vi_ x2), some (vi_ x3), some (vi_ x4), none] [vi_ y0] s =
  (cx_bV cx_th (ca 223 [vi_ y0, vi_ 5] s) fun s1 =>
  ((gr 61 (some x0) s1).bind fun v2 =>
  ((gi 64 (some x0) s1).bind fun v3 =>
  ((wi 0 v2 x4 v3 s1).bind fun s4 =>
  ((gr 61 (some x0) s4).bind fun v5 =>
  ((wi 0 v5 (x4 + 1) (1000000 + x1) s4).bind fun s6 =>
  jm 66 [vr_ (some x0), vi_ x1, vi_ x2, vi_ x3, vi_ x4, vi_ 0] [] s6)))))) := by rfl
set_option maxRecDepth 100000 in
theorem cb_X1_enter_66 (x1 x2 x3 x4 x5 : Int32) (x0 : Nat) (s : σ) : cx_B ct_lc gi gr pi pr ai ar wi wr an nw na io dp ct_ft ct_sg 0 [] ct_X1_enter ca jm 1000 (pj_at ct_X1_enter 66) [some (vr_ (some x0)), some (vi_ x1), some (vi_ x2), some (vi_ x3), some (vi_ x4), some (vi_ x5)] [] s =
  ((gr 46 (some x0) s).bind fun v1 =>
  ((ai 0 v1 x1 s).bind fun v2 =>
  (if x5 < v2 then
    ((gr 61 (some x0) s).bind fun v3 =>
    (if x5 < x2 then
      ((gr 67 (some x0) s).bind fun v4 =>
      ((ai 0 v4 (x3 + x5) s).bind fun v5 =>
      ((wi 0 v3 ((x4 + 2) + x5) v5 s).bind fun s6 =>
      jm 66 [vr_ (some x0), vi_ x1, vi_ x2, vi_ x3, vi_ x4, vi_ (x5 + 1)] [] s6)))
    else
      ((wi 0 v3 ((x4 + 2) + x5) 0 s).bind fun s7 =>
      jm 66 [vr_ (some x0), vi_ x1, vi_ x2, vi_ x3, vi_ x4, vi_ (x5 + 1)] [] s7)))
  else
    ((gr 68 (some x0) s).bind fun v8 =>
    ((gi 72 (some x0) s).bind fun v9 =>
    ((wi 0 v8 v9 x1 s).bind fun s10 =>
    ((gr 69 (some x0) s10).bind fun v11 =>
    ((gi 72 (some x0) s10).bind fun v12 =>
    ((gi 66 (some x0) s10).bind fun v13 =>
    ((wi 0 v11 v12 v13 s10).bind fun s14 =>
    ((gr 70 (some x0) s14).bind fun v15 =>
    ((gi 72 (some x0) s14).bind fun v16 =>
    ((gi 64 (some x0) s14).bind fun v17 =>
    ((wi 0 v15 v16 v17 s14).bind fun s18 =>
    ((gr 71 (some x0) s18).bind fun v19 =>
    ((gi 72 (some x0) s18).bind fun v20 =>
    ((gi 65 (some x0) s18).bind fun v21 =>
    ((wi 0 v19 v20 v21 s18).bind fun s22 =>
    ((gi 72 (some x0) s22).bind fun v23 =>
    ((pi 72 (some x0) (v23 + 1) s22).bind fun s24 =>
    ((pi 64 (some x0) x4 s24).bind fun s25 =>
    ((pi 65 (some x0) x3 s25).bind fun s26 =>
    ((gr 45 (some x0) s26).bind fun v27 =>
    ((ai 0 v27 x1 s26).bind fun v28 =>
    ((pi 66 (some x0) v28 s26).bind fun s29 =>
    ((gi 65 (some x0) s29).bind fun v30 =>
    ((gr 48 (some x0) s29).bind fun v31 =>
    ((ai 0 v31 x1 s29).bind fun v32 =>
    ((gr 67 (some x0) s29).bind fun v33 =>
    ((an v33 s29).bind fun v34 =>
    (if ((v30 + v32) + 20) < v34 then
      some (.inl none, s29)
    else
      ((gr 67 (some x0) s29).bind fun v35 =>
      ((gi 65 (some x0) s29).bind fun v36 =>
      ((gr 48 (some x0) s29).bind fun v37 =>
      ((ai 0 v37 x1 s29).bind fun v38 =>
      ((na 200 (2 * ((v36 + v38) + 20)) s29).bind fun q39 =>
      ((pr 67 (some x0) (some q39.1) q39.2).bind fun s40 =>
      ((gr 67 (some x0) s40).bind fun v41 =>
      ((an v35 s40).bind fun v42 =>
      (cx_bV cx_th (ca 416 [vr_ v35, vi_ 0, vr_ v41, vi_ 0, vi_ v42] s40) fun s43 =>
      some (.inl none, s43))))))))))))))))))))))))))))))))))))))))) := by rfl
set_option maxRecDepth 100000 in
theorem cb_X1_spend (x0 : Nat) (s : σ) : cx_B ct_lc gi gr pi pr ai ar wi wr an nw na io dp ct_ft ct_sg 0 [] ct_X1_spend ca jm 1000 ct_X1_spend [some (vr_ (some x0))] [] s =
  ((gi 73 (some x0) s).bind fun v1 =>
  (if 0 < v1 then
    (cx_bV cx_th (ca 223 [vi_ 1, vi_ 1] s) fun s2 =>
    ((gi 73 (some x0) s2).bind fun v3 =>
    ((pi 73 (some x0) (v3 - 1) s2).bind fun s4 =>
    some (.inl none, s4))))
  else
    (cx_bV cx_th (ca 223 [vi_ 0, vi_ 1] s) fun s5 =>
    ((gi 73 (some x0) s5).bind fun v6 =>
    ((pi 73 (some x0) (v6 - 1) s5).bind fun s7 =>
    some (.inl none, s7)))))) := by rfl
set_option maxRecDepth 100000 in
theorem cb_X1_must (x0 x1 : Int32) (s : σ) : cx_B ct_lc gi gr pi pr ai ar wi wr an nw na io dp ct_ft ct_sg 0 [] ct_X1_must ca jm 1000 ct_X1_must [some (vi_ x0), some (vi_ x1)] [] s =
  (if x0 = 0 then
    (cx_bV cx_th (ca 315 [vr_ (some (nw 2 s).1), vi_ x1] (nw 2 s).2) fun s1 =>
    some (.inr (nw 2 s).1, s1))
  else
    some (.inl none, s)) := by rfl
set_option maxRecDepth 100000 in
theorem cb_X1_limit (x0 : Nat) (s : σ) : cx_B ct_lc gi gr pi pr ai ar wi wr an nw na io dp ct_ft ct_sg 1 [] ct_X1_limit ca jm 1000 ct_X1_limit [some (vr_ (some x0))] [] s =
  ((gi 77 (some x0) s).bind fun v1 =>
  (if 0 < v1 then
    ((gr 75 (some x0) s).bind fun v2 =>
    ((ai 0 v2 0 s).bind fun v3 =>
    some (.inl (some (vi_ v3)), s)))
  else
    ((gi 52 (some x0) s).bind fun v4 =>
    some (.inl (some (vi_ v4)), s)))) := by rfl
set_option maxRecDepth 100000 in
theorem cb_X1_step (x0 : Nat) (s : σ) : cx_B ct_lc gi gr pi pr ai ar wi wr an nw na io dp ct_ft ct_sg 0 [] ct_X1_step ca jm 1000 ct_X1_step [some (vr_ (some x0)), none, none, none] [] s =
  ((gr 44 (some x0) s).bind fun v1 =>
  ((gi 66 (some x0) s).bind fun v2 =>
  ((ai 0 v1 (v2 - 65536) s).bind fun v3 =>
  ((gi 66 (some x0) s).bind fun v4 =>
  ((pi 66 (some x0) (v4 + 1) s).bind fun s5 =>
  (if (v3 &&& 33554432) = 0 then
    jm 44 [vr_ (some x0), vi_ v3, vi_ ((v3 <<< (7 &&& 31)) >>> (7 &&& 31))] [vi_ 0] s5
  else
    jm 44 [vr_ (some x0), vi_ v3, vi_ ((v3 <<< (7 &&& 31)) >>> (7 &&& 31))] [vi_ 1] s5)))))) := by rfl
set_option maxRecDepth 100000 in
theorem cb_X1_step_44 (x1 x2 y0 : Int32) (x0 : Nat) (s : σ) : cx_B ct_lc gi gr pi pr ai ar wi wr an nw na io dp ct_ft ct_sg 0 [] ct_X1_step ca jm 1000 (pj_at ct_X1_step 44) [some (vr_ (some x0)), some (vi_ x1), some (vi_ x2), none] [vi_ y0] s =
  (if (x1 &&& 67108864) = 0 then
    (if y0 = 0 then
      jm 71 [vr_ (some x0), vi_ x1, vi_ x2, vi_ y0] [] s
    else
      ((gi 65 (some x0) s).bind fun v1 =>
      jm 71 [vr_ (some x0), vi_ x1, vi_ (x2 + v1), vi_ y0] [] s))
  else
    ((gi 64 (some x0) s).bind fun v2 =>
    (if y0 = 0 then
      jm 71 [vr_ (some x0), vi_ x1, vi_ (x2 + v2), vi_ y0] [] s
    else
      ((gi 65 (some x0) s).bind fun v3 =>
      jm 71 [vr_ (some x0), vi_ x1, vi_ ((x2 + v2) + v3), vi_ y0] [] s)))) := by rfl
set_option maxRecDepth 100000 in
theorem cb_X1_step_71 (x1 x2 x3 : Int32) (x0 : Nat) (s : σ) : cx_B ct_lc gi gr pi pr ai ar wi wr an nw na io dp ct_ft ct_sg 0 [] ct_X1_step ca jm 1000 (pj_at ct_X1_step 71) [some (vr_ (some x0)), some (vi_ x1), some (vi_ x2), some (vi_ x3)] [] s =
  (if ((x1 : Int32).toUInt32 >>> ((28 : Int32).toUInt32 &&& Int32.toUInt32 31)).toInt32 = Int32.ofInt 1 then
    ((gi 62 (some x0) s).bind fun v1 =>
    ((pi 63 (some x0) v1 s).bind fun s2 =>
    (if (x1 &&& 134217728) = 0 then
      ((pi 62 (some x0) x2 s2).bind fun s3 =>
      some (.inl none, s3))
    else
      (if x3 = 0 then
        (if x2 < 65536 then
          ((gr 61 (some x0) s2).bind fun v4 =>
          ((ai 0 v4 x2 s2).bind fun v5 =>
          ((pi 62 (some x0) v5 s2).bind fun s6 =>
          some (.inl none, s6))))
        else
          ((gr 44 (some x0) s2).bind fun v7 =>
          ((ai 0 v7 (x2 - 65536) s2).bind fun v8 =>
          ((pi 62 (some x0) v8 s2).bind fun s9 =>
          some (.inl none, s9)))))
      else
        ((gr 67 (some x0) s2).bind fun v10 =>
        ((ai 0 v10 x2 s2).bind fun v11 =>
        ((pi 62 (some x0) v11 s2).bind fun s12 =>
        some (.inl none, s12))))))))
  else
  (if ((x1 : Int32).toUInt32 >>> ((28 : Int32).toUInt32 &&& Int32.toUInt32 31)).toInt32 = Int32.ofInt 2 then
    (if x3 = 0 then
      ((gr 61 (some x0) s).bind fun v13 =>
      ((gi 62 (some x0) s).bind fun v14 =>
      ((wi 0 v13 x2 v14 s).bind fun s15 =>
      some (.inl none, s15))))
    else
      ((gr 67 (some x0) s).bind fun v16 =>
      ((gi 62 (some x0) s).bind fun v17 =>
      ((wi 0 v16 x2 v17 s).bind fun s18 =>
      some (.inl none, s18)))))
  else
  (if ((x1 : Int32).toUInt32 >>> ((28 : Int32).toUInt32 &&& Int32.toUInt32 31)).toInt32 = Int32.ofInt 3 then
    ((pi 66 (some x0) x2 s).bind fun s19 =>
    some (.inl none, s19))
  else
  (if ((x1 : Int32).toUInt32 >>> ((28 : Int32).toUInt32 &&& Int32.toUInt32 31)).toInt32 = Int32.ofInt 4 then
    ((gi 62 (some x0) s).bind fun v20 =>
    (if v20 = 0 then
      some (.inl none, s)
    else
      ((pi 66 (some x0) x2 s).bind fun s21 =>
      some (.inl none, s21))))
  else
  (if ((x1 : Int32).toUInt32 >>> ((28 : Int32).toUInt32 &&& Int32.toUInt32 31)).toInt32 = Int32.ofInt 5 then
    ((gi 62 (some x0) s).bind fun v22 =>
    (if v22 = 0 then
      ((pi 66 (some x0) x2 s).bind fun s23 =>
      some (.inl none, s23))
    else
      some (.inl none, s)))
  else
  (if ((x1 : Int32).toUInt32 >>> ((28 : Int32).toUInt32 &&& Int32.toUInt32 31)).toInt32 = Int32.ofInt 6 then
    ((dp 226 (some x0) s).bind fun m24 =>
    (cx_bV cx_th (ca m24 [vr_ (some x0), vi_ x2] s) fun s25 =>
    some (.inl none, s25)))
  else
  ((dp 241 (some x0) s).bind fun m26 =>
    (cx_bV cx_th (ca m26 [vr_ (some x0), vi_ x2] s) fun s27 =>
    some (.inl none, s27))))))))) := by rfl
set_option maxRecDepth 100000 in
theorem cb_X1_call (x1 : Int32) (x0 : Nat) (s : σ) : cx_B ct_lc gi gr pi pr ai ar wi wr an nw na io dp ct_ft ct_sg 0 [] ct_X1_call ca jm 1000 ct_X1_call [some (vr_ (some x0)), some (vi_ x1), none, none, none, none] [] s =
  ((gr 44 (some x0) s).bind fun v1 =>
  ((gi 66 (some x0) s).bind fun v2 =>
  ((ai 0 v1 (v2 - 65536) s).bind fun v3 =>
  ((gi 66 (some x0) s).bind fun v4 =>
  ((pi 66 (some x0) (v4 + 1) s).bind fun s5 =>
  ((pj_div v3 65536).bind fun v6 =>
  ((gi 65 (some x0) s5).bind fun v7 =>
  ((pj_rem v3 65536).bind fun v8 =>
  ((gi 62 (some x0) s5).bind fun v9 =>
  ((dp 227 (some x0) s5).bind fun m10 =>
  (cx_bI cx_th (ca m10 [vr_ (some x0), vi_ v9] s5) fun v12 s11 =>
  (if v12 = 0 then
    (cx_bI cx_th (ca 228 [vi_ v9] s11) fun v14 s13 =>
    (if v14 = 0 then
      jm 67 [vr_ (some x0), vi_ x1, vi_ v6, vi_ (v7 + v8), vi_ v9] [vi_ 0] s13
    else
      jm 67 [vr_ (some x0), vi_ x1, vi_ v6, vi_ (v7 + v8), vi_ v9] [vi_ 1] s13))
  else
    jm 67 [vr_ (some x0), vi_ x1, vi_ v6, vi_ (v7 + v8), vi_ v9] [vi_ 1] s11)))))))))))) := by rfl
set_option maxRecDepth 100000 in
theorem cb_X1_call_67 (x1 x3 x4 x5 y0 : Int32) (x0 : Nat) (s : σ) : cx_B ct_lc gi gr pi pr ai ar wi wr an nw na io dp ct_ft ct_sg 0 [] ct_X1_call ca jm 1000 (pj_at ct_X1_call 67) [some (vr_ (some x0)), some (vi_ x1), none, some (vi_ x3), some (vi_ x4), some (vi_ x5)] [vi_ y0] s =
  (cx_bV cx_th (ca 223 [vi_ y0, vi_ 4] s) fun s1 =>
  ((dp 227 (some x0) s1).bind fun m2 =>
  (cx_bI cx_th (ca m2 [vr_ (some x0), vi_ x5] s1) fun v4 s3 =>
  (if v4 = 0 then
    ((gi 64 (some x0) s3).bind fun v5 =>
    ((dp 229 (some x0) s3).bind fun m6 =>
    (cx_bV cx_th (ca m6 [vr_ (some x0), vi_ (x5 - 2000000), vi_ x3, vi_ x4, vi_ (v5 + x1)] s3) fun s7 =>
    some (.inl none, s7))))
  else
    ((gi 64 (some x0) s3).bind fun v8 =>
    ((dp 221 (some x0) s3).bind fun m9 =>
    (cx_bV cx_th (ca m9 [vr_ (some x0), vi_ (x5 - 1000000), vi_ x3, vi_ x4, vi_ (v8 + x1)] s3) fun s10 =>
    some (.inl none, s10)))))))) := by rfl
set_option maxRecDepth 100000 in
theorem cb_X1_isEntry (x1 : Int32) (x0 : Nat) (s : σ) : cx_B ct_lc gi gr pi pr ai ar wi wr an nw na io dp ct_ft ct_sg 4 [] ct_X1_isEntry ca jm 1000 ct_X1_isEntry [some (vr_ (some x0)), some (vi_ x1)] [] s =
  (if x1 < 1000000 then
    some (.inl (some (vi_ 0)), s)
  else
    ((gi 49 (some x0) s).bind fun v1 =>
    (if x1 < (1000000 + v1) then
      some (.inl (some (vi_ 1)), s)
    else
      some (.inl (some (vi_ 0)), s)))) := by rfl
set_option maxRecDepth 100000 in
theorem cb_X1_isLibrary (x0 : Int32) (s : σ) : cx_B ct_lc gi gr pi pr ai ar wi wr an nw na io dp ct_ft ct_sg 4 [] ct_X1_isLibrary ca jm 1000 ct_X1_isLibrary [some (vi_ x0)] [] s =
  (if x0 < 2000000 then
    some (.inl (some (vi_ 0)), s)
  else
    (if 2000017 < x0 then
      some (.inl (some (vi_ 0)), s)
    else
      some (.inl (some (vi_ 1)), s))) := by rfl
set_option maxRecDepth 100000 in
theorem cb_X1_library (x1 x2 x3 x4 : Int32) (x0 : Nat) (s : σ) : cx_B ct_lc gi gr pi pr ai ar wi wr an nw na io dp ct_ft ct_sg 0 [] ct_X1_library ca jm 1000 ct_X1_library [some (vr_ (some x0)), some (vi_ x1), some (vi_ x2), some (vi_ x3), some (vi_ x4), none, none, none] [] s =
  ((dp 230 (some x0) s).bind fun m1 =>
  (cx_bI cx_th (ca m1 [vr_ (some x0), vi_ 0, vi_ x2, vi_ x3] s) fun v3 s2 =>
  ((dp 230 (some x0) s2).bind fun m4 =>
  (cx_bI cx_th (ca m4 [vr_ (some x0), vi_ 1, vi_ x2, vi_ x3] s2) fun v6 s5 =>
  ((dp 230 (some x0) s5).bind fun m7 =>
  (cx_bI cx_th (ca m7 [vr_ (some x0), vi_ 2, vi_ x2, vi_ x3] s5) fun v9 s8 =>
  (if x1 = Int32.ofInt 0 then
    ((dp 231 (some x0) s8).bind fun m10 =>
    (cx_bV cx_th (ca m10 [vr_ (some x0), vi_ v3, vi_ 0] s8) fun s11 =>
    ((pi 62 (some x0) 0 s11).bind fun s12 =>
    some (.inl none, s12))))
  else
  (if x1 = Int32.ofInt 1 then
    ((dp 234 (some x0) s8).bind fun m13 =>
    (cx_bV cx_th (ca m13 [vr_ (some x0), vi_ v3] s8) fun s14 =>
    ((pi 62 (some x0) 0 s14).bind fun s15 =>
    some (.inl none, s15))))
  else
  (if x1 = Int32.ofInt 2 then
    ((dp 233 (some x0) s8).bind fun m16 =>
    (cx_bV cx_th (ca m16 [vr_ (some x0), vi_ v3] s8) fun s17 =>
    ((pi 62 (some x0) 0 s17).bind fun s18 =>
    some (.inl none, s18))))
  else
  (if x1 = Int32.ofInt 3 then
    ((dp 233 (some x0) s8).bind fun m19 =>
    (cx_bV cx_th (ca m19 [vr_ (some x0), vi_ 10] s8) fun s20 =>
    ((pi 62 (some x0) 0 s20).bind fun s21 =>
    some (.inl none, s21))))
  else
  (if x1 = Int32.ofInt 4 then
    ((dp 239 (some x0) s8).bind fun m22 =>
    (cx_bI cx_th (ca m22 [vr_ (some x0), vi_ x1, vi_ v3, vi_ v6, vi_ v9, vi_ x4] s8) fun v24 s23 =>
    ((pi 62 (some x0) v24 s23).bind fun s25 =>
    some (.inl none, s25))))
  else
  (if x1 = Int32.ofInt 5 then
    ((pi 74 (some x0) v3 s8).bind fun s26 =>
    (cx_bV cx_th (ca 315 [vr_ (some (nw 2 s26).1), vi_ 6] (nw 2 s26).2) fun s27 =>
    some (.inr (nw 2 s26).1, s27)))
  else
  (if x1 = Int32.ofInt 6 then
    ((dp 239 (some x0) s8).bind fun m28 =>
    (cx_bI cx_th (ca m28 [vr_ (some x0), vi_ x1, vi_ v3, vi_ v6, vi_ v9, vi_ x4] s8) fun v30 s29 =>
    ((pi 62 (some x0) v30 s29).bind fun s31 =>
    some (.inl none, s31))))
  else
  (if x1 = Int32.ofInt 7 then
    ((dp 239 (some x0) s8).bind fun m32 =>
    (cx_bI cx_th (ca m32 [vr_ (some x0), vi_ x1, vi_ v3, vi_ v6, vi_ v9, vi_ x4] s8) fun v34 s33 =>
    ((pi 62 (some x0) v34 s33).bind fun s35 =>
    some (.inl none, s35))))
  else
  (if x1 = Int32.ofInt 8 then
    ((dp 239 (some x0) s8).bind fun m36 =>
    (cx_bI cx_th (ca m36 [vr_ (some x0), vi_ x1, vi_ v3, vi_ v6, vi_ v9, vi_ x4] s8) fun v38 s37 =>
    ((pi 62 (some x0) v38 s37).bind fun s39 =>
    some (.inl none, s39))))
  else
  (if x1 = Int32.ofInt 9 then
    ((dp 239 (some x0) s8).bind fun m40 =>
    (cx_bI cx_th (ca m40 [vr_ (some x0), vi_ x1, vi_ v3, vi_ v6, vi_ v9, vi_ x4] s8) fun v42 s41 =>
    ((pi 62 (some x0) v42 s41).bind fun s43 =>
    some (.inl none, s43))))
  else
  (if x1 = Int32.ofInt 10 then
    ((dp 239 (some x0) s8).bind fun m44 =>
    (cx_bI cx_th (ca m44 [vr_ (some x0), vi_ x1, vi_ v3, vi_ v6, vi_ v9, vi_ x4] s8) fun v46 s45 =>
    ((pi 62 (some x0) v46 s45).bind fun s47 =>
    some (.inl none, s47))))
  else
  (if x1 = Int32.ofInt 11 then
    ((dp 239 (some x0) s8).bind fun m48 =>
    (cx_bI cx_th (ca m48 [vr_ (some x0), vi_ x1, vi_ v3, vi_ v6, vi_ v9, vi_ x4] s8) fun v50 s49 =>
    ((pi 62 (some x0) v50 s49).bind fun s51 =>
    some (.inl none, s51))))
  else
  (if x1 = Int32.ofInt 12 then
    ((dp 236 (some x0) s8).bind fun m52 =>
    (cx_bV cx_th (ca m52 [vr_ (some x0), vi_ v3] s8) fun s53 =>
    ((pi 62 (some x0) 0 s53).bind fun s54 =>
    some (.inl none, s54))))
  else
  (if x1 = Int32.ofInt 13 then
    ((dp 237 (some x0) s8).bind fun m55 =>
    (cx_bV cx_th (ca m55 [vr_ (some x0), vi_ v3, vi_ v6, vi_ x3, vi_ x4] s8) fun s56 =>
    some (.inl none, s56)))
  else
  (if x1 = Int32.ofInt 14 then
    ((dp 239 (some x0) s8).bind fun m57 =>
    (cx_bI cx_th (ca m57 [vr_ (some x0), vi_ x1, vi_ v3, vi_ v6, vi_ v9, vi_ x4] s8) fun v59 s58 =>
    ((pi 62 (some x0) v59 s58).bind fun s60 =>
    some (.inl none, s60))))
  else
  (if x1 = Int32.ofInt 15 then
    (cx_bI cx_th (ca 192 [vi_ v6, vi_ 100] s8) fun v62 s61 =>
    ((dp 231 (some x0) s61).bind fun m63 =>
    (cx_bV cx_th (ca m63 [vr_ (some x0), vi_ v3, vi_ v62] s61) fun s64 =>
    ((pi 62 (some x0) 0 s64).bind fun s65 =>
    some (.inl none, s65)))))
  else
  (if x1 = Int32.ofInt 16 then
    ((dp 238 (some x0) s8).bind fun m66 =>
    (cx_bV cx_th (ca m66 [vr_ (some x0), vi_ v3, vi_ v6] s8) fun s67 =>
    ((pi 62 (some x0) 0 s67).bind fun s68 =>
    some (.inl none, s68))))
  else
  ((dp 239 (some x0) s8).bind fun m69 =>
    (cx_bI cx_th (ca m69 [vr_ (some x0), vi_ x1, vi_ v3, vi_ v6, vi_ v9, vi_ x4] s8) fun v71 s70 =>
    ((pi 62 (some x0) v71 s70).bind fun s72 =>
    some (.inl none, s72))))))))))))))))))))))))))) := by rfl
set_option maxRecDepth 100000 in
theorem cb_X1_argument (x1 x2 x3 : Int32) (x0 : Nat) (s : σ) : cx_B ct_lc gi gr pi pr ai ar wi wr an nw na io dp ct_ft ct_sg 1 [] ct_X1_argument ca jm 1000 ct_X1_argument [some (vr_ (some x0)), some (vi_ x1), some (vi_ x2), some (vi_ x3)] [] s =
  (if x1 < x2 then
    ((gr 67 (some x0) s).bind fun v1 =>
    ((ai 0 v1 (x3 + x1) s).bind fun v2 =>
    some (.inl (some (vi_ v2)), s)))
  else
    some (.inl (some (vi_ 0)), s)) := by rfl
set_option maxRecDepth 100000 in
theorem cb_X1_decimal (x1 x2 : Int32) (x0 : Nat) (s : σ) : cx_B ct_lc gi gr pi pr ai ar wi wr an nw na io dp ct_ft ct_sg 0 [] ct_X1_decimal ca jm 1000 ct_X1_decimal [some (vr_ (some x0)), some (vi_ x1), some (vi_ x2), none] [] s =
  ((gr 60 (some x0) s).bind fun v1 =>
  ((dp 364 v1 s).bind fun m2 =>
  (cx_bI cx_th (ca m2 [vr_ v1] s) fun v4 s3 =>
  (if v4 = 0 then
    (cx_bI cx_th (ca 232 [vi_ x1] s3) fun v6 s5 =>
    jm 16 [vr_ (some x0), vi_ x1, vi_ x2, vi_ v6] [] s5)
  else
    some (.inl none, s3))))) := by rfl
set_option maxRecDepth 100000 in
theorem cb_X1_decimal_16 (x1 x2 x3 : Int32) (x0 : Nat) (s : σ) : cx_B ct_lc gi gr pi pr ai ar wi wr an nw na io dp ct_ft ct_sg 0 [] ct_X1_decimal ca jm 1000 (pj_at ct_X1_decimal 16) [some (vr_ (some x0)), some (vi_ x1), some (vi_ x2), some (vi_ x3)] [] s =
  (if x3 < x2 then
    ((dp 233 (some x0) s).bind fun m1 =>
    (cx_bV cx_th (ca m1 [vr_ (some x0), vi_ 32] s) fun s2 =>
    jm 16 [vr_ (some x0), vi_ x1, vi_ x2, vi_ (x3 + 1)] [] s2))
  else
    (if x1 < 0 then
      ((dp 233 (some x0) s).bind fun m3 =>
      (cx_bV cx_th (ca m3 [vr_ (some x0), vi_ 45] s) fun s4 =>
      jm 45 [vr_ (some x0), vi_ x1, vi_ 1] [] s4))
    else
      jm 45 [vr_ (some x0), vi_ x1, vi_ 1] [] s)) := by rfl
set_option maxRecDepth 100000 in
theorem cb_X1_decimal_45 (x1 x3 : Int32) (x0 : Nat) (s : σ) : cx_B ct_lc gi gr pi pr ai ar wi wr an nw na io dp ct_ft ct_sg 0 [] ct_X1_decimal ca jm 1000 (pj_at ct_X1_decimal 45) [some (vr_ (some x0)), some (vi_ x1), none, some (vi_ x3)] [] s =
  ((pj_div x1 x3).bind fun v1 =>
  ((pj_div v1 10).bind fun v2 =>
  (if v2 = 0 then
    jm 62 [vr_ (some x0), vi_ x1, vi_ x3] [] s
  else
    jm 45 [vr_ (some x0), vi_ x1, vi_ (x3 * 10)] [] s))) := by rfl
set_option maxRecDepth 100000 in
theorem cb_X1_decimal_62 (x1 x3 : Int32) (x0 : Nat) (s : σ) : cx_B ct_lc gi gr pi pr ai ar wi wr an nw na io dp ct_ft ct_sg 0 [] ct_X1_decimal ca jm 1000 (pj_at ct_X1_decimal 62) [some (vr_ (some x0)), some (vi_ x1), none, some (vi_ x3)] [] s =
  (if 0 < x3 then
    ((pj_div x1 x3).bind fun v1 =>
    ((pj_rem v1 10).bind fun v2 =>
    (cx_bI cx_th (ca 194 [vi_ v2] s) fun v4 s3 =>
    ((dp 233 (some x0) s3).bind fun m5 =>
    (cx_bV cx_th (ca m5 [vr_ (some x0), vi_ (48 + v4)] s3) fun s6 =>
    ((pj_div x3 10).bind fun v7 =>
    jm 62 [vr_ (some x0), vi_ x1, vi_ v7] [] s6))))))
  else
    some (.inl none, s)) := by rfl
set_option maxRecDepth 100000 in
theorem cb_X1_digits (x0 : Int32) (s : σ) : cx_B ct_lc gi gr pi pr ai ar wi wr an nw na io dp ct_ft ct_sg 1 [] ct_X1_digits ca jm 1000 ct_X1_digits [some (vi_ x0), none, none] [] s =
  (if x0 < 0 then
    ((pj_div x0 10).bind fun v1 =>
    jm 15 [vi_ 2, vi_ v1] [] s)
  else
    ((pj_div x0 10).bind fun v2 =>
    jm 15 [vi_ 1, vi_ v2] [] s)) := by rfl
set_option maxRecDepth 100000 in
theorem cb_X1_digits_15 (x1 x2 : Int32) (s : σ) : cx_B ct_lc gi gr pi pr ai ar wi wr an nw na io dp ct_ft ct_sg 1 [] ct_X1_digits ca jm 1000 (pj_at ct_X1_digits 15) [none, some (vi_ x1), some (vi_ x2)] [] s =
  (if x2 = 0 then
    some (.inl (some (vi_ x1)), s)
  else
    ((pj_div x2 10).bind fun v1 =>
    jm 15 [vi_ (x1 + 1), vi_ v1] [] s)) := by rfl
set_option maxRecDepth 100000 in
theorem cb_X1_write (x1 : Int32) (x0 : Nat) (s : σ) : cx_B ct_lc gi gr pi pr ai ar wi wr an nw na io dp ct_ft ct_sg 0 [] ct_X1_write ca jm 1000 ct_X1_write [some (vr_ (some x0)), some (vi_ x1)] [] s =
  ((gr 60 (some x0) s).bind fun v1 =>
  ((dp 365 v1 s).bind fun m2 =>
  (cx_bV cx_th (ca m2 [vr_ v1, vi_ x1] s) fun s3 =>
  some (.inl none, s3)))) := by rfl
set_option maxRecDepth 100000 in
theorem cb_X1_string (x1 : Int32) (x0 : Nat) (s : σ) : cx_B ct_lc gi gr pi pr ai ar wi wr an nw na io dp ct_ft ct_sg 0 [] ct_X1_string ca jm 1000 ct_X1_string [some (vr_ (some x0)), some (vi_ x1), none, none] [] s =
  ((dp 235 (some x0) s).bind fun m1 =>
  (cx_bI cx_th (ca m1 [vr_ (some x0), vl_ (x1 : Int32).toInt64] s) fun v3 s2 =>
  (cx_bV cx_th (ca 223 [vi_ v3, vi_ 2] s2) fun s4 =>
  ((gr 61 (some x0) s4).bind fun v5 =>
  ((ai 0 v5 x1 s4).bind fun v6 =>
  ((pj_div (v6 &&& 255) 4).bind fun v7 =>
  ((dp 235 (some x0) s4).bind fun m8 =>
  (cx_bI cx_th (ca m8 [vr_ (some x0), vl_ ((x1 : Int32).toInt64 + (v7 : Int32).toInt64)] s4) fun v10 s9 =>
  (cx_bV cx_th (ca 223 [vi_ v10, vi_ 2] s9) fun s11 =>
  jm 38 [vr_ (some x0), vi_ x1, vi_ (v6 &&& 255), vi_ 1] [] s11))))))))) := by rfl
set_option maxRecDepth 100000 in
theorem cb_X1_string_38 (x1 x2 x3 : Int32) (x0 : Nat) (s : σ) : cx_B ct_lc gi gr pi pr ai ar wi wr an nw na io dp ct_ft ct_sg 0 [] ct_X1_string ca jm 1000 (pj_at ct_X1_string 38) [some (vr_ (some x0)), some (vi_ x1), some (vi_ x2), some (vi_ x3)] [] s =
  (if x2 < x3 then
    some (.inl none, s)
  else
    ((gr 60 (some x0) s).bind fun v1 =>
    ((dp 364 v1 s).bind fun m2 =>
    (cx_bI cx_th (ca m2 [vr_ v1] s) fun v4 s3 =>
    (if v4 = 0 then
      ((gr 61 (some x0) s3).bind fun v5 =>
      ((pj_div x3 4).bind fun v6 =>
      ((ai 0 v5 (x1 + v6) s3).bind fun v7 =>
      ((pj_rem x3 4).bind fun v8 =>
      ((dp 233 (some x0) s3).bind fun m9 =>
      (cx_bV cx_th (ca m9 [vr_ (some x0), vi_ (v7 >>> ((8 * v8) &&& 31))] s3) fun s10 =>
      jm 38 [vr_ (some x0), vi_ x1, vi_ x2, vi_ (x3 + 1)] [] s10))))))
    else
      some (.inl none, s3)))))) := by rfl
set_option maxRecDepth 100000 in
theorem cb_X1_isWord (x1 : Int64) (x0 : Nat) (s : σ) : cx_B ct_lc gi gr pi pr ai ar wi wr an nw na io dp ct_ft ct_sg 4 [] ct_X1_isWord ca jm 1000 ct_X1_isWord [some (vr_ (some x0)), some (vl_ x1), none] [] s =
  (if (lg_cmp x1 0) < 0 then
    some (.inl (some (vi_ 0)), s)
  else
    ((gi 52 (some x0) s).bind fun v1 =>
    (if (lg_cmp x1 (v1 : Int32).toInt64) < 0 then
      some (.inl (some (vi_ 1)), s)
    else
      some (.inl (some (vi_ 0)), s)))) := by rfl
set_option maxRecDepth 100000 in
theorem cb_X1_free (x1 : Int32) (x0 : Nat) (s : σ) : cx_B ct_lc gi gr pi pr ai ar wi wr an nw na io dp ct_ft ct_sg 0 [] ct_X1_free ca jm 1000 ct_X1_free [some (vr_ (some x0)), some (vi_ x1), none, none, none] [] s =
  (if x1 = 0 then
    some (.inl none, s)
  else
    ((gi 77 (some x0) s).bind fun v1 =>
    jm 12 [vr_ (some x0), vi_ x1, vi_ 0, vi_ v1] [] s)) := by rfl
set_option maxRecDepth 100000 in
theorem cb_X1_free_12 (x1 x2 x3 : Int32) (x0 : Nat) (s : σ) : cx_B ct_lc gi gr pi pr ai ar wi wr an nw na io dp ct_ft ct_sg 0 [] ct_X1_free ca jm 1000 (pj_at ct_X1_free 12) [some (vr_ (some x0)), some (vi_ x1), some (vi_ x2), some (vi_ x3), none] [] s =
  (if x2 < x3 then
    ((gr 75 (some x0) s).bind fun v1 =>
    ((ai 0 v1 ((x2 + x3) >>> (1 &&& 31)) s).bind fun v2 =>
    (if v2 < x1 then
      jm 12 [vr_ (some x0), vi_ x1, vi_ (((x2 + x3) >>> (1 &&& 31)) + 1), vi_ x3] [] s
    else
      jm 12 [vr_ (some x0), vi_ x1, vi_ x2, vi_ ((x2 + x3) >>> (1 &&& 31))] [] s)))
  else
    ((gi 77 (some x0) s).bind fun v3 =>
    (if x2 < v3 then
      ((gr 75 (some x0) s).bind fun v4 =>
      ((ai 0 v4 x2 s).bind fun v5 =>
      (if v5 = x1 then
        jm 72 [vr_ (some x0), vi_ x2] [vi_ 1] s
      else
        jm 72 [vr_ (some x0), vi_ x2] [vi_ 0] s)))
    else
      jm 72 [vr_ (some x0), vi_ x2] [vi_ 0] s))) := by rfl
set_option maxRecDepth 100000 in
theorem cb_X1_free_72 (x2 y0 : Int32) (x0 : Nat) (s : σ) : cx_B ct_lc gi gr pi pr ai ar wi wr an nw na io dp ct_ft ct_sg 0 [] ct_X1_free ca jm 1000 (pj_at ct_X1_free 72) [some (vr_ (some x0)), none, some (vi_ x2), none, none] [vi_ y0] s =
  (cx_bV cx_th (ca 223 [vi_ y0, vi_ 2] s) fun s1 =>
  ((gi 77 (some x0) s1).bind fun v2 =>
  ((pi 77 (some x0) (v2 - 1) s1).bind fun s3 =>
  ((gr 75 (some x0) s3).bind fun v4 =>
  ((gr 75 (some x0) s3).bind fun v5 =>
  ((gi 77 (some x0) s3).bind fun v6 =>
  (cx_bV cx_th (ca 416 [vr_ v4, vi_ (x2 + 1), vr_ v5, vi_ x2, vi_ (v6 - x2)] s3) fun s7 =>
  ((gr 76 (some x0) s7).bind fun v8 =>
  ((gr 76 (some x0) s7).bind fun v9 =>
  ((gi 77 (some x0) s7).bind fun v10 =>
  (cx_bV cx_th (ca 416 [vr_ v8, vi_ (x2 + 1), vr_ v9, vi_ x2, vi_ (v10 - x2)] s7) fun s11 =>
  some (.inl none, s11)))))))))))) := by rfl
set_option maxRecDepth 100000 in
theorem cb_X1_applied (x1 x2 x3 x4 : Int32) (x0 : Nat) (s : σ) : cx_B ct_lc gi gr pi pr ai ar wi wr an nw na io dp ct_ft ct_sg 0 [] ct_X1_applied ca jm 1000 ct_X1_applied [some (vr_ (some x0)), some (vi_ x1), some (vi_ x2), some (vi_ x3), some (vi_ x4)] [] s =
  ((dp 227 (some x0) s).bind fun m1 =>
  (cx_bI cx_th (ca m1 [vr_ (some x0), vi_ x1] s) fun v3 s2 =>
  (if v3 = 0 then
    (cx_bI cx_th (ca 228 [vi_ x1] s2) fun v5 s4 =>
    (if v5 = 0 then
      jm 20 [vr_ (some x0), vi_ x1, vi_ x2, vi_ x3, vi_ x4] [vi_ 0] s4
    else
      jm 20 [vr_ (some x0), vi_ x1, vi_ x2, vi_ x3, vi_ x4] [vi_ 1] s4))
  else
    jm 20 [vr_ (some x0), vi_ x1, vi_ x2, vi_ x3, vi_ x4] [vi_ 1] s2))) := by rfl
set_option maxRecDepth 100000 in
theorem cb_X1_applied_20 (x1 x2 x3 x4 y0 : Int32) (x0 : Nat) (s : σ) : cx_B ct_lc gi gr pi pr ai ar wi wr an nw na io dp ct_ft ct_sg 0 [] ct_X1_applied ca jm 1000 (pj_at ct_X1_applied 20) [some (vr_ (some x0)), some (vi_ x1), some (vi_ x2), some (vi_ x3), some (vi_ x4)] [vi_ y0] s =
  (cx_bV cx_th (ca 223 [vi_ y0, vi_ 4] s) fun s1 =>
  (if x2 < 0 then
    jm 41 [vr_ (some x0), vi_ x1, vi_ x2, vi_ x3, vi_ x4] [vi_ 0] s1
  else
    ((gi 52 (some x0) s1).bind fun v2 =>
    (if x2 < v2 then
      jm 41 [vr_ (some x0), vi_ x1, vi_ x2, vi_ x3, vi_ x4] [vi_ 1] s1
    else
      jm 41 [vr_ (some x0), vi_ x1, vi_ x2, vi_ x3, vi_ x4] [vi_ 0] s1)))) := by rfl
set_option maxRecDepth 100000 in
theorem cb_X1_applied_41 (x1 x2 x3 x4 y0 : Int32) (x0 : Nat) (s : σ) : cx_B ct_lc gi gr pi pr ai ar wi wr an nw na io dp ct_ft ct_sg 0 [] ct_X1_applied ca jm 1000 (pj_at ct_X1_applied 41) [some (vr_ (some x0)), some (vi_ x1), some (vi_ x2), some (vi_ x3), some (vi_ x4)] [vi_ y0] s =
  (cx_bV cx_th (ca 223 [vi_ y0, vi_ 2] s) fun s1 =>
  ((gr 67 (some x0) s1).bind fun v2 =>
  ((wi 0 v2 x3 x4 s1).bind fun s3 =>
  ((gr 67 (some x0) s3).bind fun v4 =>
  ((wi 0 v4 (x3 + 1) x2 s3).bind fun s5 =>
  ((dp 227 (some x0) s5).bind fun m6 =>
  (cx_bI cx_th (ca m6 [vr_ (some x0), vi_ x1] s5) fun v8 s7 =>
  (if v8 = 0 then
    ((dp 224 (some x0) s7).bind fun m9 =>
    (cx_bI cx_th (ca m9 [vr_ (some x0)] s7) fun v11 s10 =>
    (if 0 < (lg_cmp (((x4 : Int32).toInt64 + (x2 : Int32).toInt64) + 1) (v11 : Int32).toInt64) then
      jm 110 [vr_ (some x0), vi_ x1, vi_ x2, vi_ x3, vi_ x4] [vi_ 0] s10
    else
      jm 110 [vr_ (some x0), vi_ x1, vi_ x2, vi_ x3, vi_ x4] [vi_ 1] s10)))
  else
    ((dp 221 (some x0) s7).bind fun m12 =>
    (cx_bV cx_th (ca m12 [vr_ (some x0), vi_ (x1 - 1000000), vi_ 2, vi_ x3, vi_ ((x4 + x2) + 1)] s7) fun s13 =>
    some (.inl none, s13))))))))))) := by rfl
set_option maxRecDepth 100000 in
theorem cb_X1_applied_110 (x1 x2 x3 x4 y0 : Int32) (x0 : Nat) (s : σ) : cx_B ct_lc gi gr pi pr ai ar wi wr an nw na io dp ct_ft ct_sg 0 [] ct_X1_applied ca jm 1000 (pj_at ct_X1_applied 110) [some (vr_ (some x0)), some (vi_ x1), some (vi_ x2), some (vi_ x3), some (vi_ x4)] [vi_ y0] s =
  (cx_bV cx_th (ca 223 [vi_ y0, vi_ 5] s) fun s1 =>
  ((dp 229 (some x0) s1).bind fun m2 =>
  (cx_bV cx_th (ca m2 [vr_ (some x0), vi_ (x1 - 2000000), vi_ 2, vi_ x3, vi_ ((x4 + x2) + 1)] s1) fun s3 =>
  some (.inl none, s3)))) := by rfl
set_option maxRecDepth 100000 in
theorem cb_X1_hexadecimal (x1 x2 : Int32) (x0 : Nat) (s : σ) : cx_B ct_lc gi gr pi pr ai ar wi wr an nw na io dp ct_ft ct_sg 0 [] ct_X1_hexadecimal ca jm 1000 ct_X1_hexadecimal [some (vr_ (some x0)), some (vi_ x1), some (vi_ x2), none, none] [] s =
  (cx_bI cx_th (ca 192 [vi_ 8, vi_ x2] s) fun v2 s1 =>
  (cx_bI cx_th (ca 193 [vi_ 1, vi_ v2] s1) fun v4 s3 =>
  jm 13 [vr_ (some x0), vi_ x1, vi_ (v4 - 1)] [] s3)) := by rfl
set_option maxRecDepth 100000 in
theorem cb_X1_hexadecimal_13 (x1 x3 : Int32) (x0 : Nat) (s : σ) : cx_B ct_lc gi gr pi pr ai ar wi wr an nw na io dp ct_ft ct_sg 0 [] ct_X1_hexadecimal ca jm 1000 (pj_at ct_X1_hexadecimal 13) [some (vr_ (some x0)), some (vi_ x1), none, some (vi_ x3), none] [] s =
  (if x3 < 0 then
    some (.inl none, s)
  else
    (if (((x1 : Int32).toUInt32 >>> (((4 * x3) : Int32).toUInt32 &&& Int32.toUInt32 31)).toInt32 &&& 15) < 10 then
      ((dp 233 (some x0) s).bind fun m1 =>
      (cx_bV cx_th (ca m1 [vr_ (some x0), vi_ (48 + (((x1 : Int32).toUInt32 >>> (((4 * x3) : Int32).toUInt32 &&& Int32.toUInt32 31)).toInt32 &&& 15))] s) fun s2 =>
      jm 13 [vr_ (some x0), vi_ x1, vi_ (x3 + (-1))] [] s2))
    else
      ((dp 233 (some x0) s).bind fun m3 =>
      (cx_bV cx_th (ca m3 [vr_ (some x0), vi_ ((65 + (((x1 : Int32).toUInt32 >>> (((4 * x3) : Int32).toUInt32 &&& Int32.toUInt32 31)).toInt32 &&& 15)) - 10)] s) fun s4 =>
      jm 13 [vr_ (some x0), vi_ x1, vi_ (x3 + (-1))] [] s4)))) := by rfl
set_option maxRecDepth 100000 in
theorem cb_X1_valued (x1 x2 x3 x4 x5 : Int32) (x0 : Nat) (s : σ) : cx_B ct_lc gi gr pi pr ai ar wi wr an nw na io dp ct_ft ct_sg 1 [] ct_X1_valued ca jm 1000 ct_X1_valued [some (vr_ (some x0)), some (vi_ x1), some (vi_ x2), some (vi_ x3), some (vi_ x4), some (vi_ x5), none] [] s =
  (if x1 = Int32.ofInt 4 then
    ((gr 59 (some x0) s).bind fun v1 =>
    ((dp 366 v1 s).bind fun m2 =>
    (cx_bI cx_th (ca m2 [vr_ v1] s) fun v4 s3 =>
    some (.inl (some (vi_ v4)), s3))))
  else
  (if x1 = Int32.ofInt 5 then
    ((gr 59 (some x0) s).bind fun v5 =>
    ((dp 367 v5 s).bind fun m6 =>
    (cx_bI cx_th (ca m6 [vr_ v5] s) fun v8 s7 =>
    some (.inl (some (vi_ v8)), s7))))
  else
  (if x1 = Int32.ofInt 6 then
    (cx_bI cx_th (ca 194 [vi_ x2] s) fun v10 s9 =>
    some (.inl (some (vi_ v10)), s9))
  else
  (if x1 = Int32.ofInt 7 then
    ((gr 59 (some x0) s).bind fun v11 =>
    ((gi 164 v11 s).bind fun v12 =>
    (if 0 < v12 then
      jm 88 [vr_ (some x0)] [vi_ 1] s
    else
      jm 88 [vr_ (some x0)] [vi_ 0] s)))
  else
  (if x1 = Int32.ofInt 8 then
    (if x2 < 0 then
      some (.inl (some (vi_ 0)), s)
    else
      (if x2 < 4 then
        ((gr 57 (some x0) s).bind fun v13 =>
        ((ar v13 x2 s).bind fun v14 =>
        ((pr 59 (some x0) v14 s).bind fun s15 =>
        some (.inl (some (vi_ (-1))), s15))))
      else
        some (.inl (some (vi_ 0)), s)))
  else
  (if x1 = Int32.ofInt 9 then
    (if x2 < 0 then
      some (.inl (some (vi_ 0)), s)
    else
      (if x2 < 2 then
        ((gr 58 (some x0) s).bind fun v16 =>
        ((ar v16 x2 s).bind fun v17 =>
        ((pr 60 (some x0) v17 s).bind fun s18 =>
        some (.inl (some (vi_ (-1))), s18))))
      else
        some (.inl (some (vi_ 0)), s)))
  else
  (if x1 = Int32.ofInt 10 then
    ((gr 59 (some x0) s).bind fun v19 =>
    ((pi 164 v19 0 s).bind fun s20 =>
    some (.inl (some (vi_ 0)), s20)))
  else
  (if x1 = Int32.ofInt 11 then
    ((dp 240 (some x0) s).bind fun m21 =>
    (cx_bI cx_th (ca m21 [vr_ (some x0), vi_ x2, vi_ x5] s) fun v23 s22 =>
    some (.inl (some (vi_ v23)), s22)))
  else
  (if x1 = Int32.ofInt 12 then
    ((gr 59 (some x0) s).bind fun v24 =>
    ((dp 367 v24 s).bind fun m25 =>
    (cx_bI cx_th (ca m25 [vr_ v24] s) fun v27 s26 =>
    some (.inl (some (vi_ v27)), s26))))
  else
  (if x1 = Int32.ofInt 13 then
    ((gr 59 (some x0) s).bind fun v28 =>
    ((dp 367 v28 s).bind fun m29 =>
    (cx_bI cx_th (ca m29 [vr_ v28] s) fun v31 s30 =>
    some (.inl (some (vi_ v31)), s30))))
  else
  (if x1 = Int32.ofInt 14 then
    (if x4 = 0 then
      (cx_bV cx_th (ca 223 [vi_ 0, vi_ 3] s) fun s32 =>
      ((pj_ldiv ((x2 : Int32).toInt64 * (x3 : Int32).toInt64) (x4 : Int32).toInt64).bind fun v33 =>
      some (.inl (some (vi_ (v33 : Int64).toInt32)), s32)))
    else
      (cx_bV cx_th (ca 223 [vi_ 1, vi_ 3] s) fun s34 =>
      ((pj_ldiv ((x2 : Int32).toInt64 * (x3 : Int32).toInt64) (x4 : Int32).toInt64).bind fun v35 =>
      some (.inl (some (vi_ (v35 : Int64).toInt32)), s34))))
  else
  ((gr 59 (some x0) s).bind fun v36 =>
    ((dp 367 v36 s).bind fun m37 =>
    (cx_bI cx_th (ca m37 [vr_ v36] s) fun v39 s38 =>
    some (.inl (some (vi_ v39)), s38))))))))))))))) := by rfl
set_option maxRecDepth 100000 in
theorem cb_X1_valued_88 (y0 : Int32) (x0 : Nat) (s : σ) : cx_B ct_lc gi gr pi pr ai ar wi wr an nw na io dp ct_ft ct_sg 1 [] ct_X1_valued ca jm 1000 (pj_at ct_X1_valued 88) [some (vr_ (some x0)), none, none, none, none, none, none] [vi_ y0] s =
  (if y0 = 0 then
    (if y0 = 0 then
      some (.inl (some (vi_ 0)), s)
    else
      some (.inl (some (vi_ (-1))), s))
  else
    ((gr 59 (some x0) s).bind fun v1 =>
    ((gi 164 v1 s).bind fun v2 =>
    ((pi 164 v1 (v2 - 1) s).bind fun s3 =>
    (if y0 = 0 then
      some (.inl (some (vi_ 0)), s3)
    else
      some (.inl (some (vi_ (-1))), s3)))))) := by rfl
set_option maxRecDepth 100000 in
theorem cb_X1_got (x1 x2 : Int32) (x0 : Nat) (s : σ) : cx_B ct_lc gi gr pi pr ai ar wi wr an nw na io dp ct_ft ct_sg 1 [] ct_X1_got ca jm 1000 ct_X1_got [some (vr_ (some x0)), some (vi_ x1), some (vi_ x2), none, none, none, none] [] s =
  (if x1 < 0 then
    some (.inl (some (vi_ 0)), s)
  else
    ((gi 52 (some x0) s).bind fun v1 =>
    (if x1 < v1 then
      ((gi 77 (some x0) s).bind fun v2 =>
      (if v2 = 100 then
        some (.inl (some (vi_ 0)), s)
      else
        ((gi 64 (some x0) s).bind fun v3 =>
        ((gr 47 (some x0) s).bind fun v4 =>
        ((gr 68 (some x0) s).bind fun v5 =>
        ((gi 72 (some x0) s).bind fun v6 =>
        ((ai 0 v5 (v6 - 1) s).bind fun v7 =>
        ((ai 0 v4 v7 s).bind fun v8 =>
        ((gi 52 (some x0) s).bind fun v9 =>
        ((gi 77 (some x0) s).bind fun v10 =>
        jm 57 [vr_ (some x0), vi_ x1, vi_ (v3 + v8), vi_ v9, vi_ v10] [] s))))))))))
    else
      some (.inl (some (vi_ 0)), s)))) := by rfl
set_option maxRecDepth 100000 in
theorem cb_X1_got_57 (x1 x3 x4 x5 : Int32) (x0 : Nat) (s : σ) : cx_B ct_lc gi gr pi pr ai ar wi wr an nw na io dp ct_ft ct_sg 1 [] ct_X1_got ca jm 1000 (pj_at ct_X1_got 57) [some (vr_ (some x0)), some (vi_ x1), none, some (vi_ x3), some (vi_ x4), some (vi_ x5), none] [] s =
  (if 0 < x5 then
    ((gr 75 (some x0) s).bind fun v1 =>
    ((ai 0 v1 (x5 - 1) s).bind fun v2 =>
    ((gr 76 (some x0) s).bind fun v3 =>
    ((ai 0 v3 (x5 - 1) s).bind fun v4 =>
    (if (x4 - (v2 + v4)) < (x1 + 1) then
      ((gr 75 (some x0) s).bind fun v5 =>
      ((ai 0 v5 (x5 - 1) s).bind fun v6 =>
      jm 57 [vr_ (some x0), vi_ x1, vi_ x3, vi_ v6, vi_ (x5 + (-1))] [] s))
    else
      jm 107 [vr_ (some x0), vi_ x1, vi_ x3, vi_ x4, vi_ x5] [] s)))))
  else
    jm 107 [vr_ (some x0), vi_ x1, vi_ x3, vi_ x4, vi_ x5] [] s) := by rfl
set_option maxRecDepth 100000 in
theorem cb_X1_got_107 (x1 x3 x4 x5 : Int32) (x0 : Nat) (s : σ) : cx_B ct_lc gi gr pi pr ai ar wi wr an nw na io dp ct_ft ct_sg 1 [] ct_X1_got ca jm 1000 (pj_at ct_X1_got 107) [some (vr_ (some x0)), some (vi_ x1), none, some (vi_ x3), some (vi_ x4), some (vi_ x5), none] [] s =
  (if ((x4 - x1) - 1) < x3 then
    some (.inl (some (vi_ 0)), s)
  else
    ((gi 77 (some x0) s).bind fun v1 =>
    ((gr 75 (some x0) s).bind fun v2 =>
    ((an v2 s).bind fun v3 =>
    (if v1 = v3 then
      ((gr 75 (some x0) s).bind fun v4 =>
      ((gi 77 (some x0) s).bind fun v5 =>
      (cx_bR cx_th (ca 317 [vr_ v4, vi_ v5] s) fun v7 s6 =>
      ((pr 75 (some x0) v7 s6).bind fun s8 =>
      ((gr 76 (some x0) s8).bind fun v9 =>
      ((gi 77 (some x0) s8).bind fun v10 =>
      (cx_bR cx_th (ca 317 [vr_ v9, vi_ v10] s8) fun v12 s11 =>
      ((pr 76 (some x0) v12 s11).bind fun s13 =>
      jm 165 [vr_ (some x0), vi_ x1, vi_ x5, vi_ ((x4 - x1) - 1)] [] s13))))))))
    else
      jm 165 [vr_ (some x0), vi_ x1, vi_ x5, vi_ ((x4 - x1) - 1)] [] s))))) := by rfl
set_option maxRecDepth 100000 in
theorem cb_X1_got_165 (x1 x5 x6 : Int32) (x0 : Nat) (s : σ) : cx_B ct_lc gi gr pi pr ai ar wi wr an nw na io dp ct_ft ct_sg 1 [] ct_X1_got ca jm 1000 (pj_at ct_X1_got 165) [some (vr_ (some x0)), some (vi_ x1), none, none, none, some (vi_ x5), some (vi_ x6)] [] s =
  ((gr 75 (some x0) s).bind fun v1 =>
  ((gr 75 (some x0) s).bind fun v2 =>
  ((gi 77 (some x0) s).bind fun v3 =>
  (cx_bV cx_th (ca 416 [vr_ v1, vi_ x5, vr_ v2, vi_ (x5 + 1), vi_ (v3 - x5)] s) fun s4 =>
  ((gr 76 (some x0) s4).bind fun v5 =>
  ((gr 76 (some x0) s4).bind fun v6 =>
  ((gi 77 (some x0) s4).bind fun v7 =>
  (cx_bV cx_th (ca 416 [vr_ v5, vi_ x5, vr_ v6, vi_ (x5 + 1), vi_ (v7 - x5)] s4) fun s8 =>
  ((gr 75 (some x0) s8).bind fun v9 =>
  ((wi 0 v9 x5 x6 s8).bind fun s10 =>
  ((gr 76 (some x0) s10).bind fun v11 =>
  ((wi 0 v11 x5 (x1 + 1) s10).bind fun s12 =>
  ((gi 77 (some x0) s12).bind fun v13 =>
  ((pi 77 (some x0) (v13 + 1) s12).bind fun s14 =>
  some (.inl (some (vi_ x6)), s14))))))))))))))) := by rfl
set_option maxRecDepth 100000 in
theorem cb_X1_does (x1 : Int32) (x0 : Nat) (s : σ) : cx_B ct_lc gi gr pi pr ai ar wi wr an nw na io dp ct_ft ct_sg 0 [] ct_X1_does ca jm 1000 ct_X1_does [some (vr_ (some x0)), some (vi_ x1), none, none] [] s =
  (if x1 = Int32.ofInt 1 then
    ((gi 62 (some x0) s).bind fun v1 =>
    ((dp 235 (some x0) s).bind fun m2 =>
    (cx_bI cx_th (ca m2 [vr_ (some x0), vl_ (v1 : Int32).toInt64] s) fun v4 s3 =>
    (cx_bV cx_th (ca 223 [vi_ v4, vi_ 2] s3) fun s5 =>
    ((gr 61 (some x0) s5).bind fun v6 =>
    ((gi 62 (some x0) s5).bind fun v7 =>
    ((ai 0 v6 v7 s5).bind fun v8 =>
    ((pi 62 (some x0) v8 s5).bind fun s9 =>
    some (.inl none, s9)))))))))
  else
  (if x1 = Int32.ofInt 2 then
    ((gi 62 (some x0) s).bind fun v10 =>
    ((pi 62 (some x0) (-v10) s).bind fun s11 =>
    some (.inl none, s11)))
  else
  (if x1 = Int32.ofInt 3 then
    ((gi 62 (some x0) s).bind fun v12 =>
    ((pi 62 (some x0) (v12 ^^^ (-1)) s).bind fun s13 =>
    some (.inl none, s13)))
  else
  (if x1 = Int32.ofInt 4 then
    ((dp 242 (some x0) s).bind fun m14 =>
    (cx_bV cx_th (ca m14 [vr_ (some x0)] s) fun s15 =>
    some (.inl none, s15)))
  else
  (if x1 = Int32.ofInt 5 then
    ((gi 62 (some x0) s).bind fun v16 =>
    ((dp 235 (some x0) s).bind fun m17 =>
    (cx_bI cx_th (ca m17 [vr_ (some x0), vl_ (v16 : Int32).toInt64] s) fun v19 s18 =>
    (cx_bV cx_th (ca 223 [vi_ v19, vi_ 2] s18) fun s20 =>
    ((gr 61 (some x0) s20).bind fun v21 =>
    ((gi 62 (some x0) s20).bind fun v22 =>
    ((gi 63 (some x0) s20).bind fun v23 =>
    ((wi 0 v21 v22 v23 s20).bind fun s24 =>
    some (.inl none, s24)))))))))
  else
  (if x1 = Int32.ofInt 6 then
    ((gi 63 (some x0) s).bind fun v25 =>
    ((gi 62 (some x0) s).bind fun v26 =>
    ((dp 235 (some x0) s).bind fun m27 =>
    (cx_bI cx_th (ca m27 [vr_ (some x0), vl_ ((v25 : Int32).toInt64 + ((v26 >>> (2 &&& 31)) : Int32).toInt64)] s) fun v29 s28 =>
    (cx_bV cx_th (ca 223 [vi_ v29, vi_ 2] s28) fun s30 =>
    ((gr 61 (some x0) s30).bind fun v31 =>
    ((ai 0 v31 (((v25 : Int32).toInt64 + ((v26 >>> (2 &&& 31)) : Int32).toInt64) : Int64).toInt32 s30).bind fun v32 =>
    ((gi 62 (some x0) s30).bind fun v33 =>
    ((pi 62 (some x0) ((v32 >>> ((8 * (v33 &&& 3)) &&& 31)) &&& 255) s30).bind fun s34 =>
    some (.inl none, s34))))))))))
  else
  (if x1 = Int32.ofInt 7 then
    ((gi 63 (some x0) s).bind fun v35 =>
    ((gi 62 (some x0) s).bind fun v36 =>
    ((dp 235 (some x0) s).bind fun m37 =>
    (cx_bI cx_th (ca m37 [vr_ (some x0), vl_ ((v35 : Int32).toInt64 + ((v36 >>> (2 &&& 31)) : Int32).toInt64)] s) fun v39 s38 =>
    (cx_bV cx_th (ca 223 [vi_ v39, vi_ 2] s38) fun s40 =>
    ((gi 62 (some x0) s40).bind fun v41 =>
    ((pi 62 (some x0) (((((v35 : Int32).toInt64 + ((v36 >>> (2 &&& 31)) : Int32).toInt64) : Int64).toInt32 <<< (2 &&& 31)) ||| (v41 &&& 3)) s40).bind fun s42 =>
    some (.inl none, s42))))))))
  else
  (if x1 = Int32.ofInt 8 then
    ((gi 62 (some x0) s).bind fun v43 =>
    ((gr 61 (some x0) s).bind fun v44 =>
    ((gi 62 (some x0) s).bind fun v45 =>
    ((gr 61 (some x0) s).bind fun v46 =>
    ((gi 62 (some x0) s).bind fun v47 =>
    ((ai 0 v46 (v47 >>> (2 &&& 31)) s).bind fun v48 =>
    ((gi 63 (some x0) s).bind fun v49 =>
    ((wi 0 v44 (v45 >>> (2 &&& 31)) ((v48 &&& ((255 <<< ((8 * (v43 &&& 3)) &&& 31)) ^^^ (-1))) ||| ((v49 &&& 255) <<< ((8 * (v43 &&& 3)) &&& 31))) s).bind fun s50 =>
    some (.inl none, s50)))))))))
  else
  (if x1 = Int32.ofInt 9 then
    ((dp 222 (some x0) s).bind fun m51 =>
    (cx_bV cx_th (ca m51 [vr_ (some x0)] s) fun s52 =>
    some (.inl none, s52)))
  else
  (if x1 = Int32.ofInt 10 then
    (cx_bV cx_th (ca 315 [vr_ (some (nw 2 s).1), vi_ 0] (nw 2 s).2) fun s53 =>
    some (.inr (nw 2 s).1, s53))
  else
  ((dp 243 (some x0) s).bind fun m54 =>
    (cx_bV cx_th (ca m54 [vr_ (some x0), vi_ x1] s) fun s55 =>
    some (.inl none, s55))))))))))))) := by rfl
set_option maxRecDepth 100000 in
theorem cb_X1_back (x0 : Nat) (s : σ) : cx_B ct_lc gi gr pi pr ai ar wi wr an nw na io dp ct_ft ct_sg 0 [] ct_X1_back ca jm 1000 ct_X1_back [some (vr_ (some x0))] [] s =
  ((gi 72 (some x0) s).bind fun v1 =>
  ((pi 72 (some x0) (v1 - 1) s).bind fun s2 =>
  ((gr 69 (some x0) s2).bind fun v3 =>
  ((gi 72 (some x0) s2).bind fun v4 =>
  ((ai 0 v3 v4 s2).bind fun v5 =>
  ((pi 66 (some x0) v5 s2).bind fun s6 =>
  ((gr 70 (some x0) s6).bind fun v7 =>
  ((gi 72 (some x0) s6).bind fun v8 =>
  ((ai 0 v7 v8 s6).bind fun v9 =>
  ((pi 64 (some x0) v9 s6).bind fun s10 =>
  ((gr 71 (some x0) s10).bind fun v11 =>
  ((gi 72 (some x0) s10).bind fun v12 =>
  ((ai 0 v11 v12 s10).bind fun v13 =>
  ((pi 65 (some x0) v13 s10).bind fun s14 =>
  some (.inl none, s14))))))))))))))) := by rfl
set_option maxRecDepth 100000 in
theorem cb_X1_calculates (x1 : Int32) (x0 : Nat) (s : σ) : cx_B ct_lc gi gr pi pr ai ar wi wr an nw na io dp ct_ft ct_sg 0 [] ct_X1_calculates ca jm 1000 ct_X1_calculates [some (vr_ (some x0)), some (vi_ x1), none] [] s =
  (if x1 < 40 then
    (if (x1 - 20) = 3 then
      jm 49 [vr_ (some x0), vi_ (x1 - 20)] [] s
    else
      (if (x1 - 20) = 4 then
        jm 49 [vr_ (some x0), vi_ (x1 - 20)] [] s
      else
        (cx_bV cx_th (ca 223 [vi_ 1, vi_ 3] s) fun s1 =>
        ((gi 63 (some x0) s1).bind fun v2 =>
        ((gi 62 (some x0) s1).bind fun v3 =>
        (cx_bI cx_th (ca 215 [vi_ (x1 - 20), vi_ v2, vi_ v3] s1) fun v5 s4 =>
        ((pi 62 (some x0) v5 s4).bind fun s6 =>
        some (.inl none, s6))))))))
  else
    ((gi 63 (some x0) s).bind fun v7 =>
    ((gi 62 (some x0) s).bind fun v8 =>
    (cx_bI cx_th (ca 214 [vi_ (x1 - 40), vi_ v7, vi_ v8] s) fun v10 s9 =>
    (if v10 = 0 then
      ((pi 62 (some x0) 0 s9).bind fun s11 =>
      some (.inl none, s11))
    else
      ((pi 62 (some x0) (-1) s9).bind fun s12 =>
      some (.inl none, s12))))))) := by rfl
set_option maxRecDepth 100000 in
theorem cb_X1_calculates_49 (x2 : Int32) (x0 : Nat) (s : σ) : cx_B ct_lc gi gr pi pr ai ar wi wr an nw na io dp ct_ft ct_sg 0 [] ct_X1_calculates ca jm 1000 (pj_at ct_X1_calculates 49) [some (vr_ (some x0)), none, some (vi_ x2)] [] s =
  ((gi 62 (some x0) s).bind fun v1 =>
  (if v1 = 0 then
    (cx_bV cx_th (ca 223 [vi_ 0, vi_ 3] s) fun s2 =>
    ((gi 63 (some x0) s2).bind fun v3 =>
    ((gi 62 (some x0) s2).bind fun v4 =>
    (cx_bI cx_th (ca 215 [vi_ x2, vi_ v3, vi_ v4] s2) fun v6 s5 =>
    ((pi 62 (some x0) v6 s5).bind fun s7 =>
    some (.inl none, s7))))))
  else
    (cx_bV cx_th (ca 223 [vi_ 1, vi_ 3] s) fun s8 =>
    ((gi 63 (some x0) s8).bind fun v9 =>
    ((gi 62 (some x0) s8).bind fun v10 =>
    (cx_bI cx_th (ca 215 [vi_ x2, vi_ v9, vi_ v10] s8) fun v12 s11 =>
    ((pi 62 (some x0) v12 s11).bind fun s13 =>
    some (.inl none, s13)))))))) := by rfl
set_option maxRecDepth 100000 in
theorem cb_X1_value (x0 : Nat) (s : σ) : cx_B ct_lc gi gr pi pr ai ar wi wr an nw na io dp ct_ft ct_sg 1 [] ct_X1_value ca jm 1000 ct_X1_value [some (vr_ (some x0))] [] s =
  ((gi 74 (some x0) s).bind fun v1 =>
  some (.inl (some (vi_ v1)), s)) := by rfl
set_option maxRecDepth 100000 in
theorem cb_X1_out (x1 : Int32) (x0 : Nat) (s : σ) : cx_B ct_lc gi gr pi pr ai ar wi wr an nw na io dp ct_ft ct_sg 1 [] ct_X1_out ca jm 1000 ct_X1_out [some (vr_ (some x0)), some (vi_ x1)] [] s =
  (if x1 < 0 then
    some (.inl (some (vi_ (-1))), s)
  else
    (if x1 < 2 then
      ((gr 58 (some x0) s).bind fun v1 =>
      ((ar v1 x1 s).bind fun v2 =>
      ((gi 163 v2 s).bind fun v3 =>
      some (.inl (some (vi_ v3)), s))))
    else
      some (.inl (some (vi_ (-1))), s))) := by rfl
set_option maxRecDepth 100000 in
theorem cb_X1_fuel (x0 : Nat) (s : σ) : cx_B ct_lc gi gr pi pr ai ar wi wr an nw na io dp ct_ft ct_sg 1 [] ct_X1_fuel ca jm 1000 ct_X1_fuel [some (vr_ (some x0))] [] s =
  ((gi 73 (some x0) s).bind fun v1 =>
  some (.inl (some (vi_ v1)), s)) := by rfl
set_option maxRecDepth 100000 in
theorem cb_X1_outAt (x1 x2 : Int32) (x0 : Nat) (s : σ) : cx_B ct_lc gi gr pi pr ai ar wi wr an nw na io dp ct_ft ct_sg 1 [] ct_X1_outAt ca jm 1000 ct_X1_outAt [some (vr_ (some x0)), some (vi_ x1), some (vi_ x2)] [] s =
  (if x1 < 0 then
    (cx_bV cx_th (ca 248 [vi_ 0] s) fun s1 =>
    ((gr 58 (some x0) s1).bind fun v2 =>
    ((ar v2 x1 s1).bind fun v3 =>
    ((gr 162 v3 s1).bind fun v4 =>
    ((ai 1 v4 x2 s1).bind fun v5 =>
    some (.inl (some (vi_ (v5 &&& 255))), s1))))))
  else
    (if x1 < 2 then
      (if x2 < 0 then
        (cx_bV cx_th (ca 248 [vi_ 0] s) fun s6 =>
        ((gr 58 (some x0) s6).bind fun v7 =>
        ((ar v7 x1 s6).bind fun v8 =>
        ((gr 162 v8 s6).bind fun v9 =>
        ((ai 1 v9 x2 s6).bind fun v10 =>
        some (.inl (some (vi_ (v10 &&& 255))), s6))))))
      else
        ((gr 58 (some x0) s).bind fun v11 =>
        ((ar v11 x1 s).bind fun v12 =>
        ((gi 163 v12 s).bind fun v13 =>
        (if x2 < v13 then
          (cx_bV cx_th (ca 248 [vi_ 1] s) fun s14 =>
          ((gr 58 (some x0) s14).bind fun v15 =>
          ((ar v15 x1 s14).bind fun v16 =>
          ((gr 162 v16 s14).bind fun v17 =>
          ((ai 1 v17 x2 s14).bind fun v18 =>
          some (.inl (some (vi_ (v18 &&& 255))), s14))))))
        else
          (cx_bV cx_th (ca 248 [vi_ 0] s) fun s19 =>
          ((gr 58 (some x0) s19).bind fun v20 =>
          ((ar v20 x1 s19).bind fun v21 =>
          ((gr 162 v21 s19).bind fun v22 =>
          ((ai 1 v22 x2 s19).bind fun v23 =>
          some (.inl (some (vi_ (v23 &&& 255))), s19)))))))))))
    else
      (cx_bV cx_th (ca 248 [vi_ 0] s) fun s24 =>
      ((gr 58 (some x0) s24).bind fun v25 =>
      ((ar v25 x1 s24).bind fun v26 =>
      ((gr 162 v26 s24).bind fun v27 =>
      ((ai 1 v27 x2 s24).bind fun v28 =>
      some (.inl (some (vi_ (v28 &&& 255))), s24)))))))) := by rfl
set_option maxRecDepth 100000 in
theorem cb_X1_exists (x0 : Int32) (s : σ) : cx_B ct_lc gi gr pi pr ai ar wi wr an nw na io dp ct_ft ct_sg 0 [] ct_X1_exists ca jm 1000 ct_X1_exists [some (vi_ x0)] [] s =
  (if x0 = 0 then
    (cx_bV cx_th (ca 133 [vr_ (some (nw 43 s).1)] (nw 43 s).2) fun s1 =>
    some (.inr (nw 43 s).1, s1))
  else
    some (.inl none, s)) := by rfl
set_option maxRecDepth 100000 in
theorem cb_X1_word (x1 : Int32) (x0 : Nat) (s : σ) : cx_B ct_lc gi gr pi pr ai ar wi wr an nw na io dp ct_ft ct_sg 1 [] ct_X1_word ca jm 1000 ct_X1_word [some (vr_ (some x0)), some (vi_ x1)] [] s =
  (if x1 < 0 then
    (cx_bV cx_th (ca 248 [vi_ 0] s) fun s1 =>
    ((gr 61 (some x0) s1).bind fun v2 =>
    ((ai 0 v2 x1 s1).bind fun v3 =>
    some (.inl (some (vi_ v3)), s1))))
  else
    ((gi 52 (some x0) s).bind fun v4 =>
    (if x1 < v4 then
      (cx_bV cx_th (ca 248 [vi_ 1] s) fun s5 =>
      ((gr 61 (some x0) s5).bind fun v6 =>
      ((ai 0 v6 x1 s5).bind fun v7 =>
      some (.inl (some (vi_ v7)), s5))))
    else
      (cx_bV cx_th (ca 248 [vi_ 0] s) fun s8 =>
      ((gr 61 (some x0) s8).bind fun v9 =>
      ((ai 0 v9 x1 s8).bind fun v10 =>
      some (.inl (some (vi_ v10)), s8))))))) := by rfl
set_option maxRecDepth 100000 in
theorem cb_X10_init (x2 : Int32) (x1 : Option Nat) (x0 : Nat) (s : σ) : cx_B ct_lc gi gr pi pr ai ar wi wr an nw na io dp ct_ft ct_sg 0 [] ct_X10_init ca jm 1000 ct_X10_init [some (vr_ (some x0)), some (vr_ x1), some (vi_ x2)] [] s =
  (cx_bV cx_th (ca 151 [vr_ (some x0)] s) fun s1 =>
  (cx_bV cx_th (ca 72 [vr_ (some (nw 36 s1).1)] (nw 36 s1).2) fun s2 =>
  ((pr 82 (some x0) (some (nw 36 s1).1) s2).bind fun s3 =>
  (cx_bV cx_th (ca 117 [vr_ (some (nw 27 s3).1)] (nw 27 s3).2) fun s4 =>
  ((pr 83 (some x0) (some (nw 27 s3).1) s4).bind fun s5 =>
  ((pr 78 (some x0) x1 s5).bind fun s6 =>
  ((pi 79 (some x0) x2 s6).bind fun s7 =>
  some (.inl none, s7)))))))) := by rfl
set_option maxRecDepth 100000 in
theorem cb_X10_all (x0 : Nat) (s : σ) : cx_B ct_lc gi gr pi pr ai ar wi wr an nw na io dp ct_ft ct_sg 0 [(4, 42, 45, 8)] ct_X10_all ca jm 1000 ct_X10_all [some (vr_ (some x0)), none, none] [] s =
  ((dp 252 (some x0) s).bind fun m1 =>
  (cx_bV cx_th (ca m1 [vr_ (some x0)] s) fun s2 =>
  ((gi 80 (some x0) s2).bind fun v3 =>
  ((gi 79 (some x0) s2).bind fun v4 =>
  (if v3 = v4 then
    ((gi 79 (some x0) (nw 14 s2).2).bind fun v5 =>
    ((gi 81 (some x0) (nw 14 s2).2).bind fun v6 =>
    (cx_bV (fun e7 s8 => (io 8 (some e7) s8).bind fun b9 => cx_ib b9 (jm 45 [vr_ (some x0)] [vr_ (some e7)] s8) (some (.inr e7, s8))) (ca 266 [vr_ (some (nw 14 s2).1), vi_ 5, vi_ v5, vi_ v6, vi_ 0, vr_ (some 1010)] (nw 14 s2).2) fun s10 =>
    ((dp 265 (some x0) s10).bind fun m11 =>
    (cx_bV cx_th (ca m11 [vr_ (some x0), vr_ (some (nw 14 s2).1)] s10) fun s12 =>
    ((gi 84 (some (nw 14 s2).1) s12).bind fun v13 =>
    (if v13 < 5 then
      jm 0 [vr_ (some x0)] [] s12
    else
      some (.inl none, s12))))))))
  else
    ((dp 254 (some x0) s2).bind fun m17 =>
    (cx_bR (fun e14 s15 => (io 8 (some e14) s15).bind fun b16 => cx_ib b16 (jm 45 [vr_ (some x0)] [vr_ (some e14)] s15) (some (.inr e14, s15))) (ca m17 [vr_ (some x0)] s2) fun v19 s18 =>
    ((dp 265 (some x0) s18).bind fun m20 =>
    (cx_bV cx_th (ca m20 [vr_ (some x0), vr_ v19] s18) fun s21 =>
    ((gi 84 v19 s21).bind fun v22 =>
    (if v22 < 5 then
      jm 0 [vr_ (some x0)] [] s21
    else
      some (.inl none, s21)))))))))))) := by rfl
set_option maxRecDepth 100000 in
theorem cb_X10_all_0 (x0 : Nat) (s : σ) : cx_B ct_lc gi gr pi pr ai ar wi wr an nw na io dp ct_ft ct_sg 0 [(4, 42, 45, 8)] ct_X10_all ca jm 1000 (pj_at ct_X10_all 0) [some (vr_ (some x0)), none, none] [] s =
  ((dp 252 (some x0) s).bind fun m1 =>
  (cx_bV cx_th (ca m1 [vr_ (some x0)] s) fun s2 =>
  ((gi 80 (some x0) s2).bind fun v3 =>
  ((gi 79 (some x0) s2).bind fun v4 =>
  (if v3 = v4 then
    ((gi 79 (some x0) (nw 14 s2).2).bind fun v5 =>
    ((gi 81 (some x0) (nw 14 s2).2).bind fun v6 =>
    (cx_bV (fun e7 s8 => (io 8 (some e7) s8).bind fun b9 => cx_ib b9 (jm 45 [vr_ (some x0)] [vr_ (some e7)] s8) (some (.inr e7, s8))) (ca 266 [vr_ (some (nw 14 s2).1), vi_ 5, vi_ v5, vi_ v6, vi_ 0, vr_ (some 1010)] (nw 14 s2).2) fun s10 =>
    ((dp 265 (some x0) s10).bind fun m11 =>
    (cx_bV cx_th (ca m11 [vr_ (some x0), vr_ (some (nw 14 s2).1)] s10) fun s12 =>
    ((gi 84 (some (nw 14 s2).1) s12).bind fun v13 =>
    (if v13 < 5 then
      jm 0 [vr_ (some x0)] [] s12
    else
      some (.inl none, s12))))))))
  else
    ((dp 254 (some x0) s2).bind fun m17 =>
    (cx_bR (fun e14 s15 => (io 8 (some e14) s15).bind fun b16 => cx_ib b16 (jm 45 [vr_ (some x0)] [vr_ (some e14)] s15) (some (.inr e14, s15))) (ca m17 [vr_ (some x0)] s2) fun v19 s18 =>
    ((dp 265 (some x0) s18).bind fun m20 =>
    (cx_bV cx_th (ca m20 [vr_ (some x0), vr_ v19] s18) fun s21 =>
    ((gi 84 v19 s21).bind fun v22 =>
    (if v22 < 5 then
      jm 0 [vr_ (some x0)] [] s21
    else
      some (.inl none, s21)))))))))))) := by rfl
set_option maxRecDepth 100000 in
theorem cb_X10_all_45 (y0 : Option Nat) (x0 : Nat) (s : σ) : cx_B ct_lc gi gr pi pr ai ar wi wr an nw na io dp ct_ft ct_sg 0 [(4, 42, 45, 8)] ct_X10_all ca jm 1000 (pj_at ct_X10_all 45) [some (vr_ (some x0)), none, none] [vr_ y0] s =
  ((gi 91 y0 (nw 14 s).2).bind fun v1 =>
  ((gi 81 (some x0) (nw 14 s).2).bind fun v2 =>
  (cx_bV cx_th (ca 266 [vr_ (some (nw 14 s).1), vi_ 6, vi_ v1, vi_ v2, vi_ 0, vr_ (some 1010)] (nw 14 s).2) fun s3 =>
  ((dp 265 (some x0) s3).bind fun m4 =>
  (cx_bV cx_th (ca m4 [vr_ (some x0), vr_ (some (nw 14 s).1)] s3) fun s5 =>
  ((gi 84 (some (nw 14 s).1) s5).bind fun v6 =>
  (if v6 < 5 then
    jm 0 [vr_ (some x0)] [] s5
  else
    some (.inl none, s5)))))))) := by rfl
set_option maxRecDepth 100000 in
theorem cb_X10_blanks (x0 : Nat) (s : σ) : cx_B ct_lc gi gr pi pr ai ar wi wr an nw na io dp ct_ft ct_sg 0 [] ct_X10_blanks ca jm 1000 ct_X10_blanks [some (vr_ (some x0)), none] [] s =
  ((dp 253 (some x0) s).bind fun m1 =>
  (cx_bI cx_th (ca m1 [vr_ (some x0), vi_ 0] s) fun v3 s2 =>
  (if v3 = 10 then
    ((gi 81 (some x0) s2).bind fun v4 =>
    ((pi 81 (some x0) (v4 + 1) s2).bind fun s5 =>
    jm 22 [vr_ (some x0), vi_ v3] [] s5))
  else
    jm 22 [vr_ (some x0), vi_ v3] [] s2))) := by rfl
set_option maxRecDepth 100000 in
theorem cb_X10_blanks_0 (x0 : Nat) (s : σ) : cx_B ct_lc gi gr pi pr ai ar wi wr an nw na io dp ct_ft ct_sg 0 [] ct_X10_blanks ca jm 1000 (pj_at ct_X10_blanks 0) [some (vr_ (some x0)), none] [] s =
  ((dp 253 (some x0) s).bind fun m1 =>
  (cx_bI cx_th (ca m1 [vr_ (some x0), vi_ 0] s) fun v3 s2 =>
  (if v3 = 10 then
    ((gi 81 (some x0) s2).bind fun v4 =>
    ((pi 81 (some x0) (v4 + 1) s2).bind fun s5 =>
    jm 22 [vr_ (some x0), vi_ v3] [] s5))
  else
    jm 22 [vr_ (some x0), vi_ v3] [] s2))) := by rfl
set_option maxRecDepth 100000 in
theorem cb_X10_blanks_22 (x1 : Int32) (x0 : Nat) (s : σ) : cx_B ct_lc gi gr pi pr ai ar wi wr an nw na io dp ct_ft ct_sg 0 [] ct_X10_blanks ca jm 1000 (pj_at ct_X10_blanks 22) [some (vr_ (some x0)), some (vi_ x1)] [] s =
  (if x1 = 10 then
    ((gi 80 (some x0) s).bind fun v1 =>
    ((pi 80 (some x0) (v1 + 1) s).bind fun s2 =>
    jm 0 [vr_ (some x0)] [] s2))
  else
    (if x1 = 9 then
      ((gi 80 (some x0) s).bind fun v3 =>
      ((pi 80 (some x0) (v3 + 1) s).bind fun s4 =>
      jm 0 [vr_ (some x0)] [] s4))
    else
      (if x1 = 13 then
        ((gi 80 (some x0) s).bind fun v5 =>
        ((pi 80 (some x0) (v5 + 1) s).bind fun s6 =>
        jm 0 [vr_ (some x0)] [] s6))
      else
        (if x1 = 32 then
          ((gi 80 (some x0) s).bind fun v7 =>
          ((pi 80 (some x0) (v7 + 1) s).bind fun s8 =>
          jm 0 [vr_ (some x0)] [] s8))
        else
          (if x1 = 47 then
            ((dp 253 (some x0) s).bind fun m9 =>
            (cx_bI cx_th (ca m9 [vr_ (some x0), vi_ 1] s) fun v11 s10 =>
            (if v11 = 47 then
              jm 75 [vr_ (some x0)] [] s10
            else
              some (.inl none, s10))))
          else
            some (.inl none, s)))))) := by rfl
set_option maxRecDepth 100000 in
theorem cb_X10_blanks_75 (x0 : Nat) (s : σ) : cx_B ct_lc gi gr pi pr ai ar wi wr an nw na io dp ct_ft ct_sg 0 [] ct_X10_blanks ca jm 1000 (pj_at ct_X10_blanks 75) [some (vr_ (some x0)), none] [] s =
  ((gi 80 (some x0) s).bind fun v1 =>
  ((gi 79 (some x0) s).bind fun v2 =>
  (if v1 < v2 then
    ((dp 253 (some x0) s).bind fun m3 =>
    (cx_bI cx_th (ca m3 [vr_ (some x0), vi_ 0] s) fun v5 s4 =>
    (if v5 = 10 then
      jm 0 [vr_ (some x0)] [] s4
    else
      ((gi 80 (some x0) s4).bind fun v6 =>
      ((pi 80 (some x0) (v6 + 1) s4).bind fun s7 =>
      jm 75 [vr_ (some x0)] [] s7)))))
  else
    jm 0 [vr_ (some x0)] [] s))) := by rfl
set_option maxRecDepth 100000 in
theorem cb_X10_peek (x1 : Int32) (x0 : Nat) (s : σ) : cx_B ct_lc gi gr pi pr ai ar wi wr an nw na io dp ct_ft ct_sg 1 [] ct_X10_peek ca jm 1000 ct_X10_peek [some (vr_ (some x0)), some (vi_ x1)] [] s =
  ((gi 80 (some x0) s).bind fun v1 =>
  ((gi 79 (some x0) s).bind fun v2 =>
  (if (v1 + x1) < v2 then
    ((gr 78 (some x0) s).bind fun v3 =>
    ((gi 80 (some x0) s).bind fun v4 =>
    ((ai 1 v3 (v4 + x1) s).bind fun v5 =>
    some (.inl (some (vi_ (v5 &&& 255))), s))))
  else
    some (.inl (some (vi_ (-1))), s)))) := by rfl
set_option maxRecDepth 100000 in
theorem cb_X10_token (x0 : Nat) (s : σ) : cx_B ct_lc gi gr pi pr ai ar wi wr an nw na io dp ct_ft ct_sg 3 [] ct_X10_token ca jm 1000 ct_X10_token [some (vr_ (some x0)), none, none, none] [] s =
  ((dp 253 (some x0) s).bind fun m1 =>
  (cx_bI cx_th (ca m1 [vr_ (some x0), vi_ 0] s) fun v3 s2 =>
  (cx_bI cx_th (ca 255 [vi_ v3] s2) fun v5 s4 =>
  (if v5 = 0 then
    (cx_bI cx_th (ca 258 [vi_ v3] s4) fun v7 s6 =>
    (if v7 = 0 then
      (if v3 = 35 then
        ((dp 259 (some x0) s6).bind fun m8 =>
        (cx_bR cx_th (ca m8 [vr_ (some x0)] s6) fun v10 s9 =>
        some (.inl (some (vr_ v10)), s9)))
      else
        (if v3 = 39 then
          ((dp 261 (some x0) s6).bind fun m11 =>
          (cx_bR cx_th (ca m11 [vr_ (some x0)] s6) fun v13 s12 =>
          some (.inl (some (vr_ v13)), s12)))
        else
          (if v3 = 34 then
            ((dp 263 (some x0) s6).bind fun m14 =>
            (cx_bR cx_th (ca m14 [vr_ (some x0)] s6) fun v16 s15 =>
            some (.inl (some (vr_ v16)), s15)))
          else
            ((dp 253 (some x0) s6).bind fun m17 =>
            (cx_bI cx_th (ca m17 [vr_ (some x0), vi_ 1] s6) fun v19 s18 =>
            (cx_bR cx_th (ca 264 [vi_ v3, vi_ v19] s18) fun v21 s20 =>
            (if v21 = none then
              ((gi 80 (some x0) (nw 8 s20).2).bind fun v22 =>
              (cx_bV cx_th (ca 267 [vr_ (some (nw 8 s20).1), vi_ v22, vi_ 1] (nw 8 s20).2) fun s23 =>
              some (.inr (nw 8 s20).1, s23)))
            else
              ((gi 80 (some x0) (nw 14 s20).2).bind fun v24 =>
              ((gi 81 (some x0) (nw 14 s20).2).bind fun v25 =>
              (cx_bV cx_th (ca 266 [vr_ (some (nw 14 s20).1), vi_ 3, vi_ v24, vi_ v25, vi_ 0, vr_ v21] (nw 14 s20).2) fun s26 =>
              ((gi 80 (some x0) s26).bind fun v27 =>
              ((dp 86 v21 s26).bind fun m28 =>
              (cx_bI cx_th (ca m28 [vr_ v21] s26) fun v30 s29 =>
              ((pi 80 (some x0) (v27 + v30) s29).bind fun s31 =>
              (if v3 = 36 then
                ((gi 85 (some (nw 14 s20).1) s31).bind fun v32 =>
                ((dp 257 (some x0) s31).bind fun m33 =>
                (cx_bR cx_th (ca m33 [vr_ (some x0), vi_ v32] s31) fun v35 s34 =>
                ((pr 90 (some (nw 14 s20).1) v35 s34).bind fun s36 =>
                some (.inl (some (vr_ (some (nw 14 s20).1))), s36)))))
              else
                some (.inl (some (vr_ (some (nw 14 s20).1))), s31))))))))))))))))
    else
      ((dp 259 (some x0) s6).bind fun m37 =>
      (cx_bR cx_th (ca m37 [vr_ (some x0)] s6) fun v39 s38 =>
      some (.inl (some (vr_ v39)), s38)))))
  else
    ((dp 256 (some x0) s4).bind fun m40 =>
    (cx_bR cx_th (ca m40 [vr_ (some x0)] s4) fun v42 s41 =>
    some (.inl (some (vr_ v42)), s41))))))) := by rfl
set_option maxRecDepth 100000 in
theorem cb_X10_isLetter (x0 : Int32) (s : σ) : cx_B ct_lc gi gr pi pr ai ar wi wr an nw na io dp ct_ft ct_sg 4 [] ct_X10_isLetter ca jm 1000 ct_X10_isLetter [some (vi_ x0)] [] s =
  (if x0 < 65 then
    (if x0 < 97 then
      some (.inl (some (vi_ 0)), s)
    else
      (if 122 < x0 then
        some (.inl (some (vi_ 0)), s)
      else
        some (.inl (some (vi_ 1)), s)))
  else
    (if 90 < x0 then
      (if x0 < 97 then
        some (.inl (some (vi_ 0)), s)
      else
        (if 122 < x0 then
          some (.inl (some (vi_ 0)), s)
        else
          some (.inl (some (vi_ 1)), s)))
    else
      some (.inl (some (vi_ 1)), s))) := by rfl
set_option maxRecDepth 100000 in
theorem cb_X10_name (x0 : Nat) (s : σ) : cx_B ct_lc gi gr pi pr ai ar wi wr an nw na io dp ct_ft ct_sg 3 [] ct_X10_name ca jm 1000 ct_X10_name [some (vr_ (some x0)), none, none] [] s =
  ((gi 80 (some x0) s).bind fun v1 =>
  ((dp 257 (some x0) s).bind fun m2 =>
  (cx_bR cx_th (ca m2 [vr_ (some x0), vi_ v1] s) fun v4 s3 =>
  (cx_bI cx_th (ca 209 [vr_ v4] (nw 14 s3).2) fun v6 s5 =>
  (if v6 = 0 then
    ((gi 81 (some x0) s5).bind fun v7 =>
    (cx_bV cx_th (ca 266 [vr_ (some (nw 14 s3).1), vi_ 0, vi_ v1, vi_ v7, vi_ 0, vr_ v4] s5) fun s8 =>
    some (.inl (some (vr_ (some (nw 14 s3).1))), s8)))
  else
    ((gi 81 (some x0) s5).bind fun v9 =>
    (cx_bV cx_th (ca 266 [vr_ (some (nw 14 s3).1), vi_ 4, vi_ v1, vi_ v9, vi_ 0, vr_ v4] s5) fun s10 =>
    some (.inl (some (vr_ (some (nw 14 s3).1))), s10)))))))) := by rfl
set_option maxRecDepth 100000 in
theorem cb_X10_rest (x1 : Int32) (x0 : Nat) (s : σ) : cx_B ct_lc gi gr pi pr ai ar wi wr an nw na io dp ct_ft ct_sg 3 [] ct_X10_rest ca jm 1000 ct_X10_rest [some (vr_ (some x0)), some (vi_ x1), none] [] s =
  ((gr 83 (some x0) s).bind fun v1 =>
  ((dp 118 v1 s).bind fun m2 =>
  (cx_bV cx_th (ca m2 [vr_ v1, vi_ 0] s) fun s3 =>
  jm 10 [vr_ (some x0), vi_ x1, vr_ v1] [] s3))) := by rfl
set_option maxRecDepth 100000 in
theorem cb_X10_rest_10 (x1 : Int32) (x2 : Option Nat) (x0 : Nat) (s : σ) : cx_B ct_lc gi gr pi pr ai ar wi wr an nw na io dp ct_ft ct_sg 3 [] ct_X10_rest ca jm 1000 (pj_at ct_X10_rest 10) [some (vr_ (some x0)), some (vi_ x1), some (vr_ x2)] [] s =
  ((dp 253 (some x0) s).bind fun m1 =>
  (cx_bI cx_th (ca m1 [vr_ (some x0), vi_ 0] s) fun v3 s2 =>
  (cx_bI cx_th (ca 255 [vi_ v3] s2) fun v5 s4 =>
  (if v5 = 0 then
    ((dp 253 (some x0) s4).bind fun m6 =>
    (cx_bI cx_th (ca m6 [vr_ (some x0), vi_ 0] s4) fun v8 s7 =>
    (cx_bI cx_th (ca 258 [vi_ v8] s7) fun v10 s9 =>
    (if v10 = 0 then
      ((dp 253 (some x0) s9).bind fun m11 =>
      (cx_bI cx_th (ca m11 [vr_ (some x0), vi_ 0] s9) fun v13 s12 =>
      (if v13 = 46 then
        jm 52 [vr_ (some x0), vi_ x1, vr_ x2] [] s12
      else
        ((dp 253 (some x0) s12).bind fun m14 =>
        (cx_bI cx_th (ca m14 [vr_ (some x0), vi_ 0] s12) fun v16 s15 =>
        (if v16 = 95 then
          jm 52 [vr_ (some x0), vi_ x1, vr_ x2] [] s15
        else
          ((dp 120 x2 s15).bind fun m17 =>
          (cx_bI cx_th (ca m17 [vr_ x2] s15) fun v19 s18 =>
          (if 40 < v19 then
            (cx_bV cx_th (ca 267 [vr_ (some (nw 8 s18).1), vi_ x1, vi_ 1] (nw 8 s18).2) fun s20 =>
            some (.inr (nw 8 s18).1, s20))
          else
            ((dp 121 x2 s18).bind fun m21 =>
            (cx_bR cx_th (ca m21 [vr_ x2] s18) fun v23 s22 =>
            some (.inl (some (vr_ v23)), s22))))))))))))
    else
      jm 52 [vr_ (some x0), vi_ x1, vr_ x2] [] s9))))
  else
    jm 52 [vr_ (some x0), vi_ x1, vr_ x2] [] s4)))) := by rfl
set_option maxRecDepth 100000 in
theorem cb_X10_rest_52 (x1 : Int32) (x2 : Option Nat) (x0 : Nat) (s : σ) : cx_B ct_lc gi gr pi pr ai ar wi wr an nw na io dp ct_ft ct_sg 3 [] ct_X10_rest ca jm 1000 (pj_at ct_X10_rest 52) [some (vr_ (some x0)), some (vi_ x1), some (vr_ x2)] [] s =
  ((dp 253 (some x0) s).bind fun m1 =>
  (cx_bI cx_th (ca m1 [vr_ (some x0), vi_ 0] s) fun v3 s2 =>
  ((dp 119 x2 s2).bind fun m4 =>
  (cx_bR cx_th (ca m4 [vr_ x2, vi_ ((v3 : Int32).toUInt32 % 65536).toInt32] s2) fun v6 s5 =>
  ((gi 80 (some x0) s5).bind fun v7 =>
  ((pi 80 (some x0) (v7 + 1) s5).bind fun s8 =>
  jm 10 [vr_ (some x0), vi_ x1, vr_ x2] [] s8)))))) := by rfl
set_option maxRecDepth 100000 in
theorem cb_X10_isDigit (x0 : Int32) (s : σ) : cx_B ct_lc gi gr pi pr ai ar wi wr an nw na io dp ct_ft ct_sg 4 [] ct_X10_isDigit ca jm 1000 ct_X10_isDigit [some (vi_ x0)] [] s =
  (if x0 < 48 then
    some (.inl (some (vi_ 0)), s)
  else
    (if 57 < x0 then
      some (.inl (some (vi_ 0)), s)
    else
      some (.inl (some (vi_ 1)), s))) := by rfl
set_option maxRecDepth 100000 in
theorem cb_X10_number (x0 : Nat) (s : σ) : cx_B ct_lc gi gr pi pr ai ar wi wr an nw na io dp ct_ft ct_sg 3 [] ct_X10_number ca jm 1000 ct_X10_number [some (vr_ (some x0)), none, none, none, none, none] [] s =
  ((gi 80 (some x0) s).bind fun v1 =>
  ((dp 253 (some x0) s).bind fun m2 =>
  (cx_bI cx_th (ca m2 [vr_ (some x0), vi_ 0] s) fun v4 s3 =>
  (if v4 = 35 then
    ((gi 80 (some x0) s3).bind fun v5 =>
    ((pi 80 (some x0) (v5 + 1) s3).bind fun s6 =>
    ((dp 253 (some x0) s6).bind fun m7 =>
    (cx_bI cx_th (ca m7 [vr_ (some x0), vi_ 0] s6) fun v9 s8 =>
    (if v9 = 88 then
      ((gi 80 (some x0) s8).bind fun v10 =>
      ((pi 80 (some x0) (v10 + 1) s8).bind fun s11 =>
      jm 59 [vr_ (some x0), vi_ v1, vi_ 16, vl_ 0, vi_ 0] [] s11))
    else
      jm 59 [vr_ (some x0), vi_ v1, vi_ 8, vl_ 0, vi_ 0] [] s8)))))
  else
    jm 59 [vr_ (some x0), vi_ v1, vi_ 10, vl_ 0, vi_ 0] [] s3)))) := by rfl
set_option maxRecDepth 100000 in
theorem cb_X10_number_59 (x1 x2 x5 : Int32) (x3 : Int64) (x0 : Nat) (s : σ) : cx_B ct_lc gi gr pi pr ai ar wi wr an nw na io dp ct_ft ct_sg 3 [] ct_X10_number ca jm 1000 (pj_at ct_X10_number 59) [some (vr_ (some x0)), some (vi_ x1), some (vi_ x2), some (vl_ x3), none, some (vi_ x5)] [] s =
  ((dp 253 (some x0) s).bind fun m1 =>
  (cx_bI cx_th (ca m1 [vr_ (some x0), vi_ 0] s) fun v3 s2 =>
  (cx_bI cx_th (ca 260 [vi_ v3, vi_ x2] s2) fun v5 s4 =>
  (if v5 < 0 then
    (if x5 = 0 then
      (cx_bV cx_th (ca 267 [vr_ (some (nw 8 s4).1), vi_ x1, vi_ 1] (nw 8 s4).2) fun s6 =>
      some (.inr (nw 8 s4).1, s6))
    else
      (if (lg_cmp x3 4294967296) < 0 then
        ((gi 81 (some x0) (nw 14 s4).2).bind fun v7 =>
        (cx_bV cx_th (ca 266 [vr_ (some (nw 14 s4).1), vi_ 1, vi_ x1, vi_ v7, vi_ (x3 : Int64).toInt32, vr_ (some 1010)] (nw 14 s4).2) fun s8 =>
        some (.inl (some (vr_ (some (nw 14 s4).1))), s8)))
      else
        (cx_bV cx_th (ca 267 [vr_ (some (nw 8 s4).1), vi_ x1, vi_ 1] (nw 8 s4).2) fun s9 =>
        some (.inr (nw 8 s4).1, s9))))
  else
    (if (lg_cmp x3 4294967296) < 0 then
      ((dp 253 (some x0) s4).bind fun m10 =>
      (cx_bI cx_th (ca m10 [vr_ (some x0), vi_ 0] s4) fun v12 s11 =>
      (cx_bI cx_th (ca 260 [vi_ v12, vi_ x2] s11) fun v14 s13 =>
      ((gi 80 (some x0) s13).bind fun v15 =>
      ((pi 80 (some x0) (v15 + 1) s13).bind fun s16 =>
      jm 59 [vr_ (some x0), vi_ x1, vi_ x2, vl_ ((x3 * (x2 : Int32).toInt64) + (v14 : Int32).toInt64), vi_ (x5 + 1)] [] s16)))))
    else
      ((gi 80 (some x0) s4).bind fun v17 =>
      ((pi 80 (some x0) (v17 + 1) s4).bind fun s18 =>
      jm 59 [vr_ (some x0), vi_ x1, vi_ x2, vl_ x3, vi_ (x5 + 1)] [] s18))))))) := by rfl
set_option maxRecDepth 100000 in
theorem cb_X10_digit (x0 x1 : Int32) (s : σ) : cx_B ct_lc gi gr pi pr ai ar wi wr an nw na io dp ct_ft ct_sg 1 [] ct_X10_digit ca jm 1000 ct_X10_digit [some (vi_ x0), some (vi_ x1), none] [] s =
  (cx_bI cx_th (ca 258 [vi_ x0] s) fun v2 s1 =>
  (if v2 = 0 then
    (if x0 < 65 then
      (if (-1) < x1 then
        some (.inl (some (vi_ (-1))), s1)
      else
        some (.inl (some (vi_ (-1))), s1))
    else
      (if 70 < x0 then
        (if (-1) < x1 then
          some (.inl (some (vi_ (-1))), s1)
        else
          some (.inl (some (vi_ (-1))), s1))
      else
        (if ((x0 - 65) + 10) < x1 then
          some (.inl (some (vi_ ((x0 - 65) + 10))), s1)
        else
          some (.inl (some (vi_ (-1))), s1))))
  else
    (if (x0 - 48) < x1 then
      some (.inl (some (vi_ (x0 - 48))), s1)
    else
      some (.inl (some (vi_ (-1))), s1)))) := by rfl
set_option maxRecDepth 100000 in
theorem cb_X10_character (x0 : Nat) (s : σ) : cx_B ct_lc gi gr pi pr ai ar wi wr an nw na io dp ct_ft ct_sg 3 [] ct_X10_character ca jm 1000 ct_X10_character [some (vr_ (some x0)), none, none] [] s =
  ((gi 80 (some x0) s).bind fun v1 =>
  ((gi 80 (some x0) s).bind fun v2 =>
  ((pi 80 (some x0) (v2 + 1) s).bind fun s3 =>
  ((dp 262 (some x0) s3).bind fun m4 =>
  (cx_bI cx_th (ca m4 [vr_ (some x0), vi_ 39] s3) fun v6 s5 =>
  (if v6 < 0 then
    (cx_bV cx_th (ca 267 [vr_ (some (nw 8 s5).1), vi_ v1, vi_ 1] (nw 8 s5).2) fun s7 =>
    some (.inr (nw 8 s5).1, s7))
  else
    ((dp 253 (some x0) s5).bind fun m8 =>
    (cx_bI cx_th (ca m8 [vr_ (some x0), vi_ 0] s5) fun v10 s9 =>
    (if v10 = 39 then
      ((gi 80 (some x0) s9).bind fun v11 =>
      ((pi 80 (some x0) (v11 + 1) s9).bind fun s12 =>
      ((gi 81 (some x0) (nw 14 s12).2).bind fun v13 =>
      (cx_bV cx_th (ca 266 [vr_ (some (nw 14 s12).1), vi_ 1, vi_ v1, vi_ v13, vi_ v6, vr_ (some 1010)] (nw 14 s12).2) fun s14 =>
      some (.inl (some (vr_ (some (nw 14 s12).1))), s14)))))
    else
      (cx_bV cx_th (ca 267 [vr_ (some (nw 8 s9).1), vi_ v1, vi_ 1] (nw 8 s9).2) fun s15 =>
      some (.inr (nw 8 s9).1, s15))))))))))) := by rfl
set_option maxRecDepth 100000 in
theorem cb_X10_one (x1 : Int32) (x0 : Nat) (s : σ) : cx_B ct_lc gi gr pi pr ai ar wi wr an nw na io dp ct_ft ct_sg 1 [] ct_X10_one ca jm 1000 ct_X10_one [some (vr_ (some x0)), some (vi_ x1), none, none] [] s =
  ((dp 253 (some x0) s).bind fun m1 =>
  (cx_bI cx_th (ca m1 [vr_ (some x0), vi_ 0] s) fun v3 s2 =>
  (if v3 < 32 then
    some (.inl (some (vi_ (-1))), s2)
  else
    (if 126 < v3 then
      some (.inl (some (vi_ (-1))), s2)
    else
      (if v3 = x1 then
        some (.inl (some (vi_ (-1))), s2)
      else
        ((gi 80 (some x0) s2).bind fun v4 =>
        ((pi 80 (some x0) (v4 + 1) s2).bind fun s5 =>
        (if v3 = 42 then
          ((dp 253 (some x0) s5).bind fun m6 =>
          (cx_bI cx_th (ca m6 [vr_ (some x0), vi_ 0] s5) fun v8 s7 =>
          (cx_bI cx_th (ca 193 [vi_ 0, vi_ v8] s7) fun v10 s9 =>
          ((dp 102 (some 1077) s9).bind fun m11 =>
          (cx_bI cx_th (ca m11 [vr_ (some 1077), vi_ ((v10 : Int32).toUInt32 % 65536).toInt32] s9) fun v13 s12 =>
          (if v13 < 0 then
            some (.inl (some (vi_ (-1))), s12)
          else
            ((gi 80 (some x0) s12).bind fun v14 =>
            ((pi 80 (some x0) (v14 + 1) s12).bind fun s15 =>
            (if v13 = 0 then
              some (.inl (some (vi_ 10)), s15)
            else
              (if v13 = 1 then
                some (.inl (some (vi_ 32)), s15)
              else
                (if v13 = 2 then
                  some (.inl (some (vi_ 9)), s15)
                else
                  (if v13 = 3 then
                    some (.inl (some (vi_ 39)), s15)
                  else
                    (if v13 = 4 then
                      some (.inl (some (vi_ 34)), s15)
                    else
                      some (.inl (some (vi_ 42)), s15))))))))))))))
        else
          some (.inl (some (vi_ v3)), s5))))))))) := by rfl
set_option maxRecDepth 100000 in
theorem cb_X10_string (x0 : Nat) (s : σ) : cx_B ct_lc gi gr pi pr ai ar wi wr an nw na io dp ct_ft ct_sg 3 [] ct_X10_string ca jm 1000 ct_X10_string [some (vr_ (some x0)), none, none, none] [] s =
  ((gi 80 (some x0) s).bind fun v1 =>
  ((gi 80 (some x0) s).bind fun v2 =>
  ((pi 80 (some x0) (v2 + 1) s).bind fun s3 =>
  ((gr 83 (some x0) s3).bind fun v4 =>
  ((dp 118 v4 s3).bind fun m5 =>
  (cx_bV cx_th (ca m5 [vr_ v4, vi_ 0] s3) fun s6 =>
  jm 25 [vr_ (some x0), vi_ v1, vr_ v4] [] s6)))))) := by rfl
set_option maxRecDepth 100000 in
theorem cb_X10_string_25 (x1 : Int32) (x2 : Option Nat) (x0 : Nat) (s : σ) : cx_B ct_lc gi gr pi pr ai ar wi wr an nw na io dp ct_ft ct_sg 3 [] ct_X10_string ca jm 1000 (pj_at ct_X10_string 25) [some (vr_ (some x0)), some (vi_ x1), some (vr_ x2), none] [] s =
  ((dp 253 (some x0) s).bind fun m1 =>
  (cx_bI cx_th (ca m1 [vr_ (some x0), vi_ 0] s) fun v3 s2 =>
  (if v3 = 34 then
    ((gi 80 (some x0) s2).bind fun v4 =>
    ((pi 80 (some x0) (v4 + 1) s2).bind fun s5 =>
    ((gi 81 (some x0) (nw 14 s5).2).bind fun v6 =>
    ((dp 121 x2 (nw 14 s5).2).bind fun m7 =>
    (cx_bR cx_th (ca m7 [vr_ x2] (nw 14 s5).2) fun v9 s8 =>
    (cx_bV cx_th (ca 266 [vr_ (some (nw 14 s5).1), vi_ 2, vi_ x1, vi_ v6, vi_ 0, vr_ v9] s8) fun s10 =>
    some (.inl (some (vr_ (some (nw 14 s5).1))), s10)))))))
  else
    ((dp 262 (some x0) s2).bind fun m11 =>
    (cx_bI cx_th (ca m11 [vr_ (some x0), vi_ 34] s2) fun v13 s12 =>
    (if v13 < 0 then
      (cx_bV cx_th (ca 267 [vr_ (some (nw 8 s12).1), vi_ x1, vi_ 1] (nw 8 s12).2) fun s14 =>
      some (.inr (nw 8 s12).1, s14))
    else
      ((dp 120 x2 s12).bind fun m15 =>
      (cx_bI cx_th (ca m15 [vr_ x2] s12) fun v17 s16 =>
      (if v17 = 200 then
        (cx_bV cx_th (ca 267 [vr_ (some (nw 8 s16).1), vi_ x1, vi_ 1] (nw 8 s16).2) fun s18 =>
        some (.inr (nw 8 s16).1, s18))
      else
        ((dp 119 x2 s16).bind fun m19 =>
        (cx_bR cx_th (ca m19 [vr_ x2, vi_ ((v13 : Int32).toUInt32 % 65536).toInt32] s16) fun v21 s20 =>
        jm 25 [vr_ (some x0), vi_ x1, vr_ x2] [] s20))))))))))) := by rfl
set_option maxRecDepth 100000 in
theorem cb_X10_sign (x0 x1 : Int32) (s : σ) : cx_B ct_lc gi gr pi pr ai ar wi wr an nw na io dp ct_ft ct_sg 3 [] ct_X10_sign ca jm 1000 ct_X10_sign [some (vi_ x0), some (vi_ x1)] [] s =
  (if x0 = Int32.ofInt 33 then
    some (.inl (some (vr_ (some 1049))), s)
  else
  (if x0 = Int32.ofInt 36 then
    (if x1 = 40 then
      some (.inl (some (vr_ (some 1051))), s)
    else
      (if x1 = 41 then
        some (.inl (some (vr_ (some 1075))), s)
      else
        some (.inl (some (vr_ none)), s)))
  else
  (if x0 = Int32.ofInt 37 then
    some (.inl (some (vr_ (some 1084))), s)
  else
  (if x0 = Int32.ofInt 38 then
    some (.inl (some (vr_ (some 1018))), s)
  else
  (if x0 = Int32.ofInt 40 then
    some (.inl (some (vr_ (some 1048))), s)
  else
  (if x0 = Int32.ofInt 41 then
    some (.inl (some (vr_ (some 1076))), s)
  else
  (if x0 = Int32.ofInt 42 then
    some (.inl (some (vr_ (some 1029))), s)
  else
  (if x0 = Int32.ofInt 43 then
    some (.inl (some (vr_ (some 1027))), s)
  else
  (if x0 = Int32.ofInt 44 then
    some (.inl (some (vr_ (some 1082))), s)
  else
  (if x0 = Int32.ofInt 45 then
    (if x1 = 62 then
      some (.inl (some (vr_ (some 1081))), s)
    else
      some (.inl (some (vr_ (some 1028))), s))
  else
  (if x0 = Int32.ofInt 47 then
    some (.inl (some (vr_ (some 1030))), s)
  else
  (if x0 = Int32.ofInt 58 then
    (if x1 = 61 then
      some (.inl (some (vr_ (some 1078))), s)
    else
      some (.inl (some (vr_ (some 1079))), s))
  else
  (if x0 = Int32.ofInt 59 then
    some (.inl (some (vr_ (some 1083))), s)
  else
  (if x0 = Int32.ofInt 60 then
    (if x1 = 61 then
      some (.inl (some (vr_ (some 1024))), s)
    else
      (if x1 = 60 then
        some (.inl (some (vr_ (some 1019))), s)
      else
        some (.inl (some (vr_ (some 1023))), s)))
  else
  (if x0 = Int32.ofInt 61 then
    some (.inl (some (vr_ (some 1021))), s)
  else
  (if x0 = Int32.ofInt 62 then
    (if x1 = 61 then
      some (.inl (some (vr_ (some 1026))), s)
    else
      (if x1 = 62 then
        some (.inl (some (vr_ (some 1020))), s)
      else
        some (.inl (some (vr_ (some 1025))), s)))
  else
  (if x0 = Int32.ofInt 64 then
    some (.inl (some (vr_ (some 1050))), s)
  else
  (if x0 = Int32.ofInt 124 then
    some (.inl (some (vr_ (some 1017))), s)
  else
  (if x0 = Int32.ofInt 126 then
    (if x1 = 61 then
      some (.inl (some (vr_ (some 1022))), s)
    else
      some (.inl (some (vr_ (some 1080))), s))
  else
  some (.inl (some (vr_ none)), s)))))))))))))))))))) := by rfl
set_option maxRecDepth 100000 in
theorem cb_X10_add (x1 : Option Nat) (x0 : Nat) (s : σ) : cx_B ct_lc gi gr pi pr ai ar wi wr an nw na io dp ct_ft ct_sg 0 [] ct_X10_add ca jm 1000 ct_X10_add [some (vr_ (some x0)), some (vr_ x1), none, none, none] [] s =
  ((gr 82 (some x0) s).bind fun v1 =>
  ((dp 77 v1 s).bind fun m2 =>
  (cx_bI cx_th (ca m2 [vr_ v1] s) fun v4 s3 =>
  (if v4 = 0 then
    ((gr 82 (some x0) s3).bind fun v5 =>
    ((gr 82 (some x0) s3).bind fun v6 =>
    ((dp 78 v6 s3).bind fun m7 =>
    (cx_bI cx_th (ca m7 [vr_ v6] s3) fun v9 s8 =>
    ((dp 79 v5 s8).bind fun m10 =>
    (cx_bR cx_th (ca m10 [vr_ v5, vi_ (v9 - 1)] s8) fun v12 s11 =>
    ((cx_cst io 14 v12 s11).bind fun _ =>
    ((gi 84 v12 s11).bind fun v13 =>
    (if 2 < v13 then
      ((gi 84 v12 s11).bind fun v14 =>
      (if v14 < 5 then
        ((gr 88 v12 s11).bind fun v15 =>
        (cx_bI cx_th (ca 211 [vr_ v15] s11) fun v17 s16 =>
        (if v17 = 0 then
          jm 67 [vr_ (some x0), vr_ x1, vr_ v12] [vi_ 0] s16
        else
          jm 67 [vr_ (some x0), vr_ x1, vr_ v12] [vi_ 1] s16)))
      else
        jm 67 [vr_ (some x0), vr_ x1, vr_ v12] [vi_ 0] s11))
    else
      jm 67 [vr_ (some x0), vr_ x1, vr_ v12] [vi_ 1] s11)))))))))
  else
    ((gr 82 (some x0) s3).bind fun v18 =>
    ((dp 73 v18 s3).bind fun m19 =>
    (cx_bI cx_th (ca m19 [vr_ v18, vr_ x1] s3) fun v21 s20 =>
    some (.inl none, s20)))))))) := by rfl
set_option maxRecDepth 100000 in
theorem cb_X10_add_67 (y0 : Int32) (x1 x2 : Option Nat) (x0 : Nat) (s : σ) : cx_B ct_lc gi gr pi pr ai ar wi wr an nw na io dp ct_ft ct_sg 0 [] ct_X10_add ca jm 1000 (pj_at ct_X10_add 67) [some (vr_ (some x0)), some (vr_ x1), some (vr_ x2), none, none] [vi_ y0] s =
  ((gi 84 x1 s).bind fun v1 =>
  (if 2 < v1 then
    ((gi 84 x1 s).bind fun v2 =>
    (if v2 < 5 then
      ((gr 88 x1 s).bind fun v3 =>
      (cx_bI cx_th (ca 210 [vr_ v3] s) fun v5 s4 =>
      (if v5 = 0 then
        jm 99 [vr_ (some x0), vr_ x1, vr_ x2, vi_ y0] [vi_ 0] s4
      else
        jm 99 [vr_ (some x0), vr_ x1, vr_ x2, vi_ y0] [vi_ 1] s4)))
    else
      jm 99 [vr_ (some x0), vr_ x1, vr_ x2, vi_ y0] [vi_ 0] s))
  else
    jm 99 [vr_ (some x0), vr_ x1, vr_ x2, vi_ y0] [vi_ 1] s)) := by rfl
set_option maxRecDepth 100000 in
theorem cb_X10_add_99 (x3 y0 : Int32) (x1 x2 : Option Nat) (x0 : Nat) (s : σ) : cx_B ct_lc gi gr pi pr ai ar wi wr an nw na io dp ct_ft ct_sg 0 [] ct_X10_add ca jm 1000 (pj_at ct_X10_add 99) [some (vr_ (some x0)), some (vr_ x1), some (vr_ x2), some (vi_ x3), none] [vi_ y0] s =
  ((gi 86 x2 s).bind fun v1 =>
  ((gi 86 x1 s).bind fun v2 =>
  (if v1 < v2 then
    (if x3 = 0 then
      ((gr 82 (some x0) s).bind fun v3 =>
      ((dp 73 v3 s).bind fun m4 =>
      (cx_bI cx_th (ca m4 [vr_ v3, vr_ x1] s) fun v6 s5 =>
      some (.inl none, s5))))
    else
      (if y0 = 0 then
        ((gr 82 (some x0) s).bind fun v7 =>
        ((dp 73 v7 s).bind fun m8 =>
        (cx_bI cx_th (ca m8 [vr_ v7, vr_ x1] s) fun v10 s9 =>
        some (.inl none, s9))))
      else
        ((gr 82 (some x0) s).bind fun v11 =>
        ((gi 85 x1 (nw 14 s).2).bind fun v12 =>
        ((gi 86 x1 (nw 14 s).2).bind fun v13 =>
        (cx_bV cx_th (ca 266 [vr_ (some (nw 14 s).1), vi_ 3, vi_ v12, vi_ v13, vi_ 0, vr_ (some 1083)] (nw 14 s).2) fun s14 =>
        ((dp 73 v11 s14).bind fun m15 =>
        (cx_bI cx_th (ca m15 [vr_ v11, vr_ (some (nw 14 s).1)] s14) fun v17 s16 =>
        ((gr 82 (some x0) s16).bind fun v18 =>
        ((dp 73 v18 s16).bind fun m19 =>
        (cx_bI cx_th (ca m19 [vr_ v18, vr_ x1] s16) fun v21 s20 =>
        some (.inl none, s20))))))))))))
  else
    ((gr 82 (some x0) s).bind fun v22 =>
    ((dp 73 v22 s).bind fun m23 =>
    (cx_bI cx_th (ca m23 [vr_ v22, vr_ x1] s) fun v25 s24 =>
    some (.inl none, s24))))))) := by rfl
set_option maxRecDepth 100000 in
theorem cb_X11_init (x1 x2 x3 x4 : Int32) (x5 : Option Nat) (x0 : Nat) (s : σ) : cx_B ct_lc gi gr pi pr ai ar wi wr an nw na io dp ct_ft ct_sg 0 [] ct_X11_init ca jm 1000 ct_X11_init [some (vr_ (some x0)), some (vi_ x1), some (vi_ x2), some (vi_ x3), some (vi_ x4), some (vr_ x5)] [] s =
  (cx_bV cx_th (ca 151 [vr_ (some x0)] s) fun s1 =>
  ((pr 90 (some x0) (some 1010) s1).bind fun s2 =>
  ((pi 84 (some x0) x1 s2).bind fun s3 =>
  ((pi 85 (some x0) x2 s3).bind fun s4 =>
  ((pi 86 (some x0) x3 s4).bind fun s5 =>
  ((pi 87 (some x0) x4 s5).bind fun s6 =>
  ((pr 88 (some x0) x5 s6).bind fun s7 =>
  (if x1 = 3 then
    (cx_bI cx_th (ca 208 [vr_ x5] s7) fun v9 s8 =>
    ((pi 89 (some x0) v9 s8).bind fun s10 =>
    some (.inl none, s10)))
  else
    (if x1 = 4 then
      (cx_bI cx_th (ca 208 [vr_ x5] s7) fun v12 s11 =>
      ((pi 89 (some x0) v12 s11).bind fun s13 =>
      some (.inl none, s13)))
    else
      ((pi 89 (some x0) (-1) s7).bind fun s14 =>
      some (.inl none, s14))))))))))) := by rfl
set_option maxRecDepth 100000 in
theorem cb_X12_init (x1 x2 : Int32) (x0 : Nat) (s : σ) : cx_B ct_lc gi gr pi pr ai ar wi wr an nw na io dp ct_ft ct_sg 0 [] ct_X12_init ca jm 1000 ct_X12_init [some (vr_ (some x0)), some (vi_ x1), some (vi_ x2)] [] s =
  (cx_bV cx_th (ca 124 [vr_ (some x0)] s) fun s1 =>
  ((pi 91 (some x0) x1 s1).bind fun s2 =>
  ((pi 92 (some x0) x2 s2).bind fun s3 =>
  some (.inl none, s3)))) := by rfl
set_option maxRecDepth 100000 in
theorem cb_X13_init (x1 : Option Nat) (x0 : Nat) (s : σ) : cx_B ct_lc gi gr pi pr ai ar wi wr an nw na io dp ct_ft ct_sg 0 [] ct_X13_init ca jm 1000 ct_X13_init [some (vr_ (some x0)), some (vr_ x1)] [] s =
  (cx_bV cx_th (ca 151 [vr_ (some x0)] s) fun s1 =>
  (cx_bV cx_th (ca 72 [vr_ (some (nw 36 s1).1)] (nw 36 s1).2) fun s2 =>
  ((pr 96 (some x0) (some (nw 36 s1).1) s2).bind fun s3 =>
  (cx_bV cx_th (ca 130 [vr_ (some (nw 41 s3).1)] (nw 41 s3).2) fun s4 =>
  ((pr 97 (some x0) (some (nw 41 s3).1) s4).bind fun s5 =>
  (cx_bV cx_th (ca 72 [vr_ (some (nw 36 s5).1)] (nw 36 s5).2) fun s6 =>
  ((pr 98 (some x0) (some (nw 36 s5).1) s6).bind fun s7 =>
  ((pr 93 (some x0) x1 s7).bind fun s8 =>
  some (.inl none, s8))))))))) := by rfl
set_option maxRecDepth 100000 in
theorem cb_X13_text (x0 : Nat) (s : σ) : cx_B ct_lc gi gr pi pr ai ar wi wr an nw na io dp ct_ft ct_sg 3 [] ct_X13_text ca jm 1000 ct_X13_text [some (vr_ (some x0)), none] [] s =
  (cx_bV cx_th (ca 72 [vr_ (some (nw 36 s).1)] (nw 36 s).2) fun s1 =>
  jm 8 [vr_ (some x0), vr_ (some (nw 36 s).1)] [] s1) := by rfl
set_option maxRecDepth 100000 in
theorem cb_X13_text_8 (x1 : Option Nat) (x0 : Nat) (s : σ) : cx_B ct_lc gi gr pi pr ai ar wi wr an nw na io dp ct_ft ct_sg 3 [] ct_X13_text ca jm 1000 (pj_at ct_X13_text 8) [some (vr_ (some x0)), some (vr_ x1)] [] s =
  ((dp 270 (some x0) s).bind fun m1 =>
  (cx_bR cx_th (ca m1 [vr_ (some x0), vi_ 1] s) fun v3 s2 =>
  ((dp 73 x1 s2).bind fun m4 =>
  (cx_bI cx_th (ca m4 [vr_ x1, vr_ v3] s2) fun v6 s5 =>
  ((dp 290 (some x0) s5).bind fun m7 =>
  (cx_bI cx_th (ca m7 [vr_ (some x0), vr_ (some 1083)] s5) fun v9 s8 =>
  (if v9 = 0 then
    ((dp 272 (some x0) s8).bind fun m10 =>
    (cx_bR cx_th (ca m10 [vr_ (some x0)] s8) fun v12 s11 =>
    ((gi 84 v12 s11).bind fun v13 =>
    (if v13 = 5 then
      some (.inl (some (vr_ x1)), s11)
    else
      ((dp 276 (some x0) s11).bind fun m14 =>
      (cx_bR cx_th (ca m14 [vr_ (some x0)] s11) fun v16 s15 =>
      (cx_at cx_th v16 s15)))))))
  else
    ((dp 272 (some x0) s8).bind fun m17 =>
    (cx_bR cx_th (ca m17 [vr_ (some x0)] s8) fun v19 s18 =>
    ((gi 84 v19 s18).bind fun v20 =>
    (if v20 = 5 then
      ((dp 272 (some x0) s18).bind fun m21 =>
      (cx_bR cx_th (ca m21 [vr_ (some x0)] s18) fun v23 s22 =>
      ((gi 84 v23 s22).bind fun v24 =>
      (if v24 = 5 then
        some (.inl (some (vr_ x1)), s22)
      else
        ((dp 276 (some x0) s22).bind fun m25 =>
        (cx_bR cx_th (ca m25 [vr_ (some x0)] s22) fun v27 s26 =>
        (cx_at cx_th v27 s26)))))))
    else
      jm 8 [vr_ (some x0), vr_ x1] [] s18))))))))))) := by rfl
set_option maxRecDepth 100000 in
theorem cb_X13_declaration (x1 : Int32) (x0 : Nat) (s : σ) : cx_B ct_lc gi gr pi pr ai ar wi wr an nw na io dp ct_ft ct_sg 3 [] ct_X13_declaration ca jm 1000 ct_X13_declaration [some (vr_ (some x0)), some (vi_ x1), none, none, none, none] [] s =
  ((dp 271 (some x0) s).bind fun m1 =>
  (cx_bI cx_th (ca m1 [vr_ (some x0), vr_ (some 1072)] s) fun v3 s2 =>
  (if v3 = 0 then
    ((dp 271 (some x0) s2).bind fun m4 =>
    (cx_bI cx_th (ca m4 [vr_ (some x0), vr_ (some 1073)] s2) fun v6 s5 =>
    (if v6 = 0 then
      ((dp 271 (some x0) s5).bind fun m7 =>
      (cx_bI cx_th (ca m7 [vr_ (some x0), vr_ (some 1074)] s5) fun v9 s8 =>
      (if v9 = 0 then
        ((dp 278 (some x0) s8).bind fun m10 =>
        (cx_bR cx_th (ca m10 [vr_ (some x0), vr_ (some 1071)] s8) fun v12 s11 =>
        ((dp 279 (some x0) s11).bind fun m13 =>
        (cx_bR cx_th (ca m13 [vr_ (some x0)] s11) fun v15 s14 =>
        ((dp 271 (some x0) s14).bind fun m16 =>
        (cx_bI cx_th (ca m16 [vr_ (some x0), vr_ (some 1048)] s14) fun v18 s17 =>
        (if v18 = 0 then
          (if x1 = 0 then
            ((gi 85 v12 (nw 5 s17).2).bind fun v19 =>
            (cx_bV cx_th (ca 309 [vr_ (some (nw 5 s17).1), vr_ (some 1089), vi_ v19] (nw 5 s17).2) fun s20 =>
            ((gr 108 (some (nw 5 s17).1) s20).bind fun v21 =>
            ((dp 73 v21 s20).bind fun m22 =>
            (cx_bI cx_th (ca m22 [vr_ v21, vr_ v15] s20) fun v24 s23 =>
            jm 210 [vr_ (some x0), vr_ (some (nw 5 s17).1)] [] s23)))))
          else
            ((dp 276 (some x0) s17).bind fun m25 =>
            (cx_bR cx_th (ca m25 [vr_ (some x0)] s17) fun v27 s26 =>
            (cx_at cx_th v27 s26))))
        else
          ((gi 85 v12 (nw 9 s17).2).bind fun v28 =>
          (cx_bV cx_th (ca 305 [vr_ (some (nw 9 s17).1), vr_ (some 1088), vi_ v28] (nw 9 s17).2) fun s29 =>
          ((dp 303 (some x0) s29).bind fun m30 =>
          (cx_bR cx_th (ca m30 [vr_ (some x0), vr_ v15, vi_ x1] s29) fun v32 s31 =>
          ((dp 306 (some (nw 9 s17).1) s31).bind fun m33 =>
          (cx_bR cx_th (ca m33 [vr_ (some (nw 9 s17).1), vr_ v32] s31) fun v35 s34 =>
          jm 143 [vr_ (some x0), vi_ x1, vr_ (some (nw 9 s17).1)] [] s34)))))))))))))
      else
        ((dp 273 (some x0) s8).bind fun m36 =>
        (cx_bR cx_th (ca m36 [vr_ (some x0), vr_ (some 1087), vr_ (some 1021)] s8) fun v38 s37 =>
        some (.inl (some (vr_ v38)), s37))))))
    else
      ((dp 273 (some x0) s5).bind fun m39 =>
      (cx_bR cx_th (ca m39 [vr_ (some x0), vr_ (some 1086), vr_ (some 1021)] s5) fun v41 s40 =>
      some (.inl (some (vr_ v41)), s40))))))
  else
    ((dp 273 (some x0) s2).bind fun m42 =>
    (cx_bR cx_th (ca m42 [vr_ (some x0), vr_ (some 1085), vr_ (some 1079)] s2) fun v44 s43 =>
    ((gr 105 v44 s43).bind fun v45 =>
    jm 24 [vr_ (some x0), vi_ x1, vr_ v44, vr_ v45] [] s43)))))) := by rfl
set_option maxRecDepth 100000 in
theorem cb_X13_declaration_24 (x1 : Int32) (x2 x3 : Option Nat) (x0 : Nat) (s : σ) : cx_B ct_lc gi gr pi pr ai ar wi wr an nw na io dp ct_ft ct_sg 3 [] ct_X13_declaration ca jm 1000 (pj_at ct_X13_declaration 24) [some (vr_ (some x0)), some (vi_ x1), some (vr_ x2), some (vr_ x3), none, none] [] s =
  (if x1 = 0 then
    some (.inl (some (vr_ x2)), s)
  else
    (if x3 = none then
      some (.inl (some (vr_ x2)), s)
    else
      ((gr 97 (some x0) s).bind fun v1 =>
      ((gr 103 x3 s).bind fun v2 =>
      ((dp 131 v1 s).bind fun m3 =>
      (cx_bI cx_th (ca m3 [vr_ v1, vr_ v2] s) fun v5 s4 =>
      ((gr 107 x3 s4).bind fun v6 =>
      jm 24 [vr_ (some x0), vi_ x1, vr_ x2, vr_ v6] [] s4))))))) := by rfl
set_option maxRecDepth 100000 in
theorem cb_X13_declaration_143 (x1 : Int32) (x4 : Option Nat) (x0 : Nat) (s : σ) : cx_B ct_lc gi gr pi pr ai ar wi wr an nw na io dp ct_ft ct_sg 3 [] ct_X13_declaration ca jm 1000 (pj_at ct_X13_declaration 143) [some (vr_ (some x0)), some (vi_ x1), none, none, some (vr_ x4), none] [] s =
  ((dp 290 (some x0) s).bind fun m1 =>
  (cx_bI cx_th (ca m1 [vr_ (some x0), vr_ (some 1033)] s) fun v3 s2 =>
  (if v3 = 0 then
    some (.inl (some (vr_ x4)), s2)
  else
    ((dp 279 (some x0) s2).bind fun m4 =>
    (cx_bR cx_th (ca m4 [vr_ (some x0)] s2) fun v6 s5 =>
    ((dp 303 (some x0) s5).bind fun m7 =>
    (cx_bR cx_th (ca m7 [vr_ (some x0), vr_ v6, vi_ x1] s5) fun v9 s8 =>
    ((dp 306 x4 s8).bind fun m10 =>
    (cx_bR cx_th (ca m10 [vr_ x4, vr_ v9] s8) fun v12 s11 =>
    jm 143 [vr_ (some x0), vi_ x1, vr_ x4] [] s11))))))))) := by rfl
set_option maxRecDepth 100000 in
theorem cb_X13_declaration_210 (x4 : Option Nat) (x0 : Nat) (s : σ) : cx_B ct_lc gi gr pi pr ai ar wi wr an nw na io dp ct_ft ct_sg 3 [] ct_X13_declaration ca jm 1000 (pj_at ct_X13_declaration 210) [some (vr_ (some x0)), none, none, none, some (vr_ x4), none] [] s =
  ((dp 290 (some x0) s).bind fun m1 =>
  (cx_bI cx_th (ca m1 [vr_ (some x0), vr_ (some 1082)] s) fun v3 s2 =>
  (if v3 = 0 then
    ((dp 278 (some x0) s2).bind fun m4 =>
    (cx_bR cx_th (ca m4 [vr_ (some x0), vr_ (some 1021)] s2) fun v6 s5 =>
    jm 247 [vr_ (some x0), vr_ x4, vi_ 0] [] s5))
  else
    ((gr 108 x4 s2).bind fun v7 =>
    ((dp 279 (some x0) s2).bind fun m8 =>
    (cx_bR cx_th (ca m8 [vr_ (some x0)] s2) fun v10 s9 =>
    ((dp 73 v7 s9).bind fun m11 =>
    (cx_bI cx_th (ca m11 [vr_ v7, vr_ v10] s9) fun v13 s12 =>
    jm 210 [vr_ (some x0), vr_ x4] [] s12)))))))) := by rfl
set_option maxRecDepth 100000 in
theorem cb_X13_declaration_247 (x5 : Int32) (x4 : Option Nat) (x0 : Nat) (s : σ) : cx_B ct_lc gi gr pi pr ai ar wi wr an nw na io dp ct_ft ct_sg 3 [] ct_X13_declaration ca jm 1000 (pj_at ct_X13_declaration 247) [some (vr_ (some x0)), none, none, none, some (vr_ x4), some (vi_ x5)] [] s =
  ((gr 108 x4 s).bind fun v1 =>
  ((dp 78 v1 s).bind fun m2 =>
  (cx_bI cx_th (ca m2 [vr_ v1] s) fun v4 s3 =>
  (if x5 < v4 then
    (if 0 < x5 then
      ((dp 278 (some x0) s3).bind fun m5 =>
      (cx_bR cx_th (ca m5 [vr_ (some x0), vr_ (some 1082)] s3) fun v7 s6 =>
      ((dp 304 (some x0) s6).bind fun m8 =>
      (cx_bR cx_th (ca m8 [vr_ (some x0)] s6) fun v10 s9 =>
      ((dp 306 x4 s9).bind fun m11 =>
      (cx_bR cx_th (ca m11 [vr_ x4, vr_ v10] s9) fun v13 s12 =>
      jm 247 [vr_ (some x0), vr_ x4, vi_ (x5 + 1)] [] s12))))))
    else
      ((dp 304 (some x0) s3).bind fun m14 =>
      (cx_bR cx_th (ca m14 [vr_ (some x0)] s3) fun v16 s15 =>
      ((dp 306 x4 s15).bind fun m17 =>
      (cx_bR cx_th (ca m17 [vr_ x4, vr_ v16] s15) fun v19 s18 =>
      jm 247 [vr_ (some x0), vr_ x4, vi_ (x5 + 1)] [] s18)))))
  else
    some (.inl (some (vr_ x4)), s3))))) := by rfl
set_option maxRecDepth 100000 in
theorem cb_X13_is (x1 : Option Nat) (x0 : Nat) (s : σ) : cx_B ct_lc gi gr pi pr ai ar wi wr an nw na io dp ct_ft ct_sg 4 [] ct_X13_is ca jm 1000 ct_X13_is [some (vr_ (some x0)), some (vr_ x1)] [] s =
  ((dp 272 (some x0) s).bind fun m1 =>
  (cx_bR cx_th (ca m1 [vr_ (some x0)] s) fun v3 s2 =>
  ((gi 84 v3 s2).bind fun v4 =>
  (if v4 = 3 then
    ((dp 272 (some x0) s2).bind fun m5 =>
    (cx_bR cx_th (ca m5 [vr_ (some x0)] s2) fun v7 s6 =>
    ((gr 88 v7 s6).bind fun v8 =>
    ((dp 99 v8 s6).bind fun m9 =>
    (cx_bI cx_th (ca m9 [vr_ v8, vr_ x1] s6) fun v11 s10 =>
    (if v11 = 0 then
      some (.inl (some (vi_ 0)), s10)
    else
      some (.inl (some (vi_ 1)), s10)))))))
  else
    ((dp 272 (some x0) s2).bind fun m12 =>
    (cx_bR cx_th (ca m12 [vr_ (some x0)] s2) fun v14 s13 =>
    ((gi 84 v14 s13).bind fun v15 =>
    (if v15 = 4 then
      ((dp 272 (some x0) s13).bind fun m16 =>
      (cx_bR cx_th (ca m16 [vr_ (some x0)] s13) fun v18 s17 =>
      ((gr 88 v18 s17).bind fun v19 =>
      ((dp 99 v19 s17).bind fun m20 =>
      (cx_bI cx_th (ca m20 [vr_ v19, vr_ x1] s17) fun v22 s21 =>
      (if v22 = 0 then
        some (.inl (some (vi_ 0)), s21)
      else
        some (.inl (some (vi_ 1)), s21)))))))
    else
      some (.inl (some (vi_ 0)), s13))))))))) := by rfl
set_option maxRecDepth 100000 in
theorem cb_X13_peek (x0 : Nat) (s : σ) : cx_B ct_lc gi gr pi pr ai ar wi wr an nw na io dp ct_ft ct_sg 3 [] ct_X13_peek ca jm 1000 ct_X13_peek [some (vr_ (some x0))] [] s =
  ((gr 93 (some x0) s).bind fun v1 =>
  ((gi 94 (some x0) s).bind fun v2 =>
  ((dp 79 v1 s).bind fun m3 =>
  (cx_bR cx_th (ca m3 [vr_ v1, vi_ v2] s) fun v5 s4 =>
  ((cx_cst io 14 v5 s4).bind fun _ =>
  some (.inl (some (vr_ v5)), s4)))))) := by rfl
set_option maxRecDepth 100000 in
theorem cb_X13_constants (x1 x2 : Option Nat) (x0 : Nat) (s : σ) : cx_B ct_lc gi gr pi pr ai ar wi wr an nw na io dp ct_ft ct_sg 3 [] ct_X13_constants ca jm 1000 ct_X13_constants [some (vr_ (some x0)), some (vr_ x1), some (vr_ x2), none, none, none] [] s =
  ((dp 274 (some x0) (nw 9 s).2).bind fun m1 =>
  (cx_bR cx_th (ca m1 [vr_ (some x0)] (nw 9 s).2) fun v3 s2 =>
  ((gi 85 v3 s2).bind fun v4 =>
  (cx_bV cx_th (ca 305 [vr_ (some (nw 9 s).1), vr_ x1, vi_ v4] s2) fun s5 =>
  ((dp 271 (some x0) s5).bind fun m6 =>
  (cx_bI cx_th (ca m6 [vr_ (some x0), vr_ (some 1051)] s5) fun v8 s7 =>
  (if v8 = 0 then
    ((dp 277 (some x0) s7).bind fun m9 =>
    (cx_bR cx_th (ca m9 [vr_ (some x0)] s7) fun v11 s10 =>
    jm 34 [vr_ (some x0), vr_ x1, vr_ x2, vr_ (some (nw 9 s).1)] [] s10))
  else
    ((dp 275 (some x0) s7).bind fun m12 =>
    (cx_bV cx_th (ca m12 [vr_ (some x0)] s7) fun s13 =>
    ((dp 277 (some x0) s13).bind fun m14 =>
    (cx_bR cx_th (ca m14 [vr_ (some x0)] s13) fun v16 s15 =>
    jm 34 [vr_ (some x0), vr_ x1, vr_ x2, vr_ (some (nw 9 s).1)] [] s15))))))))))) := by rfl
set_option maxRecDepth 100000 in
theorem cb_X13_constants_34 (x1 x2 x3 : Option Nat) (x0 : Nat) (s : σ) : cx_B ct_lc gi gr pi pr ai ar wi wr an nw na io dp ct_ft ct_sg 3 [] ct_X13_constants ca jm 1000 (pj_at ct_X13_constants 34) [some (vr_ (some x0)), some (vr_ x1), some (vr_ x2), some (vr_ x3), none, none] [] s =
  ((dp 279 (some x0) s).bind fun m1 =>
  (cx_bR cx_th (ca m1 [vr_ (some x0)] s) fun v3 s2 =>
  ((gi 85 v3 (nw 9 s2).2).bind fun v4 =>
  (cx_bV cx_th (ca 305 [vr_ (some (nw 9 s2).1), vr_ x1, vi_ v4] (nw 9 s2).2) fun s5 =>
  ((gr 88 v3 s5).bind fun v6 =>
  ((pr 103 (some (nw 9 s2).1) v6 s5).bind fun s7 =>
  (if x1 = (some 1087) then
    ((gr 96 (some x0) s7).bind fun v8 =>
    ((dp 73 v8 s7).bind fun m9 =>
    (cx_bI cx_th (ca m9 [vr_ v8, vr_ (some (nw 9 s2).1)] s7) fun v11 s10 =>
    jm 84 [vr_ (some x0), vr_ x1, vr_ x2, vr_ x3, vr_ (some (nw 9 s2).1)] [] s10)))
  else
    jm 84 [vr_ (some x0), vr_ x1, vr_ x2, vr_ x3, vr_ (some (nw 9 s2).1)] [] s7))))))) := by rfl
set_option maxRecDepth 100000 in
theorem cb_X13_constants_84 (x1 x2 x3 x5 : Option Nat) (x0 : Nat) (s : σ) : cx_B ct_lc gi gr pi pr ai ar wi wr an nw na io dp ct_ft ct_sg 3 [] ct_X13_constants ca jm 1000 (pj_at ct_X13_constants 84) [some (vr_ (some x0)), some (vr_ x1), some (vr_ x2), some (vr_ x3), none, some (vr_ x5)] [] s =
  ((dp 278 (some x0) s).bind fun m1 =>
  (cx_bR cx_th (ca m1 [vr_ (some x0), vr_ x2] s) fun v3 s2 =>
  ((dp 280 (some x0) s2).bind fun m4 =>
  (cx_bR cx_th (ca m4 [vr_ (some x0)] s2) fun v6 s5 =>
  ((dp 306 x5 s5).bind fun m7 =>
  (cx_bR cx_th (ca m7 [vr_ x5, vr_ v6] s5) fun v9 s8 =>
  ((dp 306 x3 s8).bind fun m10 =>
  (cx_bR cx_th (ca m10 [vr_ x3, vr_ v9] s8) fun v12 s11 =>
  ((dp 290 (some x0) s11).bind fun m13 =>
  (cx_bI cx_th (ca m13 [vr_ (some x0), vr_ (some 1083)] s11) fun v15 s14 =>
  (if v15 = 0 then
    ((dp 294 (some x0) s14).bind fun m16 =>
    (cx_bV cx_th (ca m16 [vr_ (some x0)] s14) fun s17 =>
    ((gi 95 (some x0) s17).bind fun v18 =>
    ((pi 95 (some x0) (v18 - 1) s17).bind fun s19 =>
    some (.inl (some (vr_ x3)), s19)))))
  else
    jm 34 [vr_ (some x0), vr_ x1, vr_ x2, vr_ x3] [] s14))))))))))) := by rfl
set_option maxRecDepth 100000 in
theorem cb_X13_take (x0 : Nat) (s : σ) : cx_B ct_lc gi gr pi pr ai ar wi wr an nw na io dp ct_ft ct_sg 3 [] ct_X13_take ca jm 1000 ct_X13_take [some (vr_ (some x0))] [] s =
  ((gi 94 (some x0) s).bind fun v1 =>
  ((pi 94 (some x0) (v1 + 1) s).bind fun s2 =>
  ((gr 93 (some x0) s2).bind fun v3 =>
  ((gi 94 (some x0) s2).bind fun v4 =>
  ((dp 79 v3 s2).bind fun m5 =>
  (cx_bR cx_th (ca m5 [vr_ v3, vi_ (v4 - 1)] s2) fun v7 s6 =>
  ((cx_cst io 14 v7 s6).bind fun _ =>
  some (.inl (some (vr_ v7)), s6)))))))) := by rfl
set_option maxRecDepth 100000 in
theorem cb_X13_enter (x0 : Nat) (s : σ) : cx_B ct_lc gi gr pi pr ai ar wi wr an nw na io dp ct_ft ct_sg 0 [] ct_X13_enter ca jm 1000 ct_X13_enter [some (vr_ (some x0))] [] s =
  ((gi 95 (some x0) s).bind fun v1 =>
  (if v1 = 60 then
    ((dp 276 (some x0) s).bind fun m2 =>
    (cx_bR cx_th (ca m2 [vr_ (some x0)] s) fun v4 s3 =>
    (cx_at cx_th v4 s3)))
  else
    ((gi 95 (some x0) s).bind fun v5 =>
    ((pi 95 (some x0) (v5 + 1) s).bind fun s6 =>
    some (.inl none, s6))))) := by rfl
set_option maxRecDepth 100000 in
theorem cb_X13_wrong (x0 : Nat) (s : σ) : cx_B ct_lc gi gr pi pr ai ar wi wr an nw na io dp ct_ft ct_sg 3 [] ct_X13_wrong ca jm 1000 ct_X13_wrong [some (vr_ (some x0))] [] s =
  ((dp 272 (some x0) (nw 8 s).2).bind fun m1 =>
  (cx_bR cx_th (ca m1 [vr_ (some x0)] (nw 8 s).2) fun v3 s2 =>
  ((gi 85 v3 s2).bind fun v4 =>
  ((dp 272 (some x0) s2).bind fun m5 =>
  (cx_bR cx_th (ca m5 [vr_ (some x0)] s2) fun v7 s6 =>
  ((gi 84 v7 s6).bind fun v8 =>
  (if v8 = 6 then
    (cx_bV cx_th (ca 267 [vr_ (some (nw 8 s).1), vi_ v4, vi_ 1] s6) fun s9 =>
    some (.inl (some (vr_ (some (nw 8 s).1))), s9))
  else
    (cx_bV cx_th (ca 267 [vr_ (some (nw 8 s).1), vi_ v4, vi_ 2] s6) fun s10 =>
    some (.inl (some (vr_ (some (nw 8 s).1))), s10))))))))) := by rfl
set_option maxRecDepth 100000 in
theorem cb_X13_opens (x0 : Nat) (s : σ) : cx_B ct_lc gi gr pi pr ai ar wi wr an nw na io dp ct_ft ct_sg 3 [] ct_X13_opens ca jm 1000 ct_X13_opens [some (vr_ (some x0)), none] [] s =
  ((dp 278 (some x0) s).bind fun m1 =>
  (cx_bR cx_th (ca m1 [vr_ (some x0), vr_ (some 1051)] s) fun v3 s2 =>
  ((gr 98 (some x0) s2).bind fun v4 =>
  ((gr 90 v3 s2).bind fun v5 =>
  ((dp 73 v4 s2).bind fun m6 =>
  (cx_bI cx_th (ca m6 [vr_ v4, vr_ v5] s2) fun v8 s7 =>
  some (.inl (some (vr_ v3)), s7))))))) := by rfl
set_option maxRecDepth 100000 in
theorem cb_X13_must (x1 : Option Nat) (x0 : Nat) (s : σ) : cx_B ct_lc gi gr pi pr ai ar wi wr an nw na io dp ct_ft ct_sg 3 [] ct_X13_must ca jm 1000 ct_X13_must [some (vr_ (some x0)), some (vr_ x1)] [] s =
  ((dp 271 (some x0) s).bind fun m1 =>
  (cx_bI cx_th (ca m1 [vr_ (some x0), vr_ x1] s) fun v3 s2 =>
  (if v3 = 0 then
    ((dp 276 (some x0) s2).bind fun m4 =>
    (cx_bR cx_th (ca m4 [vr_ (some x0)] s2) fun v6 s5 =>
    (cx_at cx_th v6 s5)))
  else
    ((dp 274 (some x0) s2).bind fun m7 =>
    (cx_bR cx_th (ca m7 [vr_ (some x0)] s2) fun v9 s8 =>
    some (.inl (some (vr_ v9)), s8)))))) := by rfl
set_option maxRecDepth 100000 in
theorem cb_X13_name (x0 : Nat) (s : σ) : cx_B ct_lc gi gr pi pr ai ar wi wr an nw na io dp ct_ft ct_sg 3 [] ct_X13_name ca jm 1000 ct_X13_name [some (vr_ (some x0))] [] s =
  ((dp 272 (some x0) s).bind fun m1 =>
  (cx_bR cx_th (ca m1 [vr_ (some x0)] s) fun v3 s2 =>
  ((gi 84 v3 s2).bind fun v4 =>
  (if v4 = 0 then
    ((dp 274 (some x0) s2).bind fun m5 =>
    (cx_bR cx_th (ca m5 [vr_ (some x0)] s2) fun v7 s6 =>
    some (.inl (some (vr_ v7)), s6)))
  else
    ((dp 276 (some x0) s2).bind fun m8 =>
    (cx_bR cx_th (ca m8 [vr_ (some x0)] s2) fun v10 s9 =>
    (cx_at cx_th v10 s9))))))) := by rfl
set_option maxRecDepth 100000 in
theorem cb_X13_expression (x0 : Nat) (s : σ) : cx_B ct_lc gi gr pi pr ai ar wi wr an nw na io dp ct_ft ct_sg 3 [] ct_X13_expression ca jm 1000 ct_X13_expression [some (vr_ (some x0)), none, none] [] s =
  ((dp 281 (some x0) s).bind fun m1 =>
  (cx_bR cx_th (ca m1 [vr_ (some x0), vi_ 0] s) fun v3 s2 =>
  ((dp 271 (some x0) s2).bind fun m4 =>
  (cx_bI cx_th (ca m4 [vr_ (some x0), vr_ (some 1081)] s2) fun v6 s5 =>
  (if v6 = 0 then
    some (.inl (some (vr_ v3)), s5)
  else
    ((dp 275 (some x0) s5).bind fun m7 =>
    (cx_bV cx_th (ca m7 [vr_ (some x0)] s5) fun s8 =>
    ((dp 274 (some x0) (nw 9 s8).2).bind fun m9 =>
    (cx_bR cx_th (ca m9 [vr_ (some x0)] (nw 9 s8).2) fun v11 s10 =>
    ((gi 85 v11 s10).bind fun v12 =>
    (cx_bV cx_th (ca 305 [vr_ (some (nw 9 s8).1), vr_ (some 1090), vi_ v12] s10) fun s13 =>
    ((gi 101 v3 s13).bind fun v14 =>
    ((pi 101 (some (nw 9 s8).1) v14 s13).bind fun s15 =>
    ((dp 306 (some (nw 9 s8).1) s15).bind fun m16 =>
    (cx_bR cx_th (ca m16 [vr_ (some (nw 9 s8).1), vr_ v3] s15) fun v18 s17 =>
    ((dp 280 (some x0) s17).bind fun m19 =>
    (cx_bR cx_th (ca m19 [vr_ (some x0)] s17) fun v21 s20 =>
    ((dp 306 v18 s20).bind fun m22 =>
    (cx_bR cx_th (ca m22 [vr_ v18, vr_ v21] s20) fun v24 s23 =>
    ((dp 278 (some x0) s23).bind fun m25 =>
    (cx_bR cx_th (ca m25 [vr_ (some x0), vr_ (some 1082)] s23) fun v27 s26 =>
    ((dp 280 (some x0) s26).bind fun m28 =>
    (cx_bR cx_th (ca m28 [vr_ (some x0)] s26) fun v30 s29 =>
    ((dp 306 (some (nw 9 s8).1) s29).bind fun m31 =>
    (cx_bR cx_th (ca m31 [vr_ (some (nw 9 s8).1), vr_ v30] s29) fun v33 s32 =>
    ((gi 95 (some x0) s32).bind fun v34 =>
    ((pi 95 (some x0) (v34 - 1) s32).bind fun s35 =>
    some (.inl (some (vr_ (some (nw 9 s8).1))), s35)))))))))))))))))))))))))))) := by rfl
set_option maxRecDepth 100000 in
theorem cb_X13_level (x1 : Int32) (x0 : Nat) (s : σ) : cx_B ct_lc gi gr pi pr ai ar wi wr an nw na io dp ct_ft ct_sg 3 [] ct_X13_level ca jm 1000 ct_X13_level [some (vr_ (some x0)), some (vi_ x1), none, none, none] [] s =
  (if x1 = 7 then
    ((dp 282 (some x0) s).bind fun m1 =>
    (cx_bR cx_th (ca m1 [vr_ (some x0)] s) fun v3 s2 =>
    some (.inl (some (vr_ v3)), s2)))
  else
    ((dp 281 (some x0) s).bind fun m4 =>
    (cx_bR cx_th (ca m4 [vr_ (some x0), vi_ (x1 + 1)] s) fun v6 s5 =>
    (if x1 = 4 then
      ((dp 301 (some x0) s5).bind fun m7 =>
      (cx_bI cx_th (ca m7 [vr_ (some x0), vi_ x1] s5) fun v9 s8 =>
      (if v9 = 0 then
        jm 38 [vr_ (some x0), vi_ x1, vr_ v6] [] s8
      else
        ((dp 302 (some x0) s8).bind fun m10 =>
        (cx_bR cx_th (ca m10 [vr_ (some x0), vr_ v6] s8) fun v12 s11 =>
        some (.inl (some (vr_ v12)), s11))))))
    else
      jm 38 [vr_ (some x0), vi_ x1, vr_ v6] [] s5)))) := by rfl
set_option maxRecDepth 100000 in
theorem cb_X13_level_38 (x1 : Int32) (x2 : Option Nat) (x0 : Nat) (s : σ) : cx_B ct_lc gi gr pi pr ai ar wi wr an nw na io dp ct_ft ct_sg 3 [] ct_X13_level ca jm 1000 (pj_at ct_X13_level 38) [some (vr_ (some x0)), some (vi_ x1), some (vr_ x2), none, none] [] s =
  ((dp 301 (some x0) s).bind fun m1 =>
  (cx_bI cx_th (ca m1 [vr_ (some x0), vi_ x1] s) fun v3 s2 =>
  (if v3 = 0 then
    some (.inl (some (vr_ x2)), s2)
  else
    ((dp 274 (some x0) s2).bind fun m4 =>
    (cx_bR cx_th (ca m4 [vr_ (some x0)] s2) fun v6 s5 =>
    ((gi 85 v6 (nw 9 s5).2).bind fun v7 =>
    (cx_bV cx_th (ca 305 [vr_ (some (nw 9 s5).1), vr_ (some 1091), vi_ v7] (nw 9 s5).2) fun s8 =>
    ((gr 88 v6 s8).bind fun v9 =>
    ((pr 103 (some (nw 9 s5).1) v9 s8).bind fun s10 =>
    ((gi 101 x2 s10).bind fun v11 =>
    ((pi 101 (some (nw 9 s5).1) v11 s10).bind fun s12 =>
    ((dp 306 (some (nw 9 s5).1) s12).bind fun m13 =>
    (cx_bR cx_th (ca m13 [vr_ (some (nw 9 s5).1), vr_ x2] s12) fun v15 s14 =>
    ((dp 281 (some x0) s14).bind fun m16 =>
    (cx_bR cx_th (ca m16 [vr_ (some x0), vi_ (x1 + 1)] s14) fun v18 s17 =>
    ((dp 306 v15 s17).bind fun m19 =>
    (cx_bR cx_th (ca m19 [vr_ v15, vr_ v18] s17) fun v21 s20 =>
    jm 38 [vr_ (some x0), vi_ x1, vr_ v21] [] s20))))))))))))))))) := by rfl
set_option maxRecDepth 100000 in
theorem cb_X13_prefixed (x0 : Nat) (s : σ) : cx_B ct_lc gi gr pi pr ai ar wi wr an nw na io dp ct_ft ct_sg 3 [] ct_X13_prefixed ca jm 1000 ct_X13_prefixed [some (vr_ (some x0)), none, none, none] [] s =
  ((dp 271 (some x0) s).bind fun m1 =>
  (cx_bI cx_th (ca m1 [vr_ (some x0), vr_ (some 1027)] s) fun v3 s2 =>
  (if v3 = 0 then
    ((dp 271 (some x0) s2).bind fun m4 =>
    (cx_bI cx_th (ca m4 [vr_ (some x0), vr_ (some 1028)] s2) fun v6 s5 =>
    (if v6 = 0 then
      ((dp 271 (some x0) s5).bind fun m7 =>
      (cx_bI cx_th (ca m7 [vr_ (some x0), vr_ (some 1080)] s5) fun v9 s8 =>
      (if v9 = 0 then
        ((dp 271 (some x0) s8).bind fun m10 =>
        (cx_bI cx_th (ca m10 [vr_ (some x0), vr_ (some 1032)] s8) fun v12 s11 =>
        (if v12 = 0 then
          jm 45 [vr_ (some x0)] [vi_ 0] s11
        else
          jm 45 [vr_ (some x0)] [vi_ 1] s11)))
      else
        jm 45 [vr_ (some x0)] [vi_ 1] s8)))
    else
      jm 45 [vr_ (some x0)] [vi_ 1] s5)))
  else
    jm 45 [vr_ (some x0)] [vi_ 1] s2))) := by rfl
set_option maxRecDepth 100000 in
theorem cb_X13_prefixed_45 (y0 : Int32) (x0 : Nat) (s : σ) : cx_B ct_lc gi gr pi pr ai ar wi wr an nw na io dp ct_ft ct_sg 3 [] ct_X13_prefixed ca jm 1000 (pj_at ct_X13_prefixed 45) [some (vr_ (some x0)), none, none, none] [vi_ y0] s =
  (if y0 = 0 then
    ((dp 283 (some x0) s).bind fun m1 =>
    (cx_bR cx_th (ca m1 [vr_ (some x0)] s) fun v3 s2 =>
    some (.inl (some (vr_ v3)), s2)))
  else
    ((dp 275 (some x0) s).bind fun m4 =>
    (cx_bV cx_th (ca m4 [vr_ (some x0)] s) fun s5 =>
    ((dp 274 (some x0) s5).bind fun m6 =>
    (cx_bR cx_th (ca m6 [vr_ (some x0)] s5) fun v8 s7 =>
    ((gr 88 v8 (nw 9 s7).2).bind fun v9 =>
    ((dp 99 v9 (nw 9 s7).2).bind fun m10 =>
    (cx_bI cx_th (ca m10 [vr_ v9, vr_ (some 1027)] (nw 9 s7).2) fun v12 s11 =>
    (if v12 = 0 then
      ((gr 88 v8 s11).bind fun v13 =>
      ((dp 99 v13 s11).bind fun m14 =>
      (cx_bI cx_th (ca m14 [vr_ v13, vr_ (some 1028)] s11) fun v16 s15 =>
      (if v16 = 0 then
        jm 109 [vr_ (some x0), vr_ v8] [vr_ (some 1094), vr_ (some (nw 9 s7).1), vr_ (some (nw 9 s7).1)] s15
      else
        jm 109 [vr_ (some x0), vr_ v8] [vr_ (some 1093), vr_ (some (nw 9 s7).1), vr_ (some (nw 9 s7).1)] s15))))
    else
      jm 109 [vr_ (some x0), vr_ v8] [vr_ (some 1092), vr_ (some (nw 9 s7).1), vr_ (some (nw 9 s7).1)] s11))))))))) := by rfl
set_option maxRecDepth 100000 in
theorem cb_X13_prefixed_109 (x2 y0 y1 y2 : Option Nat) (x0 : Nat) (s : σ) : cx_B ct_lc gi gr pi pr ai ar wi wr an nw na io dp ct_ft ct_sg 3 [] ct_X13_prefixed ca jm 1000 (pj_at ct_X13_prefixed 109) [some (vr_ (some x0)), none, some (vr_ x2), none] [vr_ y2, vr_ y1, vr_ y0] s =
  ((gi 85 x2 s).bind fun v1 =>
  (cx_bV cx_th (ca 305 [vr_ y1, vr_ y2, vi_ v1] s) fun s2 =>
  ((dp 282 (some x0) s2).bind fun m3 =>
  (cx_bR cx_th (ca m3 [vr_ (some x0)] s2) fun v5 s4 =>
  ((dp 306 y0 s4).bind fun m6 =>
  (cx_bR cx_th (ca m6 [vr_ y0, vr_ v5] s4) fun v8 s7 =>
  ((gi 95 (some x0) s7).bind fun v9 =>
  ((pi 95 (some x0) (v9 - 1) s7).bind fun s10 =>
  some (.inl (some (vr_ y0)), s10))))))))) := by rfl
set_option maxRecDepth 100000 in
theorem cb_X13_addressed (x0 : Nat) (s : σ) : cx_B ct_lc gi gr pi pr ai ar wi wr an nw na io dp ct_ft ct_sg 3 [] ct_X13_addressed ca jm 1000 ct_X13_addressed [some (vr_ (some x0)), none, none, none, none, none] [] s =
  ((dp 271 (some x0) s).bind fun m1 =>
  (cx_bI cx_th (ca m1 [vr_ (some x0), vr_ (some 1049)] s) fun v3 s2 =>
  (if v3 = 0 then
    ((dp 271 (some x0) s2).bind fun m4 =>
    (cx_bI cx_th (ca m4 [vr_ (some x0), vr_ (some 1050)] s2) fun v6 s5 =>
    (if v6 = 0 then
      ((gi 95 (some x0) s5).bind fun v7 =>
      ((dp 285 (some x0) s5).bind fun m8 =>
      (cx_bR cx_th (ca m8 [vr_ (some x0)] s5) fun v10 s9 =>
      jm 36 [vr_ (some x0), vi_ v7, vr_ v10] [] s9)))
    else
      ((dp 284 (some x0) s5).bind fun m11 =>
      (cx_bR cx_th (ca m11 [vr_ (some x0), vi_ 0] s5) fun v13 s12 =>
      some (.inl (some (vr_ v13)), s12))))))
  else
    ((dp 284 (some x0) s2).bind fun m14 =>
    (cx_bR cx_th (ca m14 [vr_ (some x0), vi_ 0] s2) fun v16 s15 =>
    some (.inl (some (vr_ v16)), s15)))))) := by rfl
set_option maxRecDepth 100000 in
theorem cb_X13_addressed_36 (x1 : Int32) (x2 : Option Nat) (x0 : Nat) (s : σ) : cx_B ct_lc gi gr pi pr ai ar wi wr an nw na io dp ct_ft ct_sg 3 [] ct_X13_addressed ca jm 1000 (pj_at ct_X13_addressed 36) [some (vr_ (some x0)), some (vi_ x1), some (vr_ x2), none, none, none] [] s =
  ((dp 271 (some x0) s).bind fun m1 =>
  (cx_bI cx_th (ca m1 [vr_ (some x0), vr_ (some 1049)] s) fun v3 s2 =>
  (if v3 = 0 then
    ((dp 271 (some x0) s2).bind fun m4 =>
    (cx_bI cx_th (ca m4 [vr_ (some x0), vr_ (some 1084)] s2) fun v6 s5 =>
    (if v6 = 0 then
      ((pi 95 (some x0) x1 s5).bind fun s7 =>
      some (.inl (some (vr_ x2)), s7))
    else
      jm 56 [vr_ (some x0), vi_ x1, vr_ x2] [] s5)))
  else
    jm 56 [vr_ (some x0), vi_ x1, vr_ x2] [] s2))) := by rfl
set_option maxRecDepth 100000 in
theorem cb_X13_addressed_56 (x1 : Int32) (x2 : Option Nat) (x0 : Nat) (s : σ) : cx_B ct_lc gi gr pi pr ai ar wi wr an nw na io dp ct_ft ct_sg 3 [] ct_X13_addressed ca jm 1000 (pj_at ct_X13_addressed 56) [some (vr_ (some x0)), some (vi_ x1), some (vr_ x2), none, none, none] [] s =
  ((dp 275 (some x0) s).bind fun m1 =>
  (cx_bV cx_th (ca m1 [vr_ (some x0)] s) fun s2 =>
  ((dp 274 (some x0) s2).bind fun m3 =>
  (cx_bR cx_th (ca m3 [vr_ (some x0)] s2) fun v5 s4 =>
  ((dp 271 (some x0) s4).bind fun m6 =>
  (cx_bI cx_th (ca m6 [vr_ (some x0), vr_ (some 1049)] s4) fun v8 s7 =>
  (if v8 = 0 then
    ((dp 271 (some x0) s7).bind fun m9 =>
    (cx_bI cx_th (ca m9 [vr_ (some x0), vr_ (some 1050)] s7) fun v11 s10 =>
    (if v11 = 0 then
      ((dp 285 (some x0) s10).bind fun m12 =>
      (cx_bR cx_th (ca m12 [vr_ (some x0)] s10) fun v14 s13 =>
      jm 97 [vr_ (some x0), vi_ x1, vr_ x2, vr_ v5] [vr_ v14] s13))
    else
      ((dp 284 (some x0) s10).bind fun m15 =>
      (cx_bR cx_th (ca m15 [vr_ (some x0), vi_ 1] s10) fun v17 s16 =>
      jm 97 [vr_ (some x0), vi_ x1, vr_ x2, vr_ v5] [vr_ v17] s16)))))
  else
    ((dp 284 (some x0) s7).bind fun m18 =>
    (cx_bR cx_th (ca m18 [vr_ (some x0), vi_ 1] s7) fun v20 s19 =>
    jm 97 [vr_ (some x0), vi_ x1, vr_ x2, vr_ v5] [vr_ v20] s19))))))))) := by rfl
set_option maxRecDepth 100000 in
theorem cb_X13_addressed_97 (x1 : Int32) (x2 x3 y0 : Option Nat) (x0 : Nat) (s : σ) : cx_B ct_lc gi gr pi pr ai ar wi wr an nw na io dp ct_ft ct_sg 3 [] ct_X13_addressed ca jm 1000 (pj_at ct_X13_addressed 97) [some (vr_ (some x0)), some (vi_ x1), some (vr_ x2), some (vr_ x3), none, none] [vr_ y0] s =
  ((gr 88 x3 s).bind fun v1 =>
  ((dp 99 v1 s).bind fun m2 =>
  (cx_bI cx_th (ca m2 [vr_ v1, vr_ (some 1084)] s) fun v4 s3 =>
  (if v4 = 0 then
    ((gi 85 x3 (nw 9 s3).2).bind fun v5 =>
    (cx_bV cx_th (ca 305 [vr_ (some (nw 9 s3).1), vr_ (some 1096), vi_ v5] (nw 9 s3).2) fun s6 =>
    ((gi 101 x2 s6).bind fun v7 =>
    ((pi 101 (some (nw 9 s3).1) v7 s6).bind fun s8 =>
    ((dp 306 (some (nw 9 s3).1) s8).bind fun m9 =>
    (cx_bR cx_th (ca m9 [vr_ (some (nw 9 s3).1), vr_ x2] s8) fun v11 s10 =>
    ((dp 306 v11 s10).bind fun m12 =>
    (cx_bR cx_th (ca m12 [vr_ v11, vr_ y0] s10) fun v14 s13 =>
    jm 36 [vr_ (some x0), vi_ x1, vr_ v14] [] s13))))))))
  else
    ((gi 85 x3 (nw 9 s3).2).bind fun v15 =>
    (cx_bV cx_th (ca 305 [vr_ (some (nw 9 s3).1), vr_ (some 1095), vi_ v15] (nw 9 s3).2) fun s16 =>
    ((gi 101 x2 s16).bind fun v17 =>
    ((pi 101 (some (nw 9 s3).1) v17 s16).bind fun s18 =>
    ((dp 306 (some (nw 9 s3).1) s18).bind fun m19 =>
    (cx_bR cx_th (ca m19 [vr_ (some (nw 9 s3).1), vr_ x2] s18) fun v21 s20 =>
    ((dp 306 v21 s20).bind fun m22 =>
    (cx_bR cx_th (ca m22 [vr_ v21, vr_ y0] s20) fun v24 s23 =>
    jm 36 [vr_ (some x0), vi_ x1, vr_ v24] [] s23)))))))))))) := by rfl
set_option maxRecDepth 100000 in
theorem cb_X13_marked (x1 : Int32) (x0 : Nat) (s : σ) : cx_B ct_lc gi gr pi pr ai ar wi wr an nw na io dp ct_ft ct_sg 3 [] ct_X13_marked ca jm 1000 ct_X13_marked [some (vr_ (some x0)), some (vi_ x1), none, none] [] s =
  ((dp 275 (some x0) s).bind fun m1 =>
  (cx_bV cx_th (ca m1 [vr_ (some x0)] s) fun s2 =>
  ((dp 274 (some x0) s2).bind fun m3 =>
  (cx_bR cx_th (ca m3 [vr_ (some x0)] s2) fun v5 s4 =>
  ((dp 271 (some x0) s4).bind fun m6 =>
  (cx_bI cx_th (ca m6 [vr_ (some x0), vr_ (some 1049)] s4) fun v8 s7 =>
  (if v8 = 0 then
    ((dp 271 (some x0) s7).bind fun m9 =>
    (cx_bI cx_th (ca m9 [vr_ (some x0), vr_ (some 1050)] s7) fun v11 s10 =>
    (if v11 = 0 then
      (if x1 = 0 then
        ((dp 283 (some x0) s10).bind fun m12 =>
        (cx_bR cx_th (ca m12 [vr_ (some x0)] s10) fun v14 s13 =>
        (if x1 = 0 then
          ((gi 95 (some x0) s13).bind fun v15 =>
          ((pi 95 (some x0) (v15 - 1) s13).bind fun s16 =>
          jm 67 [vr_ v5, vr_ v14] [] s16))
        else
          jm 67 [vr_ v5, vr_ v14] [] s13)))
      else
        ((dp 285 (some x0) s10).bind fun m17 =>
        (cx_bR cx_th (ca m17 [vr_ (some x0)] s10) fun v19 s18 =>
        (if x1 = 0 then
          ((gi 95 (some x0) s18).bind fun v20 =>
          ((pi 95 (some x0) (v20 - 1) s18).bind fun s21 =>
          jm 67 [vr_ v5, vr_ v19] [] s21))
        else
          jm 67 [vr_ v5, vr_ v19] [] s18))))
    else
      jm 29 [vr_ (some x0), vi_ x1, vr_ v5] [] s10)))
  else
    jm 29 [vr_ (some x0), vi_ x1, vr_ v5] [] s7))))))) := by rfl
set_option maxRecDepth 100000 in
theorem cb_X13_marked_29 (x1 : Int32) (x2 : Option Nat) (x0 : Nat) (s : σ) : cx_B ct_lc gi gr pi pr ai ar wi wr an nw na io dp ct_ft ct_sg 3 [] ct_X13_marked ca jm 1000 (pj_at ct_X13_marked 29) [some (vr_ (some x0)), some (vi_ x1), some (vr_ x2), none] [] s =
  ((dp 284 (some x0) s).bind fun m1 =>
  (cx_bR cx_th (ca m1 [vr_ (some x0), vi_ x1] s) fun v3 s2 =>
  (if x1 = 0 then
    ((gi 95 (some x0) s2).bind fun v4 =>
    ((pi 95 (some x0) (v4 - 1) s2).bind fun s5 =>
    jm 67 [vr_ x2, vr_ v3] [] s5))
  else
    jm 67 [vr_ x2, vr_ v3] [] s2))) := by rfl
set_option maxRecDepth 100000 in
theorem cb_X13_marked_67 (x2 x3 : Option Nat) (s : σ) : cx_B ct_lc gi gr pi pr ai ar wi wr an nw na io dp ct_ft ct_sg 3 [] ct_X13_marked ca jm 1000 (pj_at ct_X13_marked 67) [none, none, some (vr_ x2), some (vr_ x3)] [] s =
  ((gr 88 x2 (nw 9 s).2).bind fun v1 =>
  ((dp 99 v1 (nw 9 s).2).bind fun m2 =>
  (cx_bI cx_th (ca m2 [vr_ v1, vr_ (some 1049)] (nw 9 s).2) fun v4 s3 =>
  (if v4 = 0 then
    ((gi 85 x2 s3).bind fun v5 =>
    (cx_bV cx_th (ca 305 [vr_ (some (nw 9 s).1), vr_ (some 1097), vi_ v5] s3) fun s6 =>
    ((dp 306 (some (nw 9 s).1) s6).bind fun m7 =>
    (cx_bR cx_th (ca m7 [vr_ (some (nw 9 s).1), vr_ x3] s6) fun v9 s8 =>
    some (.inl (some (vr_ v9)), s8)))))
  else
    ((gi 85 x2 s3).bind fun v10 =>
    (cx_bV cx_th (ca 305 [vr_ (some (nw 9 s).1), vr_ (some 1096), vi_ v10] s3) fun s11 =>
    ((dp 306 (some (nw 9 s).1) s11).bind fun m12 =>
    (cx_bR cx_th (ca m12 [vr_ (some (nw 9 s).1), vr_ x3] s11) fun v14 s13 =>
    some (.inl (some (vr_ v14)), s13))))))))) := by rfl
set_option maxRecDepth 100000 in
theorem cb_X13_called (x0 : Nat) (s : σ) : cx_B ct_lc gi gr pi pr ai ar wi wr an nw na io dp ct_ft ct_sg 3 [] ct_X13_called ca jm 1000 ct_X13_called [some (vr_ (some x0)), none, none] [] s =
  ((dp 286 (some x0) s).bind fun m1 =>
  (cx_bR cx_th (ca m1 [vr_ (some x0)] s) fun v3 s2 =>
  jm 5 [vr_ (some x0), vr_ v3] [] s2)) := by rfl
set_option maxRecDepth 100000 in
theorem cb_X13_called_5 (x1 : Option Nat) (x0 : Nat) (s : σ) : cx_B ct_lc gi gr pi pr ai ar wi wr an nw na io dp ct_ft ct_sg 3 [] ct_X13_called ca jm 1000 (pj_at ct_X13_called 5) [some (vr_ (some x0)), some (vr_ x1), none] [] s =
  ((dp 271 (some x0) s).bind fun m1 =>
  (cx_bI cx_th (ca m1 [vr_ (some x0), vr_ (some 1048)] s) fun v3 s2 =>
  (if v3 = 0 then
    some (.inl (some (vr_ x1)), s2)
  else
    ((dp 275 (some x0) s2).bind fun m4 =>
    (cx_bV cx_th (ca m4 [vr_ (some x0)] s2) fun s5 =>
    ((dp 274 (some x0) (nw 9 s5).2).bind fun m6 =>
    (cx_bR cx_th (ca m6 [vr_ (some x0)] (nw 9 s5).2) fun v8 s7 =>
    ((gi 85 v8 s7).bind fun v9 =>
    (cx_bV cx_th (ca 305 [vr_ (some (nw 9 s5).1), vr_ (some 1098), vi_ v9] s7) fun s10 =>
    ((gi 101 x1 s10).bind fun v11 =>
    ((pi 101 (some (nw 9 s5).1) v11 s10).bind fun s12 =>
    ((dp 306 (some (nw 9 s5).1) s12).bind fun m13 =>
    (cx_bR cx_th (ca m13 [vr_ (some (nw 9 s5).1), vr_ x1] s12) fun v15 s14 =>
    ((dp 271 (some x0) s14).bind fun m16 =>
    (cx_bI cx_th (ca m16 [vr_ (some x0), vr_ (some 1076)] s14) fun v18 s17 =>
    (if v18 = 0 then
      ((dp 280 (some x0) s17).bind fun m19 =>
      (cx_bR cx_th (ca m19 [vr_ (some x0)] s17) fun v21 s20 =>
      ((dp 306 (some (nw 9 s5).1) s20).bind fun m22 =>
      (cx_bR cx_th (ca m22 [vr_ (some (nw 9 s5).1), vr_ v21] s20) fun v24 s23 =>
      jm 68 [vr_ (some x0), vr_ (some (nw 9 s5).1)] [] s23))))
    else
      ((dp 278 (some x0) s17).bind fun m25 =>
      (cx_bR cx_th (ca m25 [vr_ (some x0), vr_ (some 1076)] s17) fun v27 s26 =>
      jm 5 [vr_ (some x0), vr_ (some (nw 9 s5).1)] [] s26)))))))))))))))))) := by rfl
set_option maxRecDepth 100000 in
theorem cb_X13_called_68 (x2 : Option Nat) (x0 : Nat) (s : σ) : cx_B ct_lc gi gr pi pr ai ar wi wr an nw na io dp ct_ft ct_sg 3 [] ct_X13_called ca jm 1000 (pj_at ct_X13_called 68) [some (vr_ (some x0)), none, some (vr_ x2)] [] s =
  ((dp 271 (some x0) s).bind fun m1 =>
  (cx_bI cx_th (ca m1 [vr_ (some x0), vr_ (some 1082)] s) fun v3 s2 =>
  (if v3 = 0 then
    ((dp 278 (some x0) s2).bind fun m4 =>
    (cx_bR cx_th (ca m4 [vr_ (some x0), vr_ (some 1076)] s2) fun v6 s5 =>
    jm 5 [vr_ (some x0), vr_ x2] [] s5))
  else
    ((dp 307 x2 s2).bind fun m7 =>
    (cx_bI cx_th (ca m7 [vr_ x2] s2) fun v9 s8 =>
    (if 20 < v9 then
      ((dp 276 (some x0) s8).bind fun m10 =>
      (cx_bR cx_th (ca m10 [vr_ (some x0)] s8) fun v12 s11 =>
      (cx_at cx_th v12 s11)))
    else
      ((dp 274 (some x0) s8).bind fun m13 =>
      (cx_bR cx_th (ca m13 [vr_ (some x0)] s8) fun v15 s14 =>
      ((dp 280 (some x0) s14).bind fun m16 =>
      (cx_bR cx_th (ca m16 [vr_ (some x0)] s14) fun v18 s17 =>
      ((dp 306 x2 s17).bind fun m19 =>
      (cx_bR cx_th (ca m19 [vr_ x2, vr_ v18] s17) fun v21 s20 =>
      jm 68 [vr_ (some x0), vr_ x2] [] s20)))))))))))) := by rfl
set_option maxRecDepth 100000 in
theorem cb_X13_primary (x0 : Nat) (s : σ) : cx_B ct_lc gi gr pi pr ai ar wi wr an nw na io dp ct_ft ct_sg 3 [] ct_X13_primary ca jm 1000 ct_X13_primary [some (vr_ (some x0)), none, none] [] s =
  ((dp 272 (some x0) s).bind fun m1 =>
  (cx_bR cx_th (ca m1 [vr_ (some x0)] s) fun v3 s2 =>
  ((gi 84 v3 s2).bind fun v4 =>
  (if v4 = 0 then
    jm 28 [vr_ (some x0), vr_ v3] [] s2
  else
    ((gi 84 v3 s2).bind fun v5 =>
    (if v5 = 1 then
      jm 28 [vr_ (some x0), vr_ v3] [] s2
    else
      ((gi 84 v3 s2).bind fun v6 =>
      (if v6 = 2 then
        jm 28 [vr_ (some x0), vr_ v3] [] s2
      else
        ((dp 271 (some x0) s2).bind fun m7 =>
        (cx_bI cx_th (ca m7 [vr_ (some x0), vr_ (some 1052)] s2) fun v9 s8 =>
        (if v9 = 0 then
          ((dp 271 (some x0) s8).bind fun m10 =>
          (cx_bI cx_th (ca m10 [vr_ (some x0), vr_ (some 1053)] s8) fun v12 s11 =>
          (if v12 = 0 then
            ((dp 271 (some x0) s11).bind fun m13 =>
            (cx_bI cx_th (ca m13 [vr_ (some x0), vr_ (some 1054)] s11) fun v15 s14 =>
            (if v15 = 0 then
              ((dp 271 (some x0) s14).bind fun m16 =>
              (cx_bI cx_th (ca m16 [vr_ (some x0), vr_ (some 1055)] s14) fun v18 s17 =>
              (if v18 = 0 then
                ((dp 271 (some x0) s17).bind fun m19 =>
                (cx_bI cx_th (ca m19 [vr_ (some x0), vr_ (some 1048)] s17) fun v21 s20 =>
                (if v21 = 0 then
                  ((dp 276 (some x0) s20).bind fun m22 =>
                  (cx_bR cx_th (ca m22 [vr_ (some x0)] s20) fun v24 s23 =>
                  (cx_at cx_th v24 s23)))
                else
                  ((dp 275 (some x0) s20).bind fun m25 =>
                  (cx_bV cx_th (ca m25 [vr_ (some x0)] s20) fun s26 =>
                  ((dp 274 (some x0) s26).bind fun m27 =>
                  (cx_bR cx_th (ca m27 [vr_ (some x0)] s26) fun v29 s28 =>
                  ((dp 280 (some x0) s28).bind fun m30 =>
                  (cx_bR cx_th (ca m30 [vr_ (some x0)] s28) fun v32 s31 =>
                  ((dp 278 (some x0) s31).bind fun m33 =>
                  (cx_bR cx_th (ca m33 [vr_ (some x0), vr_ (some 1076)] s31) fun v35 s34 =>
                  ((gi 85 v3 s34).bind fun v36 =>
                  ((pi 101 v32 v36 s34).bind fun s37 =>
                  ((pi 102 v32 1 s37).bind fun s38 =>
                  ((gi 95 (some x0) s38).bind fun v39 =>
                  ((pi 95 (some x0) (v39 - 1) s38).bind fun s40 =>
                  some (.inl (some (vr_ v32)), s40)))))))))))))))))
              else
                ((dp 275 (some x0) s17).bind fun m41 =>
                (cx_bV cx_th (ca m41 [vr_ (some x0)] s17) fun s42 =>
                ((dp 274 (some x0) (nw 9 s42).2).bind fun m43 =>
                (cx_bR cx_th (ca m43 [vr_ (some x0)] (nw 9 s42).2) fun v45 s44 =>
                ((gi 85 v45 s44).bind fun v46 =>
                (cx_bV cx_th (ca 305 [vr_ (some (nw 9 s42).1), vr_ (some 1103), vi_ v46] s44) fun s47 =>
                ((gr 96 (some x0) s47).bind fun v48 =>
                ((dp 73 v48 s47).bind fun m49 =>
                (cx_bI cx_th (ca m49 [vr_ v48, vr_ (some (nw 9 s42).1)] s47) fun v51 s50 =>
                ((dp 280 (some x0) s50).bind fun m52 =>
                (cx_bR cx_th (ca m52 [vr_ (some x0)] s50) fun v54 s53 =>
                ((dp 306 (some (nw 9 s42).1) s53).bind fun m55 =>
                (cx_bR cx_th (ca m55 [vr_ (some (nw 9 s42).1), vr_ v54] s53) fun v57 s56 =>
                jm 281 [vr_ (some x0), vr_ (some (nw 9 s42).1)] [] s56))))))))))))))))
            else
              ((dp 275 (some x0) s14).bind fun m58 =>
              (cx_bV cx_th (ca m58 [vr_ (some x0)] s14) fun s59 =>
              ((dp 274 (some x0) (nw 9 s59).2).bind fun m60 =>
              (cx_bR cx_th (ca m60 [vr_ (some x0)] (nw 9 s59).2) fun v62 s61 =>
              ((gi 85 v62 s61).bind fun v63 =>
              (cx_bV cx_th (ca 305 [vr_ (some (nw 9 s59).1), vr_ (some 1102), vi_ v63] s61) fun s64 =>
              ((dp 287 (some x0) s64).bind fun m65 =>
              (cx_bR cx_th (ca m65 [vr_ (some x0)] s64) fun v67 s66 =>
              ((dp 306 (some (nw 9 s59).1) s66).bind fun m68 =>
              (cx_bR cx_th (ca m68 [vr_ (some (nw 9 s59).1), vr_ v67] s66) fun v70 s69 =>
              ((gi 95 (some x0) s69).bind fun v71 =>
              ((pi 95 (some x0) (v71 - 1) s69).bind fun s72 =>
              some (.inl (some (vr_ (some (nw 9 s59).1))), s72))))))))))))))))
          else
            jm 132 [vr_ (some x0), vr_ v3] [] s11)))
        else
          jm 132 [vr_ (some x0), vr_ v3] [] s8))))))))))) := by rfl
set_option maxRecDepth 100000 in
theorem cb_X13_primary_28 (x1 : Option Nat) (x0 : Nat) (s : σ) : cx_B ct_lc gi gr pi pr ai ar wi wr an nw na io dp ct_ft ct_sg 3 [] ct_X13_primary ca jm 1000 (pj_at ct_X13_primary 28) [some (vr_ (some x0)), some (vr_ x1), none] [] s =
  ((dp 274 (some x0) s).bind fun m1 =>
  (cx_bR cx_th (ca m1 [vr_ (some x0)] s) fun v3 s2 =>
  ((gi 84 x1 (nw 9 s2).2).bind fun v4 =>
  (if v4 = 0 then
    jm 67 [vr_ (some x0), vr_ x1] [vr_ (some 1099), vr_ (some (nw 9 s2).1), vr_ (some (nw 9 s2).1)] (nw 9 s2).2
  else
    ((gi 84 x1 (nw 9 s2).2).bind fun v5 =>
    (if v5 = 1 then
      jm 67 [vr_ (some x0), vr_ x1] [vr_ (some 1100), vr_ (some (nw 9 s2).1), vr_ (some (nw 9 s2).1)] (nw 9 s2).2
    else
      jm 67 [vr_ (some x0), vr_ x1] [vr_ (some 1101), vr_ (some (nw 9 s2).1), vr_ (some (nw 9 s2).1)] (nw 9 s2).2)))))) := by rfl
set_option maxRecDepth 100000 in
theorem cb_X13_primary_67 (x1 y0 y1 y2 : Option Nat) (x0 : Nat) (s : σ) : cx_B ct_lc gi gr pi pr ai ar wi wr an nw na io dp ct_ft ct_sg 3 [] ct_X13_primary ca jm 1000 (pj_at ct_X13_primary 67) [some (vr_ (some x0)), some (vr_ x1), none] [vr_ y2, vr_ y1, vr_ y0] s =
  ((gi 85 x1 s).bind fun v1 =>
  (cx_bV cx_th (ca 305 [vr_ y1, vr_ y2, vi_ v1] s) fun s2 =>
  ((gr 88 x1 s2).bind fun v3 =>
  ((pr 103 y0 v3 s2).bind fun s4 =>
  ((gi 87 x1 s4).bind fun v5 =>
  ((pi 104 y0 v5 s4).bind fun s6 =>
  ((gi 84 x1 s6).bind fun v7 =>
  (if v7 = 2 then
    ((gr 96 (some x0) s6).bind fun v8 =>
    ((dp 73 v8 s6).bind fun m9 =>
    (cx_bI cx_th (ca m9 [vr_ v8, vr_ y0] s6) fun v11 s10 =>
    some (.inl (some (vr_ y0)), s10))))
  else
    some (.inl (some (vr_ y0)), s6))))))))) := by rfl
set_option maxRecDepth 100000 in
theorem cb_X13_primary_132 (x1 : Option Nat) (x0 : Nat) (s : σ) : cx_B ct_lc gi gr pi pr ai ar wi wr an nw na io dp ct_ft ct_sg 3 [] ct_X13_primary ca jm 1000 (pj_at ct_X13_primary 132) [some (vr_ (some x0)), some (vr_ x1), none] [] s =
  ((dp 274 (some x0) s).bind fun m1 =>
  (cx_bR cx_th (ca m1 [vr_ (some x0)] s) fun v3 s2 =>
  ((gi 85 x1 (nw 9 s2).2).bind fun v4 =>
  (cx_bV cx_th (ca 305 [vr_ (some (nw 9 s2).1), vr_ (some 1100), vi_ v4] (nw 9 s2).2) fun s5 =>
  ((gr 88 x1 s5).bind fun v6 =>
  ((dp 99 v6 s5).bind fun m7 =>
  (cx_bI cx_th (ca m7 [vr_ v6, vr_ (some 1052)] s5) fun v9 s8 =>
  (if v9 = 0 then
    ((pi 104 (some (nw 9 s2).1) 0 s8).bind fun s10 =>
    some (.inl (some (vr_ (some (nw 9 s2).1))), s10))
  else
    ((pi 104 (some (nw 9 s2).1) (-1) s8).bind fun s11 =>
    some (.inl (some (vr_ (some (nw 9 s2).1))), s11)))))))))) := by rfl
set_option maxRecDepth 100000 in
theorem cb_X13_primary_281 (x2 : Option Nat) (x0 : Nat) (s : σ) : cx_B ct_lc gi gr pi pr ai ar wi wr an nw na io dp ct_ft ct_sg 3 [] ct_X13_primary ca jm 1000 (pj_at ct_X13_primary 281) [some (vr_ (some x0)), none, some (vr_ x2)] [] s =
  ((dp 290 (some x0) s).bind fun m1 =>
  (cx_bI cx_th (ca m1 [vr_ (some x0), vr_ (some 1082)] s) fun v3 s2 =>
  (if v3 = 0 then
    ((gi 95 (some x0) s2).bind fun v4 =>
    ((pi 95 (some x0) (v4 - 1) s2).bind fun s5 =>
    some (.inl (some (vr_ x2)), s5)))
  else
    ((dp 280 (some x0) s2).bind fun m6 =>
    (cx_bR cx_th (ca m6 [vr_ (some x0)] s2) fun v8 s7 =>
    ((dp 306 x2 s7).bind fun m9 =>
    (cx_bR cx_th (ca m9 [vr_ x2, vr_ v8] s7) fun v11 s10 =>
    jm 281 [vr_ (some x0), vr_ x2] [] s10))))))) := by rfl
set_option maxRecDepth 100000 in
theorem cb_X13_command (x0 : Nat) (s : σ) : cx_B ct_lc gi gr pi pr ai ar wi wr an nw na io dp ct_ft ct_sg 3 [] ct_X13_command ca jm 1000 ct_X13_command [some (vr_ (some x0)), none, none] [] s =
  ((dp 288 (some x0) s).bind fun m1 =>
  (cx_bR cx_th (ca m1 [vr_ (some x0)] s) fun v3 s2 =>
  ((gi 95 (some x0) s2).bind fun v4 =>
  jm 10 [vr_ (some x0), vr_ v3, vi_ v4] [] s2))) := by rfl
set_option maxRecDepth 100000 in
theorem cb_X13_command_10 (x2 : Int32) (x1 : Option Nat) (x0 : Nat) (s : σ) : cx_B ct_lc gi gr pi pr ai ar wi wr an nw na io dp ct_ft ct_sg 3 [] ct_X13_command ca jm 1000 (pj_at ct_X13_command 10) [some (vr_ (some x0)), some (vr_ x1), some (vi_ x2)] [] s =
  ((dp 271 (some x0) s).bind fun m1 =>
  (cx_bI cx_th (ca m1 [vr_ (some x0), vr_ (some 1045)] s) fun v3 s2 =>
  (if v3 = 0 then
    ((dp 271 (some x0) s2).bind fun m4 =>
    (cx_bI cx_th (ca m4 [vr_ (some x0), vr_ (some 1046)] s2) fun v6 s5 =>
    (if v6 = 0 then
      ((dp 271 (some x0) s5).bind fun m7 =>
      (cx_bI cx_th (ca m7 [vr_ (some x0), vr_ (some 1047)] s5) fun v9 s8 =>
      (if v9 = 0 then
        ((pi 95 (some x0) x2 s8).bind fun s10 =>
        some (.inl (some (vr_ x1)), s10))
      else
        jm 37 [vr_ (some x0), vr_ x1, vi_ x2] [] s8)))
    else
      jm 37 [vr_ (some x0), vr_ x1, vi_ x2] [] s5)))
  else
    jm 37 [vr_ (some x0), vr_ x1, vi_ x2] [] s2))) := by rfl
set_option maxRecDepth 100000 in
theorem cb_X13_command_37 (x2 : Int32) (x1 : Option Nat) (x0 : Nat) (s : σ) : cx_B ct_lc gi gr pi pr ai ar wi wr an nw na io dp ct_ft ct_sg 3 [] ct_X13_command ca jm 1000 (pj_at ct_X13_command 37) [some (vr_ (some x0)), some (vr_ x1), some (vi_ x2)] [] s =
  ((dp 275 (some x0) s).bind fun m1 =>
  (cx_bV cx_th (ca m1 [vr_ (some x0)] s) fun s2 =>
  ((dp 271 (some x0) s2).bind fun m3 =>
  (cx_bI cx_th (ca m3 [vr_ (some x0), vr_ (some 1045)] s2) fun v5 s4 =>
  (if v5 = 0 then
    ((dp 271 (some x0) s4).bind fun m6 =>
    (cx_bI cx_th (ca m6 [vr_ (some x0), vr_ (some 1046)] s4) fun v8 s7 =>
    (if v8 = 0 then
      ((dp 274 (some x0) (nw 9 s7).2).bind fun m9 =>
      (cx_bR cx_th (ca m9 [vr_ (some x0)] (nw 9 s7).2) fun v11 s10 =>
      ((gi 85 v11 s10).bind fun v12 =>
      (cx_bV cx_th (ca 305 [vr_ (some (nw 9 s7).1), vr_ (some 1106), vi_ v12] s10) fun s13 =>
      ((dp 306 (some (nw 9 s7).1) s13).bind fun m14 =>
      (cx_bR cx_th (ca m14 [vr_ (some (nw 9 s7).1), vr_ x1] s13) fun v16 s15 =>
      ((dp 280 (some x0) s15).bind fun m17 =>
      (cx_bR cx_th (ca m17 [vr_ (some x0)] s15) fun v19 s18 =>
      ((dp 306 v16 s18).bind fun m20 =>
      (cx_bR cx_th (ca m20 [vr_ v16, vr_ v19] s18) fun v22 s21 =>
      jm 10 [vr_ (some x0), vr_ v22, vi_ x2] [] s21))))))))))
    else
      ((dp 274 (some x0) (nw 9 s7).2).bind fun m23 =>
      (cx_bR cx_th (ca m23 [vr_ (some x0)] (nw 9 s7).2) fun v25 s24 =>
      ((gi 85 v25 s24).bind fun v26 =>
      (cx_bV cx_th (ca 305 [vr_ (some (nw 9 s7).1), vr_ (some 1105), vi_ v26] s24) fun s27 =>
      ((dp 306 (some (nw 9 s7).1) s27).bind fun m28 =>
      (cx_bR cx_th (ca m28 [vr_ (some (nw 9 s7).1), vr_ x1] s27) fun v30 s29 =>
      ((dp 280 (some x0) s29).bind fun m31 =>
      (cx_bR cx_th (ca m31 [vr_ (some x0)] s29) fun v33 s32 =>
      ((dp 306 v30 s32).bind fun m34 =>
      (cx_bR cx_th (ca m34 [vr_ v30, vr_ v33] s32) fun v36 s35 =>
      jm 10 [vr_ (some x0), vr_ v36, vi_ x2] [] s35)))))))))))))
  else
    ((dp 274 (some x0) (nw 9 s4).2).bind fun m37 =>
    (cx_bR cx_th (ca m37 [vr_ (some x0)] (nw 9 s4).2) fun v39 s38 =>
    ((gi 85 v39 s38).bind fun v40 =>
    (cx_bV cx_th (ca 305 [vr_ (some (nw 9 s4).1), vr_ (some 1104), vi_ v40] s38) fun s41 =>
    ((dp 306 (some (nw 9 s4).1) s41).bind fun m42 =>
    (cx_bR cx_th (ca m42 [vr_ (some (nw 9 s4).1), vr_ x1] s41) fun v44 s43 =>
    jm 10 [vr_ (some x0), vr_ v44, vi_ x2] [] s43))))))))))) := by rfl
set_option maxRecDepth 100000 in
theorem cb_X13_simple (x0 : Nat) (s : σ) : cx_B ct_lc gi gr pi pr ai ar wi wr an nw na io dp ct_ft ct_sg 3 [] ct_X13_simple ca jm 1000 ct_X13_simple [some (vr_ (some x0)), none, none, none, none, none] [] s =
  ((dp 272 (some x0) s).bind fun m1 =>
  (cx_bR cx_th (ca m1 [vr_ (some x0)] s) fun v3 s2 =>
  ((gi 84 v3 s2).bind fun v4 =>
  (if v4 = 4 then
    jm 62 [vr_ (some x0), vr_ v3] [] s2
  else
    ((dp 271 (some x0) s2).bind fun m5 =>
    (cx_bI cx_th (ca m5 [vr_ (some x0), vr_ (some 1051)] s2) fun v7 s6 =>
    (if v7 = 0 then
      ((dp 271 (some x0) s6).bind fun m8 =>
      (cx_bI cx_th (ca m8 [vr_ (some x0), vr_ (some 1083)] s6) fun v10 s9 =>
      (if v10 = 0 then
        ((dp 271 (some x0) s9).bind fun m11 =>
        (cx_bI cx_th (ca m11 [vr_ (some x0), vr_ (some 1075)] s9) fun v13 s12 =>
        (if v13 = 0 then
          ((dp 289 (some x0) s12).bind fun m14 =>
          (cx_bR cx_th (ca m14 [vr_ (some x0)] s12) fun v16 s15 =>
          some (.inl (some (vr_ v16)), s15)))
        else
          ((gi 85 v3 (nw 9 s12).2).bind fun v17 =>
          (cx_bV cx_th (ca 305 [vr_ (some (nw 9 s12).1), vr_ (some 1107), vi_ v17] (nw 9 s12).2) fun s18 =>
          some (.inl (some (vr_ (some (nw 9 s12).1))), s18))))))
      else
        ((gi 85 v3 (nw 9 s9).2).bind fun v19 =>
        (cx_bV cx_th (ca 305 [vr_ (some (nw 9 s9).1), vr_ (some 1107), vi_ v19] (nw 9 s9).2) fun s20 =>
        some (.inl (some (vr_ (some (nw 9 s9).1))), s20))))))
    else
      jm 62 [vr_ (some x0), vr_ v3] [] s6))))))) := by rfl
set_option maxRecDepth 100000 in
theorem cb_X13_simple_62 (x1 : Option Nat) (x0 : Nat) (s : σ) : cx_B ct_lc gi gr pi pr ai ar wi wr an nw na io dp ct_ft ct_sg 3 [] ct_X13_simple ca jm 1000 (pj_at ct_X13_simple 62) [some (vr_ (some x0)), some (vr_ x1), none, none, none, none] [] s =
  ((gr 88 x1 s).bind fun v1 =>
  ((dp 95 v1 s).bind fun m2 =>
  (cx_bI cx_th (ca m2 [vr_ v1] s) fun v4 s3 =>
  (if v4 = Int32.ofInt (-1881067216) then
    ((dp 99 v1 s3).bind fun m5 =>
    (cx_bI cx_th (ca m5 [vr_ v1, vr_ (some 1068)] s3) fun v7 s6 =>
    (if v7 = 0 then
      jm 434 [vr_ (some x0), vi_ (-1)] [] s6
    else
      jm 434 [vr_ (some x0), vi_ 11] [] s6)))
  else
  (if v4 = Int32.ofInt (-1787121742) then
    ((dp 99 v1 s3).bind fun m8 =>
    (cx_bI cx_th (ca m8 [vr_ v1, vr_ (some 1057)] s3) fun v10 s9 =>
    (if v10 = 0 then
      jm 434 [vr_ (some x0), vi_ (-1)] [] s9
    else
      jm 434 [vr_ (some x0), vi_ 2] [] s9)))
  else
  (if v4 = Int32.ofInt (-888821141) then
    ((dp 99 v1 s3).bind fun m11 =>
    (cx_bI cx_th (ca m11 [vr_ v1, vr_ (some 1067)] s3) fun v13 s12 =>
    (if v13 = 0 then
      jm 434 [vr_ (some x0), vi_ (-1)] [] s12
    else
      jm 434 [vr_ (some x0), vi_ 10] [] s12)))
  else
  (if v4 = Int32.ofInt 1156 then
    ((dp 99 v1 s3).bind fun m14 =>
    (cx_bI cx_th (ca m14 [vr_ v1, vr_ (some 1051)] s3) fun v16 s15 =>
    (if v16 = 0 then
      jm 434 [vr_ (some x0), vi_ (-1)] [] s15
    else
      jm 434 [vr_ (some x0), vi_ 0] [] s15)))
  else
  (if v4 = Int32.ofInt 2333 then
    ((dp 99 v1 s3).bind fun m17 =>
    (cx_bI cx_th (ca m17 [vr_ v1, vr_ (some 1056)] s3) fun v19 s18 =>
    (if v19 = 0 then
      jm 434 [vr_ (some x0), vi_ (-1)] [] s18
    else
      jm 434 [vr_ (some x0), vi_ 1] [] s18)))
  else
  (if v4 = Int32.ofInt 69801 then
    ((dp 99 v1 s3).bind fun m20 =>
    (cx_bI cx_th (ca m20 [vr_ v1, vr_ (some 1061)] s3) fun v22 s21 =>
    (if v22 = 0 then
      jm 434 [vr_ (some x0), vi_ (-1)] [] s21
    else
      jm 434 [vr_ (some x0), vi_ 6] [] s21)))
  else
  (if v4 = Int32.ofInt 2193763 then
    ((dp 99 v1 s3).bind fun m23 =>
    (cx_bI cx_th (ca m23 [vr_ v1, vr_ (some 1037)] s3) fun v25 s24 =>
    (if v25 = 0 then
      jm 434 [vr_ (some x0), vi_ (-1)] [] s24
    else
      jm 434 [vr_ (some x0), vi_ 14] [] s24)))
  else
  (if v4 = Int32.ofInt 2342564 then
    ((dp 99 v1 s3).bind fun m26 =>
    (cx_bI cx_th (ca m26 [vr_ v1, vr_ (some 1066)] s3) fun v28 s27 =>
    (if v28 = 0 then
      jm 434 [vr_ (some x0), vi_ (-1)] [] s27
    else
      jm 434 [vr_ (some x0), vi_ 9] [] s27)))
  else
  (if v4 = Int32.ofInt 2571410 then
    ((dp 99 v1 s3).bind fun m29 =>
    (cx_bI cx_th (ca m29 [vr_ v1, vr_ (some 1058)] s3) fun v31 s30 =>
    (if v31 = 0 then
      jm 434 [vr_ (some x0), vi_ (-1)] [] s30
    else
      jm 434 [vr_ (some x0), vi_ 5] [] s30)))
  else
  (if v4 = Int32.ofInt 63463647 then
    ((dp 99 v1 s3).bind fun m32 =>
    (cx_bI cx_th (ca m32 [vr_ v1, vr_ (some 1065)] s3) fun v34 s33 =>
    (if v34 = 0 then
      jm 434 [vr_ (some x0), vi_ (-1)] [] s33
    else
      jm 434 [vr_ (some x0), vi_ 8] [] s33)))
  else
  (if v4 = Int32.ofInt 80906046 then
    ((dp 99 v1 s3).bind fun m35 =>
    (cx_bI cx_th (ca m35 [vr_ v1, vr_ (some 1060)] s3) fun v37 s36 =>
    (if v37 = 0 then
      jm 434 [vr_ (some x0), vi_ (-1)] [] s36
    else
      jm 434 [vr_ (some x0), vi_ 4] [] s36)))
  else
  (if v4 = Int32.ofInt 82563857 then
    ((dp 99 v1 s3).bind fun m38 =>
    (cx_bI cx_th (ca m38 [vr_ v1, vr_ (some 1059)] s3) fun v40 s39 =>
    (if v40 = 0 then
      jm 434 [vr_ (some x0), vi_ (-1)] [] s39
    else
      jm 434 [vr_ (some x0), vi_ 3] [] s39)))
  else
  (if v4 = Int32.ofInt 446837255 then
    ((dp 99 v1 s3).bind fun m41 =>
    (cx_bI cx_th (ca m41 [vr_ v1, vr_ (some 1069)] s3) fun v43 s42 =>
    (if v43 = 0 then
      jm 434 [vr_ (some x0), vi_ (-1)] [] s42
    else
      jm 434 [vr_ (some x0), vi_ 12] [] s42)))
  else
  (if v4 = Int32.ofInt 697350163 then
    ((dp 99 v1 s3).bind fun m44 =>
    (cx_bI cx_th (ca m44 [vr_ v1, vr_ (some 1062)] s3) fun v46 s45 =>
    (if v46 = 0 then
      jm 434 [vr_ (some x0), vi_ (-1)] [] s45
    else
      jm 434 [vr_ (some x0), vi_ 7] [] s45)))
  else
  (if v4 = Int32.ofInt 2073854099 then
    ((dp 99 v1 s3).bind fun m47 =>
    (cx_bI cx_th (ca m47 [vr_ v1, vr_ (some 1070)] s3) fun v49 s48 =>
    (if v49 = 0 then
      jm 434 [vr_ (some x0), vi_ (-1)] [] s48
    else
      jm 434 [vr_ (some x0), vi_ 13] [] s48)))
  else
  jm 434 [vr_ (some x0), vi_ (-1)] [] s3)))))))))))))))))) := by rfl
set_option maxRecDepth 100000 in
theorem cb_X13_simple_434 (x3 : Int32) (x0 : Nat) (s : σ) : cx_B ct_lc gi gr pi pr ai ar wi wr an nw na io dp ct_ft ct_sg 3 [] ct_X13_simple ca jm 1000 (pj_at ct_X13_simple 434) [some (vr_ (some x0)), none, none, some (vi_ x3), none, none] [] s =
  (if x3 = Int32.ofInt 0 then
    ((dp 291 (some x0) s).bind fun m1 =>
    (cx_bR cx_th (ca m1 [vr_ (some x0)] s) fun v3 s2 =>
    some (.inl (some (vr_ v3)), s2)))
  else
  (if x3 = Int32.ofInt 1 then
    ((dp 295 (some x0) s).bind fun m4 =>
    (cx_bR cx_th (ca m4 [vr_ (some x0), vr_ (some 1108)] s) fun v6 s5 =>
    some (.inl (some (vr_ v6)), s5)))
  else
  (if x3 = Int32.ofInt 2 then
    ((dp 295 (some x0) s).bind fun m7 =>
    (cx_bR cx_th (ca m7 [vr_ (some x0), vr_ (some 1109)] s) fun v9 s8 =>
    some (.inl (some (vr_ v9)), s8)))
  else
  (if x3 = Int32.ofInt 3 then
    ((dp 295 (some x0) s).bind fun m10 =>
    (cx_bR cx_th (ca m10 [vr_ (some x0), vr_ (some 1110)] s) fun v12 s11 =>
    some (.inl (some (vr_ v12)), s11)))
  else
  (if x3 = Int32.ofInt 4 then
    ((dp 295 (some x0) s).bind fun m13 =>
    (cx_bR cx_th (ca m13 [vr_ (some x0), vr_ (some 1111)] s) fun v15 s14 =>
    some (.inl (some (vr_ v15)), s14)))
  else
  (if x3 = Int32.ofInt 5 then
    ((dp 295 (some x0) s).bind fun m16 =>
    (cx_bR cx_th (ca m16 [vr_ (some x0), vr_ (some 1112)] s) fun v18 s17 =>
    ((dp 290 (some x0) s17).bind fun m19 =>
    (cx_bI cx_th (ca m19 [vr_ (some x0), vr_ (some 1040)] s17) fun v21 s20 =>
    (if v21 = 0 then
      ((dp 278 (some x0) s20).bind fun m22 =>
      (cx_bR cx_th (ca m22 [vr_ (some x0), vr_ (some 1041)] s20) fun v24 s23 =>
      ((dp 298 (some x0) s23).bind fun m25 =>
      (cx_bR cx_th (ca m25 [vr_ (some x0)] s23) fun v27 s26 =>
      ((dp 306 v18 s26).bind fun m28 =>
      (cx_bR cx_th (ca m28 [vr_ v18, vr_ v27] s26) fun v30 s29 =>
      some (.inl (some (vr_ v30)), s29)))))))
    else
      ((dp 298 (some x0) s20).bind fun m31 =>
      (cx_bR cx_th (ca m31 [vr_ (some x0)] s20) fun v33 s32 =>
      ((dp 306 v18 s32).bind fun m34 =>
      (cx_bR cx_th (ca m34 [vr_ v18, vr_ v33] s32) fun v36 s35 =>
      some (.inl (some (vr_ v36)), s35))))))))))
  else
  (if x3 = Int32.ofInt 6 then
    ((dp 299 (some x0) s).bind fun m37 =>
    (cx_bR cx_th (ca m37 [vr_ (some x0)] s) fun v39 s38 =>
    some (.inl (some (vr_ v39)), s38)))
  else
  (if x3 = Int32.ofInt 7 then
    ((dp 300 (some x0) s).bind fun m40 =>
    (cx_bR cx_th (ca m40 [vr_ (some x0)] s) fun v42 s41 =>
    some (.inl (some (vr_ v42)), s41)))
  else
  (if x3 = Int32.ofInt 8 then
    ((dp 274 (some x0) (nw 9 s).2).bind fun m43 =>
    (cx_bR cx_th (ca m43 [vr_ (some x0)] (nw 9 s).2) fun v45 s44 =>
    ((gi 85 v45 s44).bind fun v46 =>
    (cx_bV cx_th (ca 305 [vr_ (some (nw 9 s).1), vr_ (some 1113), vi_ v46] s44) fun s47 =>
    some (.inl (some (vr_ (some (nw 9 s).1))), s47)))))
  else
  (if x3 = Int32.ofInt 9 then
    ((dp 274 (some x0) (nw 9 s).2).bind fun m48 =>
    (cx_bR cx_th (ca m48 [vr_ (some x0)] (nw 9 s).2) fun v50 s49 =>
    ((gi 85 v50 s49).bind fun v51 =>
    (cx_bV cx_th (ca 305 [vr_ (some (nw 9 s).1), vr_ (some 1114), vi_ v51] s49) fun s52 =>
    some (.inl (some (vr_ (some (nw 9 s).1))), s52)))))
  else
  (if x3 = Int32.ofInt 10 then
    ((dp 274 (some x0) (nw 9 s).2).bind fun m53 =>
    (cx_bR cx_th (ca m53 [vr_ (some x0)] (nw 9 s).2) fun v55 s54 =>
    ((gi 85 v55 s54).bind fun v56 =>
    (cx_bV cx_th (ca 305 [vr_ (some (nw 9 s).1), vr_ (some 1115), vi_ v56] s54) fun s57 =>
    some (.inl (some (vr_ (some (nw 9 s).1))), s57)))))
  else
  (if x3 = Int32.ofInt 11 then
    ((dp 274 (some x0) (nw 9 s).2).bind fun m58 =>
    (cx_bR cx_th (ca m58 [vr_ (some x0)] (nw 9 s).2) fun v60 s59 =>
    ((gi 85 v60 s59).bind fun v61 =>
    (cx_bV cx_th (ca 305 [vr_ (some (nw 9 s).1), vr_ (some 1116), vi_ v61] s59) fun s62 =>
    some (.inl (some (vr_ (some (nw 9 s).1))), s62)))))
  else
  (if x3 = Int32.ofInt 12 then
    ((dp 274 (some x0) (nw 9 s).2).bind fun m63 =>
    (cx_bR cx_th (ca m63 [vr_ (some x0)] (nw 9 s).2) fun v65 s64 =>
    ((gi 85 v65 s64).bind fun v66 =>
    (cx_bV cx_th (ca 305 [vr_ (some (nw 9 s).1), vr_ (some 1117), vi_ v66] s64) fun s67 =>
    ((dp 280 (some x0) s67).bind fun m68 =>
    (cx_bR cx_th (ca m68 [vr_ (some x0)] s67) fun v70 s69 =>
    ((dp 306 (some (nw 9 s).1) s69).bind fun m71 =>
    (cx_bR cx_th (ca m71 [vr_ (some (nw 9 s).1), vr_ v70] s69) fun v73 s72 =>
    some (.inl (some (vr_ v73)), s72)))))))))
  else
  (if x3 = Int32.ofInt 13 then
    ((dp 274 (some x0) (nw 9 s).2).bind fun m74 =>
    (cx_bR cx_th (ca m74 [vr_ (some x0)] (nw 9 s).2) fun v76 s75 =>
    ((gi 85 v76 s75).bind fun v77 =>
    (cx_bV cx_th (ca 305 [vr_ (some (nw 9 s).1), vr_ (some 1118), vi_ v77] s75) fun s78 =>
    some (.inl (some (vr_ (some (nw 9 s).1))), s78)))))
  else
  (if x3 = Int32.ofInt 14 then
    ((dp 274 (some x0) s).bind fun m79 =>
    (cx_bR cx_th (ca m79 [vr_ (some x0)] s) fun v81 s80 =>
    ((dp 279 (some x0) s80).bind fun m82 =>
    (cx_bR cx_th (ca m82 [vr_ (some x0)] s80) fun v84 s83 =>
    ((gi 85 v84 (nw 9 s83).2).bind fun v85 =>
    (cx_bV cx_th (ca 305 [vr_ (some (nw 9 s83).1), vr_ (some 1119), vi_ v85] (nw 9 s83).2) fun s86 =>
    ((gr 88 v84 s86).bind fun v87 =>
    ((pr 103 (some (nw 9 s83).1) v87 s86).bind fun s88 =>
    some (.inl (some (vr_ (some (nw 9 s83).1))), s88)))))))))
  else
  ((dp 289 (some x0) s).bind fun m89 =>
    (cx_bR cx_th (ca m89 [vr_ (some x0)] s) fun v91 s90 =>
    some (.inl (some (vr_ v91)), s90)))))))))))))))))) := by rfl
set_option maxRecDepth 100000 in
theorem cb_X13_assignment (x0 : Nat) (s : σ) : cx_B ct_lc gi gr pi pr ai ar wi wr an nw na io dp ct_ft ct_sg 3 [] ct_X13_assignment ca jm 1000 ct_X13_assignment [some (vr_ (some x0)), none, none, none, none] [] s =
  ((dp 272 (some x0) s).bind fun m1 =>
  (cx_bR cx_th (ca m1 [vr_ (some x0)] s) fun v3 s2 =>
  (cx_bV cx_th (ca 72 [vr_ (some (nw 36 s2).1)] (nw 36 s2).2) fun s4 =>
  ((dp 280 (some x0) s4).bind fun m5 =>
  (cx_bR cx_th (ca m5 [vr_ (some x0)] s4) fun v7 s6 =>
  ((dp 73 (some (nw 36 s2).1) s6).bind fun m8 =>
  (cx_bI cx_th (ca m8 [vr_ (some (nw 36 s2).1), vr_ v7] s6) fun v10 s9 =>
  jm 24 [vr_ (some x0), vr_ v3, vr_ (some (nw 36 s2).1)] [] s9))))))) := by rfl
set_option maxRecDepth 100000 in
theorem cb_X13_assignment_24 (x1 x2 : Option Nat) (x0 : Nat) (s : σ) : cx_B ct_lc gi gr pi pr ai ar wi wr an nw na io dp ct_ft ct_sg 3 [] ct_X13_assignment ca jm 1000 (pj_at ct_X13_assignment 24) [some (vr_ (some x0)), some (vr_ x1), some (vr_ x2), none, none] [] s =
  ((dp 290 (some x0) s).bind fun m1 =>
  (cx_bI cx_th (ca m1 [vr_ (some x0), vr_ (some 1082)] s) fun v3 s2 =>
  (if v3 = 0 then
    ((dp 78 x2 s2).bind fun m4 =>
    (cx_bI cx_th (ca m4 [vr_ x2] s2) fun v6 s5 =>
    (if v6 = 1 then
      ((dp 79 x2 s5).bind fun m7 =>
      (cx_bR cx_th (ca m7 [vr_ x2, vi_ 0] s5) fun v9 s8 =>
      ((cx_cst io 9 v9 s8).bind fun _ =>
      ((gr 99 v9 s8).bind fun v10 =>
      (if v10 = (some 1098) then
        ((dp 79 x2 s8).bind fun m11 =>
        (cx_bR cx_th (ca m11 [vr_ x2, vi_ 0] s8) fun v13 s12 =>
        ((cx_cst io 9 v13 s12).bind fun _ =>
        ((gi 102 v13 s12).bind fun v14 =>
        (if v14 = 0 then
          ((dp 271 (some x0) s12).bind fun m15 =>
          (cx_bI cx_th (ca m15 [vr_ (some x0), vr_ (some 1078)] s12) fun v17 s16 =>
          (if v17 = 0 then
            ((gi 85 x1 (nw 9 s16).2).bind fun v18 =>
            (cx_bV cx_th (ca 305 [vr_ (some (nw 9 s16).1), vr_ (some 1120), vi_ v18] (nw 9 s16).2) fun s19 =>
            ((dp 79 x2 s19).bind fun m20 =>
            (cx_bR cx_th (ca m20 [vr_ x2, vi_ 0] s19) fun v22 s21 =>
            ((cx_cst io 9 v22 s21).bind fun _ =>
            ((dp 306 (some (nw 9 s16).1) s21).bind fun m23 =>
            (cx_bR cx_th (ca m23 [vr_ (some (nw 9 s16).1), vr_ v22] s21) fun v25 s24 =>
            some (.inl (some (vr_ v25)), s24))))))))
          else
            ((dp 278 (some x0) (nw 9 s16).2).bind fun m26 =>
            (cx_bR cx_th (ca m26 [vr_ (some x0), vr_ (some 1078)] (nw 9 s16).2) fun v28 s27 =>
            ((gi 85 v28 s27).bind fun v29 =>
            (cx_bV cx_th (ca 305 [vr_ (some (nw 9 s16).1), vr_ (some 1121), vi_ v29] s27) fun s30 =>
            jm 154 [vr_ (some x0), vr_ x2, vr_ (some (nw 9 s16).1), vi_ 0] [] s30)))))))
        else
          ((dp 278 (some x0) (nw 9 s12).2).bind fun m31 =>
          (cx_bR cx_th (ca m31 [vr_ (some x0), vr_ (some 1078)] (nw 9 s12).2) fun v33 s32 =>
          ((gi 85 v33 s32).bind fun v34 =>
          (cx_bV cx_th (ca 305 [vr_ (some (nw 9 s12).1), vr_ (some 1121), vi_ v34] s32) fun s35 =>
          jm 154 [vr_ (some x0), vr_ x2, vr_ (some (nw 9 s12).1), vi_ 0] [] s35)))))))))
      else
        ((dp 278 (some x0) (nw 9 s8).2).bind fun m36 =>
        (cx_bR cx_th (ca m36 [vr_ (some x0), vr_ (some 1078)] (nw 9 s8).2) fun v38 s37 =>
        ((gi 85 v38 s37).bind fun v39 =>
        (cx_bV cx_th (ca 305 [vr_ (some (nw 9 s8).1), vr_ (some 1121), vi_ v39] s37) fun s40 =>
        jm 154 [vr_ (some x0), vr_ x2, vr_ (some (nw 9 s8).1), vi_ 0] [] s40)))))))))
    else
      ((dp 278 (some x0) (nw 9 s5).2).bind fun m41 =>
      (cx_bR cx_th (ca m41 [vr_ (some x0), vr_ (some 1078)] (nw 9 s5).2) fun v43 s42 =>
      ((gi 85 v43 s42).bind fun v44 =>
      (cx_bV cx_th (ca 305 [vr_ (some (nw 9 s5).1), vr_ (some 1121), vi_ v44] s42) fun s45 =>
      jm 154 [vr_ (some x0), vr_ x2, vr_ (some (nw 9 s5).1), vi_ 0] [] s45)))))))
  else
    ((dp 280 (some x0) s2).bind fun m46 =>
    (cx_bR cx_th (ca m46 [vr_ (some x0)] s2) fun v48 s47 =>
    ((dp 73 x2 s47).bind fun m49 =>
    (cx_bI cx_th (ca m49 [vr_ x2, vr_ v48] s47) fun v51 s50 =>
    jm 24 [vr_ (some x0), vr_ x1, vr_ x2] [] s50))))))) := by rfl
set_option maxRecDepth 100000 in
theorem cb_X13_assignment_154 (x4 : Int32) (x2 x3 : Option Nat) (x0 : Nat) (s : σ) : cx_B ct_lc gi gr pi pr ai ar wi wr an nw na io dp ct_ft ct_sg 3 [] ct_X13_assignment ca jm 1000 (pj_at ct_X13_assignment 154) [some (vr_ (some x0)), none, some (vr_ x2), some (vr_ x3), some (vi_ x4)] [] s =
  ((dp 78 x2 s).bind fun m1 =>
  (cx_bI cx_th (ca m1 [vr_ x2] s) fun v3 s2 =>
  (if x4 < v3 then
    (if 0 < x4 then
      ((dp 278 (some x0) s2).bind fun m4 =>
      (cx_bR cx_th (ca m4 [vr_ (some x0), vr_ (some 1082)] s2) fun v6 s5 =>
      ((dp 79 x2 s5).bind fun m7 =>
      (cx_bR cx_th (ca m7 [vr_ x2, vi_ x4] s5) fun v9 s8 =>
      ((cx_cst io 9 v9 s8).bind fun _ =>
      ((dp 306 x3 s8).bind fun m10 =>
      (cx_bR cx_th (ca m10 [vr_ x3, vr_ v9] s8) fun v12 s11 =>
      ((dp 280 (some x0) s11).bind fun m13 =>
      (cx_bR cx_th (ca m13 [vr_ (some x0)] s11) fun v15 s14 =>
      ((dp 306 v12 s14).bind fun m16 =>
      (cx_bR cx_th (ca m16 [vr_ v12, vr_ v15] s14) fun v18 s17 =>
      jm 154 [vr_ (some x0), vr_ x2, vr_ x3, vi_ (x4 + 1)] [] s17)))))))))))
    else
      ((dp 79 x2 s2).bind fun m19 =>
      (cx_bR cx_th (ca m19 [vr_ x2, vi_ x4] s2) fun v21 s20 =>
      ((cx_cst io 9 v21 s20).bind fun _ =>
      ((dp 306 x3 s20).bind fun m22 =>
      (cx_bR cx_th (ca m22 [vr_ x3, vr_ v21] s20) fun v24 s23 =>
      ((dp 280 (some x0) s23).bind fun m25 =>
      (cx_bR cx_th (ca m25 [vr_ (some x0)] s23) fun v27 s26 =>
      ((dp 306 v24 s26).bind fun m28 =>
      (cx_bR cx_th (ca m28 [vr_ v24, vr_ v27] s26) fun v30 s29 =>
      jm 154 [vr_ (some x0), vr_ x2, vr_ x3, vi_ (x4 + 1)] [] s29))))))))))
  else
    some (.inl (some (vr_ x3)), s2)))) := by rfl
set_option maxRecDepth 100000 in
theorem cb_X13_skip (x1 : Option Nat) (x0 : Nat) (s : σ) : cx_B ct_lc gi gr pi pr ai ar wi wr an nw na io dp ct_ft ct_sg 4 [] ct_X13_skip ca jm 1000 ct_X13_skip [some (vr_ (some x0)), some (vr_ x1)] [] s =
  ((dp 271 (some x0) s).bind fun m1 =>
  (cx_bI cx_th (ca m1 [vr_ (some x0), vr_ x1] s) fun v3 s2 =>
  (if v3 = 0 then
    some (.inl (some (vi_ 0)), s2)
  else
    ((gi 94 (some x0) s2).bind fun v4 =>
    ((pi 94 (some x0) (v4 + 1) s2).bind fun s5 =>
    some (.inl (some (vi_ 1)), s5)))))) := by rfl
set_option maxRecDepth 100000 in
theorem cb_X13_block (x0 : Nat) (s : σ) : cx_B ct_lc gi gr pi pr ai ar wi wr an nw na io dp ct_ft ct_sg 3 [] ct_X13_block ca jm 1000 ct_X13_block [some (vr_ (some x0)), none, none] [] s =
  ((dp 275 (some x0) s).bind fun m1 =>
  (cx_bV cx_th (ca m1 [vr_ (some x0)] s) fun s2 =>
  ((dp 277 (some x0) (nw 9 s2).2).bind fun m3 =>
  (cx_bR cx_th (ca m3 [vr_ (some x0)] (nw 9 s2).2) fun v5 s4 =>
  ((gi 85 v5 s4).bind fun v6 =>
  (cx_bV cx_th (ca 305 [vr_ (some (nw 9 s2).1), vr_ (some 1122), vi_ v6] s4) fun s7 =>
  jm 24 [vr_ (some x0), vr_ (some (nw 9 s2).1), vi_ 1] [] s7)))))) := by rfl
set_option maxRecDepth 100000 in
theorem cb_X13_block_24 (x2 : Int32) (x1 : Option Nat) (x0 : Nat) (s : σ) : cx_B ct_lc gi gr pi pr ai ar wi wr an nw na io dp ct_ft ct_sg 3 [] ct_X13_block ca jm 1000 (pj_at ct_X13_block 24) [some (vr_ (some x0)), some (vr_ x1), some (vi_ x2)] [] s =
  (if x2 = 0 then
    jm 55 [vr_ (some x0), vr_ x1, vi_ x2] [] s
  else
    ((dp 292 (some x0) s).bind fun m1 =>
    (cx_bI cx_th (ca m1 [vr_ (some x0)] s) fun v3 s2 =>
    (if v3 = 0 then
      jm 55 [vr_ (some x0), vr_ x1, vi_ x2] [] s2
    else
      ((dp 270 (some x0) s2).bind fun m4 =>
      (cx_bR cx_th (ca m4 [vr_ (some x0), vi_ 0] s2) fun v6 s5 =>
      ((dp 306 x1 s5).bind fun m7 =>
      (cx_bR cx_th (ca m7 [vr_ x1, vr_ v6] s5) fun v9 s8 =>
      ((dp 290 (some x0) s8).bind fun m10 =>
      (cx_bI cx_th (ca m10 [vr_ (some x0), vr_ (some 1083)] s8) fun v12 s11 =>
      jm 24 [vr_ (some x0), vr_ x1, vi_ v12] [] s11)))))))))) := by rfl
set_option maxRecDepth 100000 in
theorem cb_X13_block_55 (x2 : Int32) (x1 : Option Nat) (x0 : Nat) (s : σ) : cx_B ct_lc gi gr pi pr ai ar wi wr an nw na io dp ct_ft ct_sg 3 [] ct_X13_block ca jm 1000 (pj_at ct_X13_block 55) [some (vr_ (some x0)), some (vr_ x1), some (vi_ x2)] [] s =
  (if x2 = 0 then
    ((dp 294 (some x0) s).bind fun m1 =>
    (cx_bV cx_th (ca m1 [vr_ (some x0)] s) fun s2 =>
    ((gi 95 (some x0) s2).bind fun v3 =>
    ((pi 95 (some x0) (v3 - 1) s2).bind fun s4 =>
    some (.inl (some (vr_ x1)), s4)))))
  else
    ((dp 293 (some x0) s).bind fun m5 =>
    (cx_bV cx_th (ca m5 [vr_ (some x0), vr_ x1] s) fun s6 =>
    ((dp 290 (some x0) s6).bind fun m7 =>
    (cx_bI cx_th (ca m7 [vr_ (some x0), vr_ (some 1083)] s6) fun v9 s8 =>
    jm 55 [vr_ (some x0), vr_ x1, vi_ v9] [] s8))))) := by rfl
set_option maxRecDepth 100000 in
theorem cb_X13_isDeclaration (x0 : Nat) (s : σ) : cx_B ct_lc gi gr pi pr ai ar wi wr an nw na io dp ct_ft ct_sg 4 [] ct_X13_isDeclaration ca jm 1000 ct_X13_isDeclaration [some (vr_ (some x0))] [] s =
  ((dp 271 (some x0) s).bind fun m1 =>
  (cx_bI cx_th (ca m1 [vr_ (some x0), vr_ (some 1072)] s) fun v3 s2 =>
  (if v3 = 0 then
    ((dp 271 (some x0) s2).bind fun m4 =>
    (cx_bI cx_th (ca m4 [vr_ (some x0), vr_ (some 1073)] s2) fun v6 s5 =>
    (if v6 = 0 then
      ((dp 271 (some x0) s5).bind fun m7 =>
      (cx_bI cx_th (ca m7 [vr_ (some x0), vr_ (some 1074)] s5) fun v9 s8 =>
      (if v9 = 0 then
        ((dp 271 (some x0) s8).bind fun m10 =>
        (cx_bI cx_th (ca m10 [vr_ (some x0), vr_ (some 1071)] s8) fun v12 s11 =>
        (if v12 = 0 then
          some (.inl (some (vi_ 0)), s11)
        else
          some (.inl (some (vi_ 1)), s11))))
      else
        some (.inl (some (vi_ 1)), s8))))
    else
      some (.inl (some (vi_ 1)), s5))))
  else
    some (.inl (some (vi_ 1)), s2)))) := by rfl
set_option maxRecDepth 100000 in
theorem cb_X13_item (x1 : Option Nat) (x0 : Nat) (s : σ) : cx_B ct_lc gi gr pi pr ai ar wi wr an nw na io dp ct_ft ct_sg 0 [] ct_X13_item ca jm 1000 ct_X13_item [some (vr_ (some x0)), some (vr_ x1), none, none] [] s =
  ((dp 272 (some x0) s).bind fun m1 =>
  (cx_bR cx_th (ca m1 [vr_ (some x0)] s) fun v3 s2 =>
  ((gi 84 v3 s2).bind fun v4 =>
  (if v4 = 0 then
    ((gr 93 (some x0) s2).bind fun v5 =>
    ((gi 94 (some x0) s2).bind fun v6 =>
    ((dp 79 v5 s2).bind fun m7 =>
    (cx_bR cx_th (ca m7 [vr_ v5, vi_ (v6 + 1)] s2) fun v9 s8 =>
    ((cx_cst io 14 v9 s8).bind fun _ =>
    ((gi 84 v9 s8).bind fun v10 =>
    (if v10 = 3 then
      ((gr 93 (some x0) s8).bind fun v11 =>
      ((gi 94 (some x0) s8).bind fun v12 =>
      ((dp 79 v11 s8).bind fun m13 =>
      (cx_bR cx_th (ca m13 [vr_ v11, vi_ (v12 + 1)] s8) fun v15 s14 =>
      ((cx_cst io 14 v15 s14).bind fun _ =>
      ((gr 88 v15 s14).bind fun v16 =>
      ((dp 99 v16 s14).bind fun m17 =>
      (cx_bI cx_th (ca m17 [vr_ v16, vr_ (some 1079)] s14) fun v19 s18 =>
      (if v19 = 0 then
        ((dp 287 (some x0) s18).bind fun m20 =>
        (cx_bR cx_th (ca m20 [vr_ (some x0)] s18) fun v22 s21 =>
        ((dp 306 x1 s21).bind fun m23 =>
        (cx_bR cx_th (ca m23 [vr_ x1, vr_ v22] s21) fun v25 s24 =>
        some (.inl none, s24)))))
      else
        ((dp 274 (some x0) s18).bind fun m26 =>
        (cx_bR cx_th (ca m26 [vr_ (some x0)] s18) fun v28 s27 =>
        ((dp 274 (some x0) s27).bind fun m29 =>
        (cx_bR cx_th (ca m29 [vr_ (some x0)] s27) fun v31 s30 =>
        ((gi 85 v28 (nw 9 s30).2).bind fun v32 =>
        (cx_bV cx_th (ca 305 [vr_ (some (nw 9 s30).1), vr_ (some 1123), vi_ v32] (nw 9 s30).2) fun s33 =>
        ((gr 88 v28 s33).bind fun v34 =>
        ((pr 103 (some (nw 9 s30).1) v34 s33).bind fun s35 =>
        ((dp 306 x1 s35).bind fun m36 =>
        (cx_bR cx_th (ca m36 [vr_ x1, vr_ (some (nw 9 s30).1)] s35) fun v38 s37 =>
        jm 0 [vr_ (some x0), vr_ x1] [] s37)))))))))))))))))))
    else
      ((dp 287 (some x0) s8).bind fun m39 =>
      (cx_bR cx_th (ca m39 [vr_ (some x0)] s8) fun v41 s40 =>
      ((dp 306 x1 s40).bind fun m42 =>
      (cx_bR cx_th (ca m42 [vr_ x1, vr_ v41] s40) fun v44 s43 =>
      some (.inl none, s43))))))))))))
  else
    ((dp 287 (some x0) s2).bind fun m45 =>
    (cx_bR cx_th (ca m45 [vr_ (some x0)] s2) fun v47 s46 =>
    ((dp 306 x1 s46).bind fun m48 =>
    (cx_bR cx_th (ca m48 [vr_ x1, vr_ v47] s46) fun v50 s49 =>
    some (.inl none, s49))))))))) := by rfl
set_option maxRecDepth 100000 in
theorem cb_X13_item_0 (x1 : Option Nat) (x0 : Nat) (s : σ) : cx_B ct_lc gi gr pi pr ai ar wi wr an nw na io dp ct_ft ct_sg 0 [] ct_X13_item ca jm 1000 (pj_at ct_X13_item 0) [some (vr_ (some x0)), some (vr_ x1), none, none] [] s =
  ((dp 272 (some x0) s).bind fun m1 =>
  (cx_bR cx_th (ca m1 [vr_ (some x0)] s) fun v3 s2 =>
  ((gi 84 v3 s2).bind fun v4 =>
  (if v4 = 0 then
    ((gr 93 (some x0) s2).bind fun v5 =>
    ((gi 94 (some x0) s2).bind fun v6 =>
    ((dp 79 v5 s2).bind fun m7 =>
    (cx_bR cx_th (ca m7 [vr_ v5, vi_ (v6 + 1)] s2) fun v9 s8 =>
    ((cx_cst io 14 v9 s8).bind fun _ =>
    ((gi 84 v9 s8).bind fun v10 =>
    (if v10 = 3 then
      ((gr 93 (some x0) s8).bind fun v11 =>
      ((gi 94 (some x0) s8).bind fun v12 =>
      ((dp 79 v11 s8).bind fun m13 =>
      (cx_bR cx_th (ca m13 [vr_ v11, vi_ (v12 + 1)] s8) fun v15 s14 =>
      ((cx_cst io 14 v15 s14).bind fun _ =>
      ((gr 88 v15 s14).bind fun v16 =>
      ((dp 99 v16 s14).bind fun m17 =>
      (cx_bI cx_th (ca m17 [vr_ v16, vr_ (some 1079)] s14) fun v19 s18 =>
      (if v19 = 0 then
        ((dp 287 (some x0) s18).bind fun m20 =>
        (cx_bR cx_th (ca m20 [vr_ (some x0)] s18) fun v22 s21 =>
        ((dp 306 x1 s21).bind fun m23 =>
        (cx_bR cx_th (ca m23 [vr_ x1, vr_ v22] s21) fun v25 s24 =>
        some (.inl none, s24)))))
      else
        ((dp 274 (some x0) s18).bind fun m26 =>
        (cx_bR cx_th (ca m26 [vr_ (some x0)] s18) fun v28 s27 =>
        ((dp 274 (some x0) s27).bind fun m29 =>
        (cx_bR cx_th (ca m29 [vr_ (some x0)] s27) fun v31 s30 =>
        ((gi 85 v28 (nw 9 s30).2).bind fun v32 =>
        (cx_bV cx_th (ca 305 [vr_ (some (nw 9 s30).1), vr_ (some 1123), vi_ v32] (nw 9 s30).2) fun s33 =>
        ((gr 88 v28 s33).bind fun v34 =>
        ((pr 103 (some (nw 9 s30).1) v34 s33).bind fun s35 =>
        ((dp 306 x1 s35).bind fun m36 =>
        (cx_bR cx_th (ca m36 [vr_ x1, vr_ (some (nw 9 s30).1)] s35) fun v38 s37 =>
        jm 0 [vr_ (some x0), vr_ x1] [] s37)))))))))))))))))))
    else
      ((dp 287 (some x0) s8).bind fun m39 =>
      (cx_bR cx_th (ca m39 [vr_ (some x0)] s8) fun v41 s40 =>
      ((dp 306 x1 s40).bind fun m42 =>
      (cx_bR cx_th (ca m42 [vr_ x1, vr_ v41] s40) fun v44 s43 =>
      some (.inl none, s43))))))))))))
  else
    ((dp 287 (some x0) s2).bind fun m45 =>
    (cx_bR cx_th (ca m45 [vr_ (some x0)] s2) fun v47 s46 =>
    ((dp 306 x1 s46).bind fun m48 =>
    (cx_bR cx_th (ca m48 [vr_ x1, vr_ v47] s46) fun v50 s49 =>
    some (.inl none, s49))))))))) := by rfl
set_option maxRecDepth 100000 in
theorem cb_X13_closes (x0 : Nat) (s : σ) : cx_B ct_lc gi gr pi pr ai ar wi wr an nw na io dp ct_ft ct_sg 0 [] ct_X13_closes ca jm 1000 ct_X13_closes [some (vr_ (some x0)), none, none] [] s =
  ((dp 271 (some x0) s).bind fun m1 =>
  (cx_bI cx_th (ca m1 [vr_ (some x0), vr_ (some 1075)] s) fun v3 s2 =>
  (if v3 = 0 then
    ((dp 276 (some x0) s2).bind fun m4 =>
    (cx_bR cx_th (ca m4 [vr_ (some x0)] s2) fun v6 s5 =>
    (cx_at cx_th v6 s5)))
  else
    ((gr 98 (some x0) s2).bind fun v7 =>
    ((gr 98 (some x0) s2).bind fun v8 =>
    ((dp 78 v8 s2).bind fun m9 =>
    (cx_bI cx_th (ca m9 [vr_ v8] s2) fun v11 s10 =>
    ((dp 81 v7 s10).bind fun m12 =>
    (cx_bR cx_th (ca m12 [vr_ v7, vi_ (v11 - 1)] s10) fun v14 s13 =>
    ((cx_cst io 26 v14 s13).bind fun _ =>
    ((dp 272 (some x0) s13).bind fun m15 =>
    (cx_bR cx_th (ca m15 [vr_ (some x0)] s13) fun v17 s16 =>
    ((gr 90 v17 s16).bind fun v18 =>
    ((dp 104 v18 s16).bind fun m19 =>
    (cx_bI cx_th (ca m19 [vr_ v18] s16) fun v21 s20 =>
    (if v21 = 0 then
      ((dp 99 v18 s20).bind fun m22 =>
      (cx_bI cx_th (ca m22 [vr_ v18, vr_ v14] s20) fun v24 s23 =>
      (if v24 = 0 then
        ((gr 98 (some x0) s23).bind fun v25 =>
        ((dp 83 v25 s23).bind fun m26 =>
        (cx_bI cx_th (ca m26 [vr_ v25, vr_ v18] s23) fun v28 s27 =>
        (if v28 = 0 then
          ((dp 276 (some x0) s27).bind fun m29 =>
          (cx_bR cx_th (ca m29 [vr_ (some x0)] s27) fun v31 s30 =>
          (cx_at cx_th v31 s30)))
        else
          some (.inl none, s27)))))
      else
        ((dp 274 (some x0) s23).bind fun m32 =>
        (cx_bR cx_th (ca m32 [vr_ (some x0)] s23) fun v34 s33 =>
        some (.inl none, s33))))))
    else
      ((dp 274 (some x0) s20).bind fun m35 =>
      (cx_bR cx_th (ca m35 [vr_ (some x0)] s20) fun v37 s36 =>
      some (.inl none, s36))))))))))))))))))) := by rfl
set_option maxRecDepth 100000 in
theorem cb_X13_headed (x1 : Option Nat) (x0 : Nat) (s : σ) : cx_B ct_lc gi gr pi pr ai ar wi wr an nw na io dp ct_ft ct_sg 3 [] ct_X13_headed ca jm 1000 ct_X13_headed [some (vr_ (some x0)), some (vr_ x1), none] [] s =
  ((dp 274 (some x0) (nw 9 s).2).bind fun m1 =>
  (cx_bR cx_th (ca m1 [vr_ (some x0)] (nw 9 s).2) fun v3 s2 =>
  ((gi 85 v3 s2).bind fun v4 =>
  (cx_bV cx_th (ca 305 [vr_ (some (nw 9 s).1), vr_ x1, vi_ v4] s2) fun s5 =>
  ((dp 280 (some x0) s5).bind fun m6 =>
  (cx_bR cx_th (ca m6 [vr_ (some x0)] s5) fun v8 s7 =>
  ((dp 306 (some (nw 9 s).1) s7).bind fun m9 =>
  (cx_bR cx_th (ca m9 [vr_ (some (nw 9 s).1), vr_ v8] s7) fun v11 s10 =>
  ((dp 296 (some x0) s10).bind fun m12 =>
  (cx_bV cx_th (ca m12 [vr_ (some x0)] s10) fun s13 =>
  ((dp 298 (some x0) s13).bind fun m14 =>
  (cx_bR cx_th (ca m14 [vr_ (some x0)] s13) fun v16 s15 =>
  ((dp 306 (some (nw 9 s).1) s15).bind fun m17 =>
  (cx_bR cx_th (ca m17 [vr_ (some (nw 9 s).1), vr_ v16] s15) fun v19 s18 =>
  some (.inl (some (vr_ v19)), s18))))))))))))))) := by rfl
set_option maxRecDepth 100000 in
theorem cb_X13_then (x0 : Nat) (s : σ) : cx_B ct_lc gi gr pi pr ai ar wi wr an nw na io dp ct_ft ct_sg 0 [] ct_X13_then ca jm 1000 ct_X13_then [some (vr_ (some x0)), none, none] [] s =
  ((dp 290 (some x0) s).bind fun m1 =>
  (cx_bI cx_th (ca m1 [vr_ (some x0), vr_ (some 1038)] s) fun v3 s2 =>
  (if v3 = 0 then
    ((dp 290 (some x0) s2).bind fun m4 =>
    (cx_bI cx_th (ca m4 [vr_ (some x0), vr_ (some 1039)] s2) fun v6 s5 =>
    (if v6 = 0 then
      ((dp 272 (some x0) s5).bind fun m7 =>
      (cx_bR cx_th (ca m7 [vr_ (some x0)] s5) fun v9 s8 =>
      ((gi 84 v9 s8).bind fun v10 =>
      (if v10 = 4 then
        ((gr 88 v9 s8).bind fun v11 =>
        (cx_bI cx_th (ca 297 [vr_ v11] s8) fun v13 s12 =>
        (if v13 = 0 then
          jm 42 [vr_ (some x0)] [] s12
        else
          some (.inl none, s12))))
      else
        jm 42 [vr_ (some x0)] [] s8))))
    else
      some (.inl none, s5))))
  else
    some (.inl none, s2)))) := by rfl
set_option maxRecDepth 100000 in
theorem cb_X13_then_42 (x0 : Nat) (s : σ) : cx_B ct_lc gi gr pi pr ai ar wi wr an nw na io dp ct_ft ct_sg 0 [] ct_X13_then ca jm 1000 (pj_at ct_X13_then 42) [some (vr_ (some x0)), none, none] [] s =
  ((dp 271 (some x0) s).bind fun m1 =>
  (cx_bI cx_th (ca m1 [vr_ (some x0), vr_ (some 1051)] s) fun v3 s2 =>
  (if v3 = 0 then
    ((dp 276 (some x0) s2).bind fun m4 =>
    (cx_bR cx_th (ca m4 [vr_ (some x0)] s2) fun v6 s5 =>
    (cx_at cx_th v6 s5)))
  else
    some (.inl none, s2)))) := by rfl
set_option maxRecDepth 100000 in
theorem cb_X13_commands (x0 : Option Nat) (s : σ) : cx_B ct_lc gi gr pi pr ai ar wi wr an nw na io dp ct_ft ct_sg 4 [] ct_X13_commands ca jm 1000 ct_X13_commands [some (vr_ x0), none, none] [] s =
  ((dp 95 x0 s).bind fun m1 =>
  (cx_bI cx_th (ca m1 [vr_ x0] s) fun v3 s2 =>
  (if v3 = Int32.ofInt (-1881067216) then
    ((dp 99 x0 s2).bind fun m4 =>
    (cx_bI cx_th (ca m4 [vr_ x0, vr_ (some 1068)] s2) fun v6 s5 =>
    (if v6 = 0 then
      jm 347 [vi_ (-1)] [] s5
    else
      jm 347 [vi_ 10] [] s5)))
  else
  (if v3 = Int32.ofInt (-1787121742) then
    ((dp 99 x0 s2).bind fun m7 =>
    (cx_bI cx_th (ca m7 [vr_ x0, vr_ (some 1057)] s2) fun v9 s8 =>
    (if v9 = 0 then
      jm 347 [vi_ (-1)] [] s8
    else
      jm 347 [vi_ 1] [] s8)))
  else
  (if v3 = Int32.ofInt (-888821141) then
    ((dp 99 x0 s2).bind fun m10 =>
    (cx_bI cx_th (ca m10 [vr_ x0, vr_ (some 1067)] s2) fun v12 s11 =>
    (if v12 = 0 then
      jm 347 [vi_ (-1)] [] s11
    else
      jm 347 [vi_ 9] [] s11)))
  else
  (if v3 = Int32.ofInt 2333 then
    ((dp 99 x0 s2).bind fun m13 =>
    (cx_bI cx_th (ca m13 [vr_ x0, vr_ (some 1056)] s2) fun v15 s14 =>
    (if v15 = 0 then
      jm 347 [vi_ (-1)] [] s14
    else
      jm 347 [vi_ 0] [] s14)))
  else
  (if v3 = Int32.ofInt 69801 then
    ((dp 99 x0 s2).bind fun m16 =>
    (cx_bI cx_th (ca m16 [vr_ x0, vr_ (some 1061)] s2) fun v18 s17 =>
    (if v18 = 0 then
      jm 347 [vi_ (-1)] [] s17
    else
      jm 347 [vi_ 5] [] s17)))
  else
  (if v3 = Int32.ofInt 2193763 then
    ((dp 99 x0 s2).bind fun m19 =>
    (cx_bI cx_th (ca m19 [vr_ x0, vr_ (some 1037)] s2) fun v21 s20 =>
    (if v21 = 0 then
      jm 347 [vi_ (-1)] [] s20
    else
      jm 347 [vi_ 13] [] s20)))
  else
  (if v3 = Int32.ofInt 2342564 then
    ((dp 99 x0 s2).bind fun m22 =>
    (cx_bI cx_th (ca m22 [vr_ x0, vr_ (some 1066)] s2) fun v24 s23 =>
    (if v24 = 0 then
      jm 347 [vi_ (-1)] [] s23
    else
      jm 347 [vi_ 8] [] s23)))
  else
  (if v3 = Int32.ofInt 2571410 then
    ((dp 99 x0 s2).bind fun m25 =>
    (cx_bI cx_th (ca m25 [vr_ x0, vr_ (some 1058)] s2) fun v27 s26 =>
    (if v27 = 0 then
      jm 347 [vi_ (-1)] [] s26
    else
      jm 347 [vi_ 2] [] s26)))
  else
  (if v3 = Int32.ofInt 63463647 then
    ((dp 99 x0 s2).bind fun m28 =>
    (cx_bI cx_th (ca m28 [vr_ x0, vr_ (some 1065)] s2) fun v30 s29 =>
    (if v30 = 0 then
      jm 347 [vi_ (-1)] [] s29
    else
      jm 347 [vi_ 7] [] s29)))
  else
  (if v3 = Int32.ofInt 80906046 then
    ((dp 99 x0 s2).bind fun m31 =>
    (cx_bI cx_th (ca m31 [vr_ x0, vr_ (some 1060)] s2) fun v33 s32 =>
    (if v33 = 0 then
      jm 347 [vi_ (-1)] [] s32
    else
      jm 347 [vi_ 4] [] s32)))
  else
  (if v3 = Int32.ofInt 82563857 then
    ((dp 99 x0 s2).bind fun m34 =>
    (cx_bI cx_th (ca m34 [vr_ x0, vr_ (some 1059)] s2) fun v36 s35 =>
    (if v36 = 0 then
      jm 347 [vi_ (-1)] [] s35
    else
      jm 347 [vi_ 3] [] s35)))
  else
  (if v3 = Int32.ofInt 446837255 then
    ((dp 99 x0 s2).bind fun m37 =>
    (cx_bI cx_th (ca m37 [vr_ x0, vr_ (some 1069)] s2) fun v39 s38 =>
    (if v39 = 0 then
      jm 347 [vi_ (-1)] [] s38
    else
      jm 347 [vi_ 11] [] s38)))
  else
  (if v3 = Int32.ofInt 697350163 then
    ((dp 99 x0 s2).bind fun m40 =>
    (cx_bI cx_th (ca m40 [vr_ x0, vr_ (some 1062)] s2) fun v42 s41 =>
    (if v42 = 0 then
      jm 347 [vi_ (-1)] [] s41
    else
      jm 347 [vi_ 6] [] s41)))
  else
  (if v3 = Int32.ofInt 2073854099 then
    ((dp 99 x0 s2).bind fun m43 =>
    (cx_bI cx_th (ca m43 [vr_ x0, vr_ (some 1070)] s2) fun v45 s44 =>
    (if v45 = 0 then
      jm 347 [vi_ (-1)] [] s44
    else
      jm 347 [vi_ 12] [] s44)))
  else
  jm 347 [vi_ (-1)] [] s2)))))))))))))))) := by rfl
set_option maxRecDepth 100000 in
theorem cb_X13_commands_347 (x2 : Int32) (s : σ) : cx_B ct_lc gi gr pi pr ai ar wi wr an nw na io dp ct_ft ct_sg 4 [] ct_X13_commands ca jm 1000 (pj_at ct_X13_commands 347) [none, none, some (vi_ x2)] [] s =
  (if x2 = Int32.ofInt 0 then
    some (.inl (some (vi_ 1)), s)
  else
  (if x2 = Int32.ofInt 1 then
    some (.inl (some (vi_ 1)), s)
  else
  (if x2 = Int32.ofInt 2 then
    some (.inl (some (vi_ 1)), s)
  else
  (if x2 = Int32.ofInt 3 then
    some (.inl (some (vi_ 1)), s)
  else
  (if x2 = Int32.ofInt 4 then
    some (.inl (some (vi_ 1)), s)
  else
  (if x2 = Int32.ofInt 5 then
    some (.inl (some (vi_ 1)), s)
  else
  (if x2 = Int32.ofInt 6 then
    some (.inl (some (vi_ 1)), s)
  else
  (if x2 = Int32.ofInt 7 then
    some (.inl (some (vi_ 1)), s)
  else
  (if x2 = Int32.ofInt 8 then
    some (.inl (some (vi_ 1)), s)
  else
  (if x2 = Int32.ofInt 9 then
    some (.inl (some (vi_ 1)), s)
  else
  (if x2 = Int32.ofInt 10 then
    some (.inl (some (vi_ 1)), s)
  else
  (if x2 = Int32.ofInt 11 then
    some (.inl (some (vi_ 1)), s)
  else
  (if x2 = Int32.ofInt 12 then
    some (.inl (some (vi_ 1)), s)
  else
  (if x2 = Int32.ofInt 13 then
    some (.inl (some (vi_ 1)), s)
  else
  some (.inl (some (vi_ 0)), s))))))))))))))) := by rfl
set_option maxRecDepth 100000 in
theorem cb_X13_inner (x0 : Nat) (s : σ) : cx_B ct_lc gi gr pi pr ai ar wi wr an nw na io dp ct_ft ct_sg 3 [] ct_X13_inner ca jm 1000 ct_X13_inner [some (vr_ (some x0)), none] [] s =
  ((dp 275 (some x0) s).bind fun m1 =>
  (cx_bV cx_th (ca m1 [vr_ (some x0)] s) fun s2 =>
  ((dp 287 (some x0) s2).bind fun m3 =>
  (cx_bR cx_th (ca m3 [vr_ (some x0)] s2) fun v5 s4 =>
  ((gi 95 (some x0) s4).bind fun v6 =>
  ((pi 95 (some x0) (v6 - 1) s4).bind fun s7 =>
  some (.inl (some (vr_ v5)), s7))))))) := by rfl
set_option maxRecDepth 100000 in
theorem cb_X13_loop (x0 : Nat) (s : σ) : cx_B ct_lc gi gr pi pr ai ar wi wr an nw na io dp ct_ft ct_sg 3 [] ct_X13_loop ca jm 1000 ct_X13_loop [some (vr_ (some x0)), none, none, none] [] s =
  ((dp 274 (some x0) s).bind fun m1 =>
  (cx_bR cx_th (ca m1 [vr_ (some x0)] s) fun v3 s2 =>
  ((dp 279 (some x0) s2).bind fun m4 =>
  (cx_bR cx_th (ca m4 [vr_ (some x0)] s2) fun v6 s5 =>
  ((gi 85 v6 (nw 9 s5).2).bind fun v7 =>
  (cx_bV cx_th (ca 305 [vr_ (some (nw 9 s5).1), vr_ (some 1124), vi_ v7] (nw 9 s5).2) fun s8 =>
  ((gr 88 v6 s8).bind fun v9 =>
  ((pr 103 (some (nw 9 s5).1) v9 s8).bind fun s10 =>
  ((dp 278 (some x0) s10).bind fun m11 =>
  (cx_bR cx_th (ca m11 [vr_ (some x0), vr_ (some 1021)] s10) fun v13 s12 =>
  ((dp 280 (some x0) s12).bind fun m14 =>
  (cx_bR cx_th (ca m14 [vr_ (some x0)] s12) fun v16 s15 =>
  ((dp 306 (some (nw 9 s5).1) s15).bind fun m17 =>
  (cx_bR cx_th (ca m17 [vr_ (some (nw 9 s5).1), vr_ v16] s15) fun v19 s18 =>
  ((dp 278 (some x0) s18).bind fun m20 =>
  (cx_bR cx_th (ca m20 [vr_ (some x0), vr_ (some 1042)] s18) fun v22 s21 =>
  ((dp 280 (some x0) s21).bind fun m23 =>
  (cx_bR cx_th (ca m23 [vr_ (some x0)] s21) fun v25 s24 =>
  ((dp 306 (some (nw 9 s5).1) s24).bind fun m26 =>
  (cx_bR cx_th (ca m26 [vr_ (some (nw 9 s5).1), vr_ v25] s24) fun v28 s27 =>
  ((dp 290 (some x0) s27).bind fun m29 =>
  (cx_bI cx_th (ca m29 [vr_ (some x0), vr_ (some 1043)] s27) fun v31 s30 =>
  (if v31 = 0 then
    ((dp 296 (some x0) s30).bind fun m32 =>
    (cx_bV cx_th (ca m32 [vr_ (some x0)] s30) fun s33 =>
    ((dp 298 (some x0) s33).bind fun m34 =>
    (cx_bR cx_th (ca m34 [vr_ (some x0)] s33) fun v36 s35 =>
    ((dp 306 (some (nw 9 s5).1) s35).bind fun m37 =>
    (cx_bR cx_th (ca m37 [vr_ (some (nw 9 s5).1), vr_ v36] s35) fun v39 s38 =>
    some (.inl (some (vr_ v39)), s38)))))))
  else
    ((dp 280 (some x0) s30).bind fun m40 =>
    (cx_bR cx_th (ca m40 [vr_ (some x0)] s30) fun v42 s41 =>
    ((dp 296 (some x0) s41).bind fun m43 =>
    (cx_bV cx_th (ca m43 [vr_ (some x0)] s41) fun s44 =>
    ((dp 298 (some x0) s44).bind fun m45 =>
    (cx_bR cx_th (ca m45 [vr_ (some x0)] s44) fun v47 s46 =>
    ((dp 306 (some (nw 9 s5).1) s46).bind fun m48 =>
    (cx_bR cx_th (ca m48 [vr_ (some (nw 9 s5).1), vr_ v47] s46) fun v50 s49 =>
    ((dp 306 v50 s49).bind fun m51 =>
    (cx_bR cx_th (ca m51 [vr_ v50, vr_ v42] s49) fun v53 s52 =>
    some (.inl (some (vr_ v53)), s52)))))))))))))))))))))))))))))))))) := by rfl
set_option maxRecDepth 100000 in
theorem cb_X13_choice (x0 : Nat) (s : σ) : cx_B ct_lc gi gr pi pr ai ar wi wr an nw na io dp ct_ft ct_sg 3 [] ct_X13_choice ca jm 1000 ct_X13_choice [some (vr_ (some x0)), none, none, none] [] s =
  ((dp 274 (some x0) (nw 9 s).2).bind fun m1 =>
  (cx_bR cx_th (ca m1 [vr_ (some x0)] (nw 9 s).2) fun v3 s2 =>
  ((gi 85 v3 s2).bind fun v4 =>
  (cx_bV cx_th (ca 305 [vr_ (some (nw 9 s).1), vr_ (some 1125), vi_ v4] s2) fun s5 =>
  ((dp 280 (some x0) s5).bind fun m6 =>
  (cx_bR cx_th (ca m6 [vr_ (some x0)] s5) fun v8 s7 =>
  ((dp 306 (some (nw 9 s).1) s7).bind fun m9 =>
  (cx_bR cx_th (ca m9 [vr_ (some (nw 9 s).1), vr_ v8] s7) fun v11 s10 =>
  ((dp 278 (some x0) s10).bind fun m12 =>
  (cx_bR cx_th (ca m12 [vr_ (some x0), vr_ (some 1044)] s10) fun v14 s13 =>
  ((dp 275 (some x0) s13).bind fun m15 =>
  (cx_bV cx_th (ca m15 [vr_ (some x0)] s13) fun s16 =>
  ((dp 277 (some x0) s16).bind fun m17 =>
  (cx_bR cx_th (ca m17 [vr_ (some x0)] s16) fun v19 s18 =>
  jm 44 [vr_ (some x0), vr_ (some (nw 9 s).1)] [] s18)))))))))))))) := by rfl
set_option maxRecDepth 100000 in
theorem cb_X13_choice_44 (x1 : Option Nat) (x0 : Nat) (s : σ) : cx_B ct_lc gi gr pi pr ai ar wi wr an nw na io dp ct_ft ct_sg 3 [] ct_X13_choice ca jm 1000 (pj_at ct_X13_choice 44) [some (vr_ (some x0)), some (vr_ x1), none, none] [] s =
  ((dp 271 (some x0) s).bind fun m1 =>
  (cx_bI cx_th (ca m1 [vr_ (some x0), vr_ (some 1063)] s) fun v3 s2 =>
  (if v3 = 0 then
    ((dp 271 (some x0) s2).bind fun m4 =>
    (cx_bI cx_th (ca m4 [vr_ (some x0), vr_ (some 1064)] s2) fun v6 s5 =>
    (if v6 = 0 then
      ((dp 293 (some x0) s5).bind fun m7 =>
      (cx_bV cx_th (ca m7 [vr_ (some x0), vr_ x1] s5) fun s8 =>
      ((dp 290 (some x0) s8).bind fun m9 =>
      (cx_bI cx_th (ca m9 [vr_ (some x0), vr_ (some 1083)] s8) fun v11 s10 =>
      (if v11 = 0 then
        ((dp 294 (some x0) s10).bind fun m12 =>
        (cx_bV cx_th (ca m12 [vr_ (some x0)] s10) fun s13 =>
        ((gi 95 (some x0) s13).bind fun v14 =>
        ((pi 95 (some x0) (v14 - 1) s13).bind fun s15 =>
        some (.inl (some (vr_ x1)), s15)))))
      else
        jm 44 [vr_ (some x0), vr_ x1] [] s10)))))
    else
      ((dp 271 (some x0) s5).bind fun m16 =>
      (cx_bI cx_th (ca m16 [vr_ (some x0), vr_ (some 1063)] s5) fun v18 s17 =>
      (if v18 = 0 then
        jm 89 [vr_ (some x0), vr_ x1, vi_ v18] [vr_ (some 1127), vr_ (some (nw 9 s17).1), vr_ (some (nw 9 s17).1)] (nw 9 s17).2
      else
        jm 89 [vr_ (some x0), vr_ x1, vi_ v18] [vr_ (some 1126), vr_ (some (nw 9 s17).1), vr_ (some (nw 9 s17).1)] (nw 9 s17).2))))))
  else
    ((dp 271 (some x0) s2).bind fun m19 =>
    (cx_bI cx_th (ca m19 [vr_ (some x0), vr_ (some 1063)] s2) fun v21 s20 =>
    (if v21 = 0 then
      jm 89 [vr_ (some x0), vr_ x1, vi_ v21] [vr_ (some 1127), vr_ (some (nw 9 s20).1), vr_ (some (nw 9 s20).1)] (nw 9 s20).2
    else
      jm 89 [vr_ (some x0), vr_ x1, vi_ v21] [vr_ (some 1126), vr_ (some (nw 9 s20).1), vr_ (some (nw 9 s20).1)] (nw 9 s20).2)))))) := by rfl
set_option maxRecDepth 100000 in
theorem cb_X13_choice_89 (x2 : Int32) (x1 y0 y1 y2 : Option Nat) (x0 : Nat) (s : σ) : cx_B ct_lc gi gr pi pr ai ar wi wr an nw na io dp ct_ft ct_sg 3 [] ct_X13_choice ca jm 1000 (pj_at ct_X13_choice 89) [some (vr_ (some x0)), some (vr_ x1), some (vi_ x2), none] [vr_ y2, vr_ y1, vr_ y0] s =
  ((dp 274 (some x0) s).bind fun m1 =>
  (cx_bR cx_th (ca m1 [vr_ (some x0)] s) fun v3 s2 =>
  ((gi 85 v3 s2).bind fun v4 =>
  (cx_bV cx_th (ca 305 [vr_ y1, vr_ y2, vi_ v4] s2) fun s5 =>
  (if x2 = 0 then
    ((dp 278 (some x0) s5).bind fun m6 =>
    (cx_bR cx_th (ca m6 [vr_ (some x0), vr_ (some 1079)] s5) fun v8 s7 =>
    ((dp 306 x1 s7).bind fun m9 =>
    (cx_bR cx_th (ca m9 [vr_ x1, vr_ y0] s7) fun v11 s10 =>
    jm 44 [vr_ (some x0), vr_ x1] [] s10))))
  else
    ((dp 280 (some x0) s5).bind fun m12 =>
    (cx_bR cx_th (ca m12 [vr_ (some x0)] s5) fun v14 s13 =>
    ((dp 306 y0 s13).bind fun m15 =>
    (cx_bR cx_th (ca m15 [vr_ y0, vr_ v14] s13) fun v17 s16 =>
    ((dp 278 (some x0) s16).bind fun m18 =>
    (cx_bR cx_th (ca m18 [vr_ (some x0), vr_ (some 1079)] s16) fun v20 s19 =>
    ((dp 306 x1 s19).bind fun m21 =>
    (cx_bR cx_th (ca m21 [vr_ x1, vr_ y0] s19) fun v23 s22 =>
    jm 44 [vr_ (some x0), vr_ x1] [] s22))))))))))))) := by rfl
set_option maxRecDepth 100000 in
theorem cb_X13_isOf (x1 : Int32) (x0 : Nat) (s : σ) : cx_B ct_lc gi gr pi pr ai ar wi wr an nw na io dp ct_ft ct_sg 4 [] ct_X13_isOf ca jm 1000 ct_X13_isOf [some (vr_ (some x0)), some (vi_ x1)] [] s =
  ((dp 272 (some x0) s).bind fun m1 =>
  (cx_bR cx_th (ca m1 [vr_ (some x0)] s) fun v3 s2 =>
  ((gi 89 v3 s2).bind fun v4 =>
  (if v4 = x1 then
    some (.inl (some (vi_ 1)), s2)
  else
    some (.inl (some (vi_ 0)), s2))))) := by rfl
set_option maxRecDepth 100000 in
theorem cb_X13_compared (x1 : Option Nat) (x0 : Nat) (s : σ) : cx_B ct_lc gi gr pi pr ai ar wi wr an nw na io dp ct_ft ct_sg 3 [] ct_X13_compared ca jm 1000 ct_X13_compared [some (vr_ (some x0)), some (vr_ x1), none] [] s =
  ((dp 272 (some x0) (nw 5 s).2).bind fun m1 =>
  (cx_bR cx_th (ca m1 [vr_ (some x0)] (nw 5 s).2) fun v3 s2 =>
  ((gi 85 v3 s2).bind fun v4 =>
  (cx_bV cx_th (ca 309 [vr_ (some (nw 5 s).1), vr_ (some 1128), vi_ v4] s2) fun s5 =>
  ((gi 101 x1 s5).bind fun v6 =>
  ((pi 101 (some (nw 5 s).1) v6 s5).bind fun s7 =>
  ((dp 306 (some (nw 5 s).1) s7).bind fun m8 =>
  (cx_bR cx_th (ca m8 [vr_ (some (nw 5 s).1), vr_ x1] s7) fun v10 s9 =>
  jm 32 [vr_ (some x0), vr_ (some (nw 5 s).1)] [] s9)))))))) := by rfl
set_option maxRecDepth 100000 in
theorem cb_X13_compared_32 (x2 : Option Nat) (x0 : Nat) (s : σ) : cx_B ct_lc gi gr pi pr ai ar wi wr an nw na io dp ct_ft ct_sg 3 [] ct_X13_compared ca jm 1000 (pj_at ct_X13_compared 32) [some (vr_ (some x0)), none, some (vr_ x2)] [] s =
  ((dp 301 (some x0) s).bind fun m1 =>
  (cx_bI cx_th (ca m1 [vr_ (some x0), vi_ 4] s) fun v3 s2 =>
  (if v3 = 0 then
    some (.inl (some (vr_ x2)), s2)
  else
    ((gr 108 x2 s2).bind fun v4 =>
    ((dp 274 (some x0) s2).bind fun m5 =>
    (cx_bR cx_th (ca m5 [vr_ (some x0)] s2) fun v7 s6 =>
    ((dp 73 v4 s6).bind fun m8 =>
    (cx_bI cx_th (ca m8 [vr_ v4, vr_ v7] s6) fun v10 s9 =>
    ((dp 281 (some x0) s9).bind fun m11 =>
    (cx_bR cx_th (ca m11 [vr_ (some x0), vi_ 5] s9) fun v13 s12 =>
    ((dp 306 x2 s12).bind fun m14 =>
    (cx_bR cx_th (ca m14 [vr_ x2, vr_ v13] s12) fun v16 s15 =>
    jm 32 [vr_ (some x0), vr_ x2] [] s15)))))))))))) := by rfl
set_option maxRecDepth 100000 in
theorem cb_X13_routine (x2 : Int32) (x1 : Option Nat) (x0 : Nat) (s : σ) : cx_B ct_lc gi gr pi pr ai ar wi wr an nw na io dp ct_ft ct_sg 3 [] ct_X13_routine ca jm 1000 ct_X13_routine [some (vr_ (some x0)), some (vr_ x1), some (vi_ x2), none] [] s =
  ((gi 85 x1 (nw 5 s).2).bind fun v1 =>
  (cx_bV cx_th (ca 309 [vr_ (some (nw 5 s).1), vr_ (some 1129), vi_ v1] (nw 5 s).2) fun s2 =>
  ((gr 88 x1 s2).bind fun v3 =>
  ((pr 103 (some (nw 5 s).1) v3 s2).bind fun s4 =>
  ((pi 109 (some (nw 5 s).1) x2 s4).bind fun s5 =>
  (if x2 = 0 then
    jm 54 [vr_ (some x0), vr_ (some (nw 5 s).1)] [vi_ 0, vr_ (some (nw 5 s).1)] s5
  else
    ((gr 97 (some x0) s5).bind fun v6 =>
    ((gr 88 x1 s5).bind fun v7 =>
    ((dp 132 v6 s5).bind fun m8 =>
    (cx_bI cx_th (ca m8 [vr_ v6, vr_ v7] s5) fun v10 s9 =>
    (if v10 = 0 then
      jm 54 [vr_ (some x0), vr_ (some (nw 5 s).1)] [vi_ 0, vr_ (some (nw 5 s).1)] s9
    else
      jm 54 [vr_ (some x0), vr_ (some (nw 5 s).1)] [vi_ 1, vr_ (some (nw 5 s).1)] s9))))))))))) := by rfl
set_option maxRecDepth 100000 in
theorem cb_X13_routine_54 (y1 : Int32) (x3 y0 : Option Nat) (x0 : Nat) (s : σ) : cx_B ct_lc gi gr pi pr ai ar wi wr an nw na io dp ct_ft ct_sg 3 [] ct_X13_routine ca jm 1000 (pj_at ct_X13_routine 54) [some (vr_ (some x0)), none, none, some (vr_ x3)] [vi_ y1, vr_ y0] s =
  ((pi 110 y0 y1 s).bind fun s1 =>
  ((gr 96 (some x0) s1).bind fun v2 =>
  ((dp 73 v2 s1).bind fun m3 =>
  (cx_bI cx_th (ca m3 [vr_ v2, vr_ x3] s1) fun v5 s4 =>
  ((dp 278 (some x0) s4).bind fun m6 =>
  (cx_bR cx_th (ca m6 [vr_ (some x0), vr_ (some 1048)] s4) fun v8 s7 =>
  ((dp 271 (some x0) s7).bind fun m9 =>
  (cx_bI cx_th (ca m9 [vr_ (some x0), vr_ (some 1076)] s7) fun v11 s10 =>
  (if v11 = 0 then
    ((gr 108 x3 s10).bind fun v12 =>
    ((dp 279 (some x0) s10).bind fun m13 =>
    (cx_bR cx_th (ca m13 [vr_ (some x0)] s10) fun v15 s14 =>
    ((dp 73 v12 s14).bind fun m16 =>
    (cx_bI cx_th (ca m16 [vr_ v12, vr_ v15] s14) fun v18 s17 =>
    jm 98 [vr_ (some x0), vr_ x3] [] s17)))))
  else
    jm 148 [vr_ (some x0), vr_ x3] [] s10))))))))) := by rfl
set_option maxRecDepth 100000 in
theorem cb_X13_routine_98 (x3 : Option Nat) (x0 : Nat) (s : σ) : cx_B ct_lc gi gr pi pr ai ar wi wr an nw na io dp ct_ft ct_sg 3 [] ct_X13_routine ca jm 1000 (pj_at ct_X13_routine 98) [some (vr_ (some x0)), none, none, some (vr_ x3)] [] s =
  ((dp 271 (some x0) s).bind fun m1 =>
  (cx_bI cx_th (ca m1 [vr_ (some x0), vr_ (some 1082)] s) fun v3 s2 =>
  (if v3 = 0 then
    jm 148 [vr_ (some x0), vr_ x3] [] s2
  else
    ((gr 108 x3 s2).bind fun v4 =>
    ((dp 78 v4 s2).bind fun m5 =>
    (cx_bI cx_th (ca m5 [vr_ v4] s2) fun v7 s6 =>
    (if v7 = 20 then
      ((dp 276 (some x0) s6).bind fun m8 =>
      (cx_bR cx_th (ca m8 [vr_ (some x0)] s6) fun v10 s9 =>
      (cx_at cx_th v10 s9)))
    else
      ((dp 274 (some x0) s6).bind fun m11 =>
      (cx_bR cx_th (ca m11 [vr_ (some x0)] s6) fun v13 s12 =>
      ((gr 108 x3 s12).bind fun v14 =>
      ((dp 279 (some x0) s12).bind fun m15 =>
      (cx_bR cx_th (ca m15 [vr_ (some x0)] s12) fun v17 s16 =>
      ((dp 73 v14 s16).bind fun m18 =>
      (cx_bI cx_th (ca m18 [vr_ v14, vr_ v17] s16) fun v20 s19 =>
      jm 98 [vr_ (some x0), vr_ x3] [] s19)))))))))))))) := by rfl
set_option maxRecDepth 100000 in
theorem cb_X13_routine_148 (x3 : Option Nat) (x0 : Nat) (s : σ) : cx_B ct_lc gi gr pi pr ai ar wi wr an nw na io dp ct_ft ct_sg 3 [] ct_X13_routine ca jm 1000 (pj_at ct_X13_routine 148) [some (vr_ (some x0)), none, none, some (vr_ x3)] [] s =
  ((dp 278 (some x0) s).bind fun m1 =>
  (cx_bR cx_th (ca m1 [vr_ (some x0), vr_ (some 1076)] s) fun v3 s2 =>
  ((dp 290 (some x0) s2).bind fun m4 =>
  (cx_bI cx_th (ca m4 [vr_ (some x0), vr_ (some 1021)] s2) fun v6 s5 =>
  (if v6 = 0 then
    ((dp 278 (some x0) s5).bind fun m7 =>
    (cx_bR cx_th (ca m7 [vr_ (some x0), vr_ (some 1034)] s5) fun v9 s8 =>
    ((dp 287 (some x0) s8).bind fun m10 =>
    (cx_bR cx_th (ca m10 [vr_ (some x0)] s8) fun v12 s11 =>
    ((dp 306 x3 s11).bind fun m13 =>
    (cx_bR cx_th (ca m13 [vr_ x3, vr_ v12] s11) fun v15 s14 =>
    some (.inl (some (vr_ v15)), s14)))))))
  else
    ((pi 111 x3 1 s5).bind fun s16 =>
    ((dp 280 (some x0) s16).bind fun m17 =>
    (cx_bR cx_th (ca m17 [vr_ (some x0)] s16) fun v19 s18 =>
    ((dp 306 x3 s18).bind fun m20 =>
    (cx_bR cx_th (ca m20 [vr_ x3, vr_ v19] s18) fun v22 s21 =>
    some (.inl (some (vr_ v22)), s21))))))))))) := by rfl
set_option maxRecDepth 100000 in
theorem cb_X13_initial (x0 : Nat) (s : σ) : cx_B ct_lc gi gr pi pr ai ar wi wr an nw na io dp ct_ft ct_sg 3 [] ct_X13_initial ca jm 1000 ct_X13_initial [some (vr_ (some x0)), none] [] s =
  ((dp 271 (some x0) s).bind fun m1 =>
  (cx_bI cx_th (ca m1 [vr_ (some x0), vr_ (some 1035)] s) fun v3 s2 =>
  (if v3 = 0 then
    ((dp 280 (some x0) s2).bind fun m4 =>
    (cx_bR cx_th (ca m4 [vr_ (some x0)] s2) fun v6 s5 =>
    some (.inl (some (vr_ v6)), s5)))
  else
    ((dp 274 (some x0) (nw 9 s2).2).bind fun m7 =>
    (cx_bR cx_th (ca m7 [vr_ (some x0)] (nw 9 s2).2) fun v9 s8 =>
    ((gi 85 v9 s8).bind fun v10 =>
    (cx_bV cx_th (ca 305 [vr_ (some (nw 9 s2).1), vr_ (some 1130), vi_ v10] s8) fun s11 =>
    ((dp 280 (some x0) s11).bind fun m12 =>
    (cx_bR cx_th (ca m12 [vr_ (some x0)] s11) fun v14 s13 =>
    ((dp 306 (some (nw 9 s2).1) s13).bind fun m15 =>
    (cx_bR cx_th (ca m15 [vr_ (some (nw 9 s2).1), vr_ v14] s13) fun v17 s16 =>
    some (.inl (some (vr_ v17)), s16)))))))))))) := by rfl
set_option maxRecDepth 100000 in
theorem cb_X14_init (x2 : Int32) (x1 : Option Nat) (x0 : Nat) (s : σ) : cx_B ct_lc gi gr pi pr ai ar wi wr an nw na io dp ct_ft ct_sg 0 [] ct_X14_init ca jm 1000 ct_X14_init [some (vr_ (some x0)), some (vr_ x1), some (vi_ x2)] [] s =
  (cx_bV cx_th (ca 151 [vr_ (some x0)] s) fun s1 =>
  ((pr 103 (some x0) (some 1010) s1).bind fun s2 =>
  ((pr 99 (some x0) x1 s2).bind fun s3 =>
  ((pi 100 (some x0) x2 s3).bind fun s4 =>
  ((pi 101 (some x0) x2 s4).bind fun s5 =>
  some (.inl none, s5)))))) := by rfl
set_option maxRecDepth 100000 in
theorem cb_X14_with (x1 : Option Nat) (x0 : Nat) (s : σ) : cx_B ct_lc gi gr pi pr ai ar wi wr an nw na io dp ct_ft ct_sg 3 [] ct_X14_with ca jm 1000 ct_X14_with [some (vr_ (some x0)), some (vr_ x1)] [] s =
  ((gr 106 (some x0) s).bind fun v1 =>
  (if v1 = none then
    ((pr 105 (some x0) x1 s).bind fun s2 =>
    ((pr 106 (some x0) x1 s2).bind fun s3 =>
    some (.inl (some (vr_ (some x0))), s3)))
  else
    ((gr 106 (some x0) s).bind fun v4 =>
    ((pr 107 v4 x1 s).bind fun s5 =>
    ((pr 106 (some x0) x1 s5).bind fun s6 =>
    some (.inl (some (vr_ (some x0))), s6)))))) := by rfl
set_option maxRecDepth 100000 in
theorem cb_X14_parts (x0 : Nat) (s : σ) : cx_B ct_lc gi gr pi pr ai ar wi wr an nw na io dp ct_ft ct_sg 1 [] ct_X14_parts ca jm 1000 ct_X14_parts [some (vr_ (some x0)), none, none] [] s =
  ((gr 105 (some x0) s).bind fun v1 =>
  jm 7 [vi_ 0, vr_ v1] [] s) := by rfl
set_option maxRecDepth 100000 in
theorem cb_X14_parts_7 (x1 : Int32) (x2 : Option Nat) (s : σ) : cx_B ct_lc gi gr pi pr ai ar wi wr an nw na io dp ct_ft ct_sg 1 [] ct_X14_parts ca jm 1000 (pj_at ct_X14_parts 7) [none, some (vi_ x1), some (vr_ x2)] [] s =
  (if x2 = none then
    some (.inl (some (vi_ x1)), s)
  else
    ((gr 107 x2 s).bind fun v1 =>
    jm 7 [vi_ (x1 + 1), vr_ v1] [] s)) := by rfl
set_option maxRecDepth 100000 in
theorem cb_X14_part (x1 : Int32) (x0 : Nat) (s : σ) : cx_B ct_lc gi gr pi pr ai ar wi wr an nw na io dp ct_ft ct_sg 3 [] ct_X14_part ca jm 1000 ct_X14_part [some (vr_ (some x0)), some (vi_ x1), none, none] [] s =
  ((gr 105 (some x0) s).bind fun v1 =>
  jm 7 [vi_ x1, vr_ v1, vi_ 0] [] s) := by rfl
set_option maxRecDepth 100000 in
theorem cb_X14_part_7 (x1 x3 : Int32) (x2 : Option Nat) (s : σ) : cx_B ct_lc gi gr pi pr ai ar wi wr an nw na io dp ct_ft ct_sg 3 [] ct_X14_part ca jm 1000 (pj_at ct_X14_part 7) [none, some (vi_ x1), some (vr_ x2), some (vi_ x3)] [] s =
  (if x3 < x1 then
    ((gr 107 x2 s).bind fun v1 =>
    jm 7 [vi_ x1, vr_ v1, vi_ (x3 + 1)] [] s)
  else
    some (.inl (some (vr_ x2)), s)) := by rfl
set_option maxRecDepth 100000 in
theorem cb_X15_init (x2 : Int32) (x1 : Option Nat) (x0 : Nat) (s : σ) : cx_B ct_lc gi gr pi pr ai ar wi wr an nw na io dp ct_ft ct_sg 0 [] ct_X15_init ca jm 1000 ct_X15_init [some (vr_ (some x0)), some (vr_ x1), some (vi_ x2)] [] s =
  (cx_bV cx_th (ca 305 [vr_ (some x0), vr_ x1, vi_ x2] s) fun s1 =>
  (cx_bV cx_th (ca 72 [vr_ (some (nw 36 s1).1)] (nw 36 s1).2) fun s2 =>
  ((pr 108 (some x0) (some (nw 36 s1).1) s2).bind fun s3 =>
  some (.inl none, s3)))) := by rfl
set_option maxRecDepth 100000 in
theorem cb_X16_init (x0 : Nat) (s : σ) : cx_B ct_lc gi gr pi pr ai ar wi wr an nw na io dp ct_ft ct_sg 0 [] ct_X16_init ca jm 1000 ct_X16_init [some (vr_ (some x0))] [] s =
  (cx_bV cx_th (ca 151 [vr_ (some x0)] s) fun s1 =>
  ((na 200 64 s1).bind fun q2 =>
  ((pr 113 (some x0) (some q2.1) q2.2).bind fun s3 =>
  ((pi 117 (some x0) 2 s3).bind fun s4 =>
  ((pi 118 (some x0) 2 s4).bind fun s5 =>
  some (.inl none, s5)))))) := by rfl
set_option maxRecDepth 100000 in
theorem cb_X16_use (x1 : Int32) (x0 : Nat) (s : σ) : cx_B ct_lc gi gr pi pr ai ar wi wr an nw na io dp ct_ft ct_sg 0 [] ct_X16_use ca jm 1000 ct_X16_use [some (vr_ (some x0)), some (vi_ x1)] [] s =
  ((gi 117 (some x0) s).bind fun v1 =>
  ((pi 117 (some x0) (v1 + x1) s).bind fun s2 =>
  ((gi 118 (some x0) s2).bind fun v3 =>
  ((gi 117 (some x0) s2).bind fun v4 =>
  (cx_bI cx_th (ca 193 [vi_ v3, vi_ v4] s2) fun v6 s5 =>
  ((pi 118 (some x0) v6 s5).bind fun s7 =>
  some (.inl none, s7))))))) := by rfl
set_option maxRecDepth 100000 in
theorem cb_X16_emit (x1 x2 : Int32) (x0 : Nat) (s : σ) : cx_B ct_lc gi gr pi pr ai ar wi wr an nw na io dp ct_ft ct_sg 1 [] ct_X16_emit ca jm 1000 ct_X16_emit [some (vr_ (some x0)), some (vi_ x1), some (vi_ x2), none] [] s =
  ((gi 114 (some x0) s).bind fun v1 =>
  ((gr 113 (some x0) s).bind fun v2 =>
  ((an v2 s).bind fun v3 =>
  (if v1 = v3 then
    ((gr 113 (some x0) s).bind fun v4 =>
    ((gi 114 (some x0) s).bind fun v5 =>
    ((na 200 (2 * v5) s).bind fun q6 =>
    ((pr 113 (some x0) (some q6.1) q6.2).bind fun s7 =>
    ((gr 113 (some x0) s7).bind fun v8 =>
    ((gi 114 (some x0) s7).bind fun v9 =>
    (cx_bV cx_th (ca 416 [vr_ v4, vi_ 0, vr_ v8, vi_ 0, vi_ v9] s7) fun s10 =>
    jm 43 [vr_ (some x0), vi_ x1, vi_ x2] [] s10)))))))
  else
    jm 43 [vr_ (some x0), vi_ x1, vi_ x2] [] s)))) := by rfl
set_option maxRecDepth 100000 in
theorem cb_X16_emit_43 (x1 x2 : Int32) (x0 : Nat) (s : σ) : cx_B ct_lc gi gr pi pr ai ar wi wr an nw na io dp ct_ft ct_sg 1 [] ct_X16_emit ca jm 1000 (pj_at ct_X16_emit 43) [some (vr_ (some x0)), some (vi_ x1), some (vi_ x2), none] [] s =
  ((gr 113 (some x0) s).bind fun v1 =>
  ((gi 114 (some x0) s).bind fun v2 =>
  ((wi 0 v1 v2 x1 s).bind fun s3 =>
  ((gr 113 (some x0) s3).bind fun v4 =>
  ((gi 114 (some x0) s3).bind fun v5 =>
  ((wi 0 v4 (v5 + 1) x2 s3).bind fun s6 =>
  ((gi 114 (some x0) s6).bind fun v7 =>
  ((pi 114 (some x0) (v7 + 2) s6).bind fun s8 =>
  ((gi 114 (some x0) s8).bind fun v9 =>
  some (.inl (some (vi_ (v9 - 2))), s8)))))))))) := by rfl
set_option maxRecDepth 100000 in
theorem cb_X16_land (x1 : Int32) (x0 : Nat) (s : σ) : cx_B ct_lc gi gr pi pr ai ar wi wr an nw na io dp ct_ft ct_sg 0 [] ct_X16_land ca jm 1000 ct_X16_land [some (vr_ (some x0)), some (vi_ x1), none] [] s =
  ((dp 314 (some x0) s).bind fun m1 =>
  (cx_bI cx_th (ca m1 [vr_ (some x0)] s) fun v3 s2 =>
  ((gr 113 (some x0) s2).bind fun v4 =>
  ((wi 0 v4 (x1 + 1) v3 s2).bind fun s5 =>
  some (.inl none, s5))))) := by rfl
set_option maxRecDepth 100000 in
theorem cb_X16_mark (x0 : Nat) (s : σ) : cx_B ct_lc gi gr pi pr ai ar wi wr an nw na io dp ct_ft ct_sg 1 [] ct_X16_mark ca jm 1000 ct_X16_mark [some (vr_ (some x0))] [] s =
  ((gi 115 (some x0) s).bind fun v1 =>
  ((dp 312 (some x0) s).bind fun m2 =>
  (cx_bI cx_th (ca m2 [vr_ (some x0), vi_ 22, vi_ v1] s) fun v4 s3 =>
  ((gi 115 (some x0) s3).bind fun v5 =>
  ((pi 115 (some x0) (v5 + 1) s3).bind fun s6 =>
  ((gi 115 (some x0) s6).bind fun v7 =>
  some (.inl (some (vi_ (v7 - 1))), s6))))))) := by rfl
set_option maxRecDepth 100000 in
theorem cb_X17_init (x1 : Int32) (x0 : Nat) (s : σ) : cx_B ct_lc gi gr pi pr ai ar wi wr an nw na io dp ct_ft ct_sg 0 [] ct_X17_init ca jm 1000 ct_X17_init [some (vr_ (some x0)), some (vi_ x1)] [] s =
  (cx_bV cx_th (ca 124 [vr_ (some x0)] s) fun s1 =>
  ((pi 120 (some x0) x1 s1).bind fun s2 =>
  some (.inl none, s2))) := by rfl
set_option maxRecDepth 100000 in
theorem cb_X2_init (x0 : Nat) (s : σ) : cx_B ct_lc gi gr pi pr ai ar wi wr an nw na io dp ct_ft ct_sg 0 [] ct_X2_init ca jm 1000 ct_X2_init [some (vr_ (some x0))] [] s =
  (cx_bV cx_th (ca 151 [vr_ (some x0)] s) fun s1 =>
  ((na 200 4096 s1).bind fun q2 =>
  ((pr 121 (some x0) (some q2.1) q2.2).bind fun s3 =>
  ((na 200 64 s3).bind fun q4 =>
  ((pr 123 (some x0) (some q4.1) q4.2).bind fun s5 =>
  ((na 200 64 s5).bind fun q6 =>
  ((pr 124 (some x0) (some q6.1) q6.2).bind fun s7 =>
  some (.inl none, s7)))))))) := by rfl
set_option maxRecDepth 100000 in
theorem cb_X2_longer (x1 : Int32) (x0 : Option Nat) (s : σ) : cx_B ct_lc gi gr pi pr ai ar wi wr an nw na io dp ct_ft ct_sg 3 [] ct_X2_longer ca jm 1000 ct_X2_longer [some (vr_ x0), some (vi_ x1), none] [] s =
  ((an x0 s).bind fun v1 =>
  (if x1 < v1 then
    some (.inl (some (vr_ x0)), s)
  else
    ((na 200 (2 * x1) s).bind fun q2 =>
    ((an x0 q2.2).bind fun v3 =>
    (cx_bV cx_th (ca 416 [vr_ x0, vi_ 0, vr_ (some q2.1), vi_ 0, vi_ v3] q2.2) fun s4 =>
    some (.inl (some (vr_ (some q2.1))), s4)))))) := by rfl
set_option maxRecDepth 100000 in
theorem cb_X2_load (x1 : Option Nat) (x0 : Nat) (s : σ) : cx_B ct_lc gi gr pi pr ai ar wi wr an nw na io dp ct_ft ct_sg 1 [] ct_X2_load ca jm 1000 ct_X2_load [some (vr_ (some x0)), some (vr_ x1), none, none, none] [] s =
  ((pr 127 (some x0) x1 s).bind fun s1 =>
  ((pi 126 (some x0) 0 s1).bind fun s2 =>
  ((pi 125 (some x0) 0 s2).bind fun s3 =>
  ((gi 122 (some x0) s3).bind fun v4 =>
  jm 23 [vr_ (some x0), vi_ (65536 + v4)] [] s3)))) := by rfl
set_option maxRecDepth 100000 in
theorem cb_X2_load_23 (x2 : Int32) (x0 : Nat) (s : σ) : cx_B ct_lc gi gr pi pr ai ar wi wr an nw na io dp ct_ft ct_sg 1 [] ct_X2_load ca jm 1000 (pj_at ct_X2_load 23) [some (vr_ (some x0)), none, some (vi_ x2), none, none] [] s =
  ((gi 126 (some x0) s).bind fun v1 =>
  ((gr 127 (some x0) s).bind fun v2 =>
  ((gi 145 v2 s).bind fun v3 =>
  (if v1 < v3 then
    ((gr 127 (some x0) s).bind fun v4 =>
    ((gr 144 v4 s).bind fun v5 =>
    ((gi 126 (some x0) s).bind fun v6 =>
    ((ai 1 v5 v6 s).bind fun v7 =>
    (if v7 < 48 then
      jm 98 [vr_ (some x0), vi_ x2, vi_ v7] [] s
    else
      (if 57 < v7 then
        jm 98 [vr_ (some x0), vi_ x2, vi_ v7] [] s
      else
        ((dp 319 (some x0) s).bind fun m8 =>
        (cx_bI cx_th (ca m8 [vr_ (some x0)] s) fun v10 s9 =>
        ((gr 123 (some x0) s9).bind fun v11 =>
        (cx_bR cx_th (ca 317 [vr_ v11, vi_ v10] s9) fun v13 s12 =>
        ((pr 123 (some x0) v13 s12).bind fun s14 =>
        ((gr 123 (some x0) s14).bind fun v15 =>
        ((gi 122 (some x0) s14).bind fun v16 =>
        ((wi 0 v15 v10 (65536 + v16) s14).bind fun s17 =>
        jm 23 [vr_ (some x0), vi_ x2] [] s17))))))))))))))
  else
    jm 135 [vr_ (some x0), vi_ x2, vi_ 0] [] s)))) := by rfl
set_option maxRecDepth 100000 in
theorem cb_X2_load_98 (x2 x3 : Int32) (x0 : Nat) (s : σ) : cx_B ct_lc gi gr pi pr ai ar wi wr an nw na io dp ct_ft ct_sg 1 [] ct_X2_load ca jm 1000 (pj_at ct_X2_load 98) [some (vr_ (some x0)), none, some (vi_ x2), some (vi_ x3), none] [] s =
  ((gi 126 (some x0) s).bind fun v1 =>
  ((pi 126 (some x0) (v1 + 1) s).bind fun s2 =>
  (if x3 = 68 then
    ((dp 319 (some x0) s2).bind fun m3 =>
    (cx_bI cx_th (ca m3 [vr_ (some x0)] s2) fun v5 s4 =>
    ((dp 320 (some x0) s4).bind fun m6 =>
    (cx_bV cx_th (ca m6 [vr_ (some x0), vi_ v5] s4) fun s7 =>
    jm 23 [vr_ (some x0), vi_ x2] [] s7))))
  else
    ((dp 321 (some x0) s2).bind fun m8 =>
    (cx_bV cx_th (ca m8 [vr_ (some x0), vi_ x3] s2) fun s9 =>
    jm 23 [vr_ (some x0), vi_ x2] [] s9))))) := by rfl
set_option maxRecDepth 100000 in
theorem cb_X2_load_135 (x2 x3 : Int32) (x0 : Nat) (s : σ) : cx_B ct_lc gi gr pi pr ai ar wi wr an nw na io dp ct_ft ct_sg 1 [] ct_X2_load ca jm 1000 (pj_at ct_X2_load 135) [some (vr_ (some x0)), none, some (vi_ x2), some (vi_ x3), none] [] s =
  ((gi 125 (some x0) s).bind fun v1 =>
  (if x3 < v1 then
    ((gr 121 (some x0) s).bind fun v2 =>
    ((gr 124 (some x0) s).bind fun v3 =>
    ((ai 0 v3 x3 s).bind fun v4 =>
    ((gr 121 (some x0) s).bind fun v5 =>
    ((gr 124 (some x0) s).bind fun v6 =>
    ((ai 0 v6 x3 s).bind fun v7 =>
    ((ai 0 v5 v7 s).bind fun v8 =>
    ((gr 123 (some x0) s).bind fun v9 =>
    ((gr 121 (some x0) s).bind fun v10 =>
    ((gr 124 (some x0) s).bind fun v11 =>
    ((ai 0 v11 x3 s).bind fun v12 =>
    ((ai 0 v10 v12 s).bind fun v13 =>
    ((ai 0 v9 (v13 &&& 33554431) s).bind fun v14 =>
    ((wi 0 v2 v4 ((v8 &&& (-33554432)) ||| v14) s).bind fun s15 =>
    jm 135 [vr_ (some x0), vi_ x2, vi_ (x3 + 1)] [] s15))))))))))))))
  else
    some (.inl (some (vi_ x2)), s))) := by rfl
set_option maxRecDepth 100000 in
theorem cb_X2_number (x0 : Nat) (s : σ) : cx_B ct_lc gi gr pi pr ai ar wi wr an nw na io dp ct_ft ct_sg 1 [] ct_X2_number ca jm 1000 ct_X2_number [some (vr_ (some x0)), none, none] [] s =
  ((gr 127 (some x0) s).bind fun v1 =>
  ((gr 144 v1 s).bind fun v2 =>
  ((gi 126 (some x0) s).bind fun v3 =>
  ((ai 1 v2 v3 s).bind fun v4 =>
  (if v4 = 45 then
    jm 22 [vr_ (some x0)] [vi_ 1] s
  else
    jm 22 [vr_ (some x0)] [vi_ 0] s))))) := by rfl
set_option maxRecDepth 100000 in
theorem cb_X2_number_22 (y0 : Int32) (x0 : Nat) (s : σ) : cx_B ct_lc gi gr pi pr ai ar wi wr an nw na io dp ct_ft ct_sg 1 [] ct_X2_number ca jm 1000 (pj_at ct_X2_number 22) [some (vr_ (some x0)), none, none] [vi_ y0] s =
  (if y0 = 0 then
    jm 39 [vr_ (some x0), vi_ y0, vi_ 0] [] s
  else
    ((gi 126 (some x0) s).bind fun v1 =>
    ((pi 126 (some x0) (v1 + 1) s).bind fun s2 =>
    jm 39 [vr_ (some x0), vi_ y0, vi_ 0] [] s2))) := by rfl
set_option maxRecDepth 100000 in
theorem cb_X2_number_39 (x1 x2 : Int32) (x0 : Nat) (s : σ) : cx_B ct_lc gi gr pi pr ai ar wi wr an nw na io dp ct_ft ct_sg 1 [] ct_X2_number ca jm 1000 (pj_at ct_X2_number 39) [some (vr_ (some x0)), some (vi_ x1), some (vi_ x2)] [] s =
  ((gr 127 (some x0) s).bind fun v1 =>
  ((gr 144 v1 s).bind fun v2 =>
  ((gi 126 (some x0) s).bind fun v3 =>
  ((ai 1 v2 v3 s).bind fun v4 =>
  (if v4 = 10 then
    ((gi 126 (some x0) s).bind fun v5 =>
    ((pi 126 (some x0) (v5 + 1) s).bind fun s6 =>
    (if x1 = 0 then
      some (.inl (some (vi_ (-x2))), s6)
    else
      some (.inl (some (vi_ x2)), s6))))
  else
    ((gr 127 (some x0) s).bind fun v7 =>
    ((gr 144 v7 s).bind fun v8 =>
    ((gi 126 (some x0) s).bind fun v9 =>
    ((ai 1 v8 v9 s).bind fun v10 =>
    ((gi 126 (some x0) s).bind fun v11 =>
    ((pi 126 (some x0) (v11 + 1) s).bind fun s12 =>
    jm 39 [vr_ (some x0), vi_ x1, vi_ ((10 * x2) - (v10 - 48))] [] s12))))))))))) := by rfl
set_option maxRecDepth 100000 in
theorem cb_X2_word (x1 : Int32) (x0 : Nat) (s : σ) : cx_B ct_lc gi gr pi pr ai ar wi wr an nw na io dp ct_ft ct_sg 0 [] ct_X2_word ca jm 1000 ct_X2_word [some (vr_ (some x0)), some (vi_ x1), none] [] s =
  ((gi 122 (some x0) s).bind fun v1 =>
  ((gr 121 (some x0) s).bind fun v2 =>
  ((an v2 s).bind fun v3 =>
  (if v1 = v3 then
    ((gr 121 (some x0) s).bind fun v4 =>
    ((gi 122 (some x0) s).bind fun v5 =>
    ((na 200 (2 * v5) s).bind fun q6 =>
    ((pr 121 (some x0) (some q6.1) q6.2).bind fun s7 =>
    ((gr 121 (some x0) s7).bind fun v8 =>
    ((gi 122 (some x0) s7).bind fun v9 =>
    (cx_bV cx_th (ca 416 [vr_ v4, vi_ 0, vr_ v8, vi_ 0, vi_ v9] s7) fun s10 =>
    ((gr 121 (some x0) s10).bind fun v11 =>
    ((gi 122 (some x0) s10).bind fun v12 =>
    ((wi 0 v11 v12 x1 s10).bind fun s13 =>
    ((gi 122 (some x0) s13).bind fun v14 =>
    ((pi 122 (some x0) (v14 + 1) s13).bind fun s15 =>
    some (.inl none, s15)))))))))))))
  else
    ((gr 121 (some x0) s).bind fun v16 =>
    ((gi 122 (some x0) s).bind fun v17 =>
    ((wi 0 v16 v17 x1 s).bind fun s18 =>
    ((gi 122 (some x0) s18).bind fun v19 =>
    ((pi 122 (some x0) (v19 + 1) s18).bind fun s20 =>
    some (.inl none, s20)))))))))) := by rfl
set_option maxRecDepth 100000 in
theorem cb_X2_instruction (x1 : Int32) (x0 : Nat) (s : σ) : cx_B ct_lc gi gr pi pr ai ar wi wr an nw na io dp ct_ft ct_sg 0 [] ct_X2_instruction ca jm 1000 ct_X2_instruction [some (vr_ (some x0)), some (vi_ x1), none, none, none] [] s =
  ((dp 102 (some 1131) s).bind fun m1 =>
  (cx_bI cx_th (ca m1 [vr_ (some 1131), vi_ ((x1 : Int32).toUInt32 % 65536).toInt32] s) fun v3 s2 =>
  jm 13 [vr_ (some x0), vi_ (v3 <<< (28 &&& 31)), vi_ 0] [] s2)) := by rfl
set_option maxRecDepth 100000 in
theorem cb_X2_instruction_13 (x2 x3 : Int32) (x0 : Nat) (s : σ) : cx_B ct_lc gi gr pi pr ai ar wi wr an nw na io dp ct_ft ct_sg 0 [] ct_X2_instruction ca jm 1000 (pj_at ct_X2_instruction 13) [some (vr_ (some x0)), none, some (vi_ x2), some (vi_ x3), none] [] s =
  ((gr 127 (some x0) s).bind fun v1 =>
  ((gr 144 v1 s).bind fun v2 =>
  ((gi 126 (some x0) s).bind fun v3 =>
  ((ai 1 v2 v3 s).bind fun v4 =>
  (if v4 = 73 then
    ((gi 126 (some x0) s).bind fun v5 =>
    ((pi 126 (some x0) (v5 + 1) s).bind fun s6 =>
    jm 13 [vr_ (some x0), vi_ (x2 ||| 134217728), vi_ x3] [] s6))
  else
    (if v4 = 80 then
      ((gi 126 (some x0) s).bind fun v7 =>
      ((pi 126 (some x0) (v7 + 1) s).bind fun s8 =>
      jm 13 [vr_ (some x0), vi_ (x2 ||| 67108864), vi_ x3] [] s8))
    else
      (if v4 = 81 then
        ((gi 126 (some x0) s).bind fun v9 =>
        ((pi 126 (some x0) (v9 + 1) s).bind fun s10 =>
        jm 13 [vr_ (some x0), vi_ (x2 ||| 33554432), vi_ x3] [] s10))
      else
        (if v4 = 76 then
          ((gi 126 (some x0) s).bind fun v11 =>
          ((pi 126 (some x0) (v11 + 1) s).bind fun s12 =>
          jm 13 [vr_ (some x0), vi_ x2, vi_ 1] [] s12))
        else
          ((dp 319 (some x0) s).bind fun m13 =>
          (cx_bI cx_th (ca m13 [vr_ (some x0)] s) fun v15 s14 =>
          (if x3 = 0 then
            ((dp 320 (some x0) s14).bind fun m16 =>
            (cx_bV cx_th (ca m16 [vr_ (some x0), vi_ (x2 ||| (v15 &&& 33554431))] s14) fun s17 =>
            some (.inl none, s17)))
          else
            ((gr 124 (some x0) s14).bind fun v18 =>
            ((gi 125 (some x0) s14).bind fun v19 =>
            (cx_bR cx_th (ca 317 [vr_ v18, vi_ v19] s14) fun v21 s20 =>
            ((pr 124 (some x0) v21 s20).bind fun s22 =>
            ((gr 124 (some x0) s22).bind fun v23 =>
            ((gi 125 (some x0) s22).bind fun v24 =>
            ((gi 122 (some x0) s22).bind fun v25 =>
            ((wi 0 v23 v24 v25 s22).bind fun s26 =>
            ((gi 125 (some x0) s26).bind fun v27 =>
            ((pi 125 (some x0) (v27 + 1) s26).bind fun s28 =>
            ((dp 320 (some x0) s28).bind fun m29 =>
            (cx_bV cx_th (ca m29 [vr_ (some x0), vi_ (x2 ||| (v15 &&& 33554431))] s28) fun s30 =>
            some (.inl none, s30)))))))))))))))))))))))) := by rfl
set_option maxRecDepth 100000 in
theorem cb_X3_init (x0 : Nat) (s : σ) : cx_B ct_lc gi gr pi pr ai ar wi wr an nw na io dp ct_ft ct_sg 0 [] ct_X3_init ca jm 1000 ct_X3_init [some (vr_ (some x0))] [] s =
  (cx_bV cx_th (ca 151 [vr_ (some x0)] s) fun s1 =>
  (cx_bV cx_th (ca 348 [vr_ (some (nw 12 s1).1)] (nw 12 s1).2) fun s2 =>
  ((pr 128 (some x0) (some (nw 12 s1).1) s2).bind fun s3 =>
  ((na 200 64 s3).bind fun q4 =>
  ((pr 129 (some x0) (some q4.1) q4.2).bind fun s5 =>
  ((na 200 64 s5).bind fun q6 =>
  ((pr 130 (some x0) (some q6.1) q6.2).bind fun s7 =>
  ((na 200 64 s7).bind fun q8 =>
  ((pr 133 (some x0) (some q8.1) q8.2).bind fun s9 =>
  ((na 200 16 s9).bind fun q10 =>
  ((pr 135 (some x0) (some q10.1) q10.2).bind fun s11 =>
  ((na 200 64 s11).bind fun q12 =>
  ((pr 138 (some x0) (some q12.1) q12.2).bind fun s13 =>
  ((na 200 64 s13).bind fun q14 =>
  ((pr 139 (some x0) (some q14.1) q14.2).bind fun s15 =>
  ((na 200 64 s15).bind fun q16 =>
  ((pr 140 (some x0) (some q16.1) q16.2).bind fun s17 =>
  ((na 202 64 s17).bind fun q18 =>
  ((pr 141 (some x0) (some q18.1) q18.2).bind fun s19 =>
  some (.inl none, s19)))))))))))))))))))) := by rfl
set_option maxRecDepth 100000 in
theorem cb_X3_make (x1 : Option Nat) (x0 : Nat) (s : σ) : cx_B ct_lc gi gr pi pr ai ar wi wr an nw na io dp ct_ft ct_sg 1 [] ct_X3_make ca jm 1000 ct_X3_make [some (vr_ (some x0)), some (vr_ x1), none] [] s =
  ((gr 128 (some x0) s).bind fun v1 =>
  ((pi 145 v1 0 s).bind fun s2 =>
  ((pi 131 (some x0) 0 s2).bind fun s3 =>
  ((pi 132 (some x0) 0 s3).bind fun s4 =>
  ((pi 136 (some x0) 0 s4).bind fun s5 =>
  ((gi 115 x1 s5).bind fun v6 =>
  ((pi 137 (some x0) v6 s5).bind fun s7 =>
  ((pi 134 (some x0) 1 s7).bind fun s8 =>
  ((gr 133 (some x0) s8).bind fun v9 =>
  ((an v9 s8).bind fun v10 =>
  ((gi 137 (some x0) s8).bind fun v11 =>
  (if v10 < v11 then
    ((gi 137 (some x0) s8).bind fun v12 =>
    ((na 200 (2 * v12) s8).bind fun q13 =>
    ((pr 133 (some x0) (some q13.1) q13.2).bind fun s14 =>
    ((dp 324 (some x0) s14).bind fun m15 =>
    (cx_bV cx_th (ca m15 [vr_ (some x0), vr_ x1] s14) fun s16 =>
    jm 67 [vr_ (some x0), vr_ x1, vi_ 0] [] s16)))))
  else
    ((dp 324 (some x0) s8).bind fun m17 =>
    (cx_bV cx_th (ca m17 [vr_ (some x0), vr_ x1] s8) fun s18 =>
    jm 67 [vr_ (some x0), vr_ x1, vi_ 0] [] s18)))))))))))))) := by rfl
set_option maxRecDepth 100000 in
theorem cb_X3_make_67 (x2 : Int32) (x1 : Option Nat) (x0 : Nat) (s : σ) : cx_B ct_lc gi gr pi pr ai ar wi wr an nw na io dp ct_ft ct_sg 1 [] ct_X3_make ca jm 1000 (pj_at ct_X3_make 67) [some (vr_ (some x0)), some (vr_ x1), some (vi_ x2)] [] s =
  ((gi 114 x1 s).bind fun v1 =>
  (if x2 < v1 then
    ((gr 113 x1 s).bind fun v2 =>
    ((ai 0 v2 x2 s).bind fun v3 =>
    ((gr 113 x1 s).bind fun v4 =>
    ((ai 0 v4 (x2 + 1) s).bind fun v5 =>
    ((gi 114 x1 s).bind fun v6 =>
    (if (x2 + 2) < v6 then
      ((gr 113 x1 s).bind fun v7 =>
      ((ai 0 v7 (x2 + 3) s).bind fun v8 =>
      ((dp 328 (some x0) s).bind fun m9 =>
      (cx_bV cx_th (ca m9 [vr_ (some x0), vi_ v3, vi_ v5, vi_ v8] s) fun s10 =>
      jm 67 [vr_ (some x0), vr_ x1, vi_ (x2 + 2)] [] s10))))
    else
      ((dp 328 (some x0) s).bind fun m11 =>
      (cx_bV cx_th (ca m11 [vr_ (some x0), vi_ v3, vi_ v5, vi_ 0] s) fun s12 =>
      jm 67 [vr_ (some x0), vr_ x1, vi_ (x2 + 2)] [] s12))))))))
  else
    jm 123 [vr_ (some x0), vi_ 0] [] s)) := by rfl
set_option maxRecDepth 100000 in
theorem cb_X3_make_123 (x2 : Int32) (x0 : Nat) (s : σ) : cx_B ct_lc gi gr pi pr ai ar wi wr an nw na io dp ct_ft ct_sg 1 [] ct_X3_make ca jm 1000 (pj_at ct_X3_make 123) [some (vr_ (some x0)), none, some (vi_ x2)] [] s =
  ((gi 136 (some x0) s).bind fun v1 =>
  (if x2 < v1 then
    ((gi 137 (some x0) s).bind fun v2 =>
    ((dp 333 (some x0) s).bind fun m3 =>
    (cx_bV cx_th (ca m3 [vr_ (some x0), vr_ (some 1010), vi_ (v2 + x2)] s) fun s4 =>
    ((gr 135 (some x0) s4).bind fun v5 =>
    ((ai 0 v5 x2 s4).bind fun v6 =>
    ((dp 333 (some x0) s4).bind fun m7 =>
    (cx_bV cx_th (ca m7 [vr_ (some x0), vr_ (some 1132), vi_ v6] s4) fun s8 =>
    jm 123 [vr_ (some x0), vi_ (x2 + 1)] [] s8)))))))
  else
    ((gi 132 (some x0) s).bind fun v9 =>
    some (.inl (some (vi_ v9)), s)))) := by rfl
set_option maxRecDepth 100000 in
theorem cb_X3_reckon (x1 : Option Nat) (x0 : Nat) (s : σ) : cx_B ct_lc gi gr pi pr ai ar wi wr an nw na io dp ct_ft ct_sg 0 [] ct_X3_reckon ca jm 1000 ct_X3_reckon [some (vr_ (some x0)), some (vr_ x1), none] [] s =
  ((gr 141 (some x0) s).bind fun v1 =>
  ((an v1 s).bind fun v2 =>
  ((gi 114 x1 s).bind fun v3 =>
  (if v2 < v3 then
    ((gi 114 x1 s).bind fun v4 =>
    ((na 202 (2 * v4) s).bind fun q5 =>
    ((pr 141 (some x0) (some q5.1) q5.2).bind fun s6 =>
    jm 24 [vr_ (some x0), vr_ x1] [] s6)))
  else
    jm 24 [vr_ (some x0), vr_ x1] [] s)))) := by rfl
set_option maxRecDepth 100000 in
theorem cb_X3_reckon_24 (x1 : Option Nat) (x0 : Nat) (s : σ) : cx_B ct_lc gi gr pi pr ai ar wi wr an nw na io dp ct_ft ct_sg 0 [] ct_X3_reckon ca jm 1000 (pj_at ct_X3_reckon 24) [some (vr_ (some x0)), some (vr_ x1), none] [] s =
  ((gr 140 (some x0) s).bind fun v1 =>
  ((an v1 s).bind fun v2 =>
  ((gi 115 x1 s).bind fun v3 =>
  (if v2 < v3 then
    ((gi 115 x1 s).bind fun v4 =>
    ((na 200 (2 * v4) s).bind fun q5 =>
    ((pr 140 (some x0) (some q5.1) q5.2).bind fun s6 =>
    jm 50 [vr_ (some x0), vr_ x1, vi_ 0] [] s6)))
  else
    jm 50 [vr_ (some x0), vr_ x1, vi_ 0] [] s)))) := by rfl
set_option maxRecDepth 100000 in
theorem cb_X3_reckon_50 (x2 : Int32) (x1 : Option Nat) (x0 : Nat) (s : σ) : cx_B ct_lc gi gr pi pr ai ar wi wr an nw na io dp ct_ft ct_sg 0 [] ct_X3_reckon ca jm 1000 (pj_at ct_X3_reckon 50) [some (vr_ (some x0)), some (vr_ x1), some (vi_ x2)] [] s =
  ((gi 114 x1 s).bind fun v1 =>
  (if x2 < v1 then
    ((gr 141 (some x0) s).bind fun v2 =>
    ((wi 1 v2 x2 0 s).bind fun s3 =>
    jm 50 [vr_ (some x0), vr_ x1, vi_ (x2 + 1)] [] s3))
  else
    jm 73 [vr_ (some x0), vr_ x1, vi_ 0] [] s)) := by rfl
set_option maxRecDepth 100000 in
theorem cb_X3_reckon_73 (x2 : Int32) (x1 : Option Nat) (x0 : Nat) (s : σ) : cx_B ct_lc gi gr pi pr ai ar wi wr an nw na io dp ct_ft ct_sg 0 [] ct_X3_reckon ca jm 1000 (pj_at ct_X3_reckon 73) [some (vr_ (some x0)), some (vr_ x1), some (vi_ x2)] [] s =
  ((gi 114 x1 s).bind fun v1 =>
  (if x2 < v1 then
    ((gr 113 x1 s).bind fun v2 =>
    ((ai 0 v2 x2 s).bind fun v3 =>
    (if v3 = 22 then
      ((gr 140 (some x0) s).bind fun v4 =>
      ((gr 113 x1 s).bind fun v5 =>
      ((ai 0 v5 (x2 + 1) s).bind fun v6 =>
      ((wi 0 v4 v6 x2 s).bind fun s7 =>
      jm 73 [vr_ (some x0), vr_ x1, vi_ (x2 + 2)] [] s7))))
    else
      jm 73 [vr_ (some x0), vr_ x1, vi_ (x2 + 2)] [] s)))
  else
    ((pi 142 (some x0) 0 s).bind fun s8 =>
    ((dp 325 (some x0) s8).bind fun m9 =>
    (cx_bV cx_th (ca m9 [vr_ (some x0), vi_ 0, vi_ 0] s8) fun s10 =>
    jm 123 [vr_ (some x0), vr_ x1] [] s10))))) := by rfl
set_option maxRecDepth 100000 in
theorem cb_X3_reckon_123 (x1 : Option Nat) (x0 : Nat) (s : σ) : cx_B ct_lc gi gr pi pr ai ar wi wr an nw na io dp ct_ft ct_sg 0 [] ct_X3_reckon ca jm 1000 (pj_at ct_X3_reckon 123) [some (vr_ (some x0)), some (vr_ x1), none] [] s =
  ((gi 142 (some x0) s).bind fun v1 =>
  (if 0 < v1 then
    ((gi 142 (some x0) s).bind fun v2 =>
    ((pi 142 (some x0) (v2 - 1) s).bind fun s3 =>
    ((gr 138 (some x0) s3).bind fun v4 =>
    ((gi 142 (some x0) s3).bind fun v5 =>
    ((ai 0 v4 v5 s3).bind fun v6 =>
    ((gr 139 (some x0) s3).bind fun v7 =>
    ((gi 142 (some x0) s3).bind fun v8 =>
    ((ai 0 v7 v8 s3).bind fun v9 =>
    ((dp 326 (some x0) s3).bind fun m10 =>
    (cx_bV cx_th (ca m10 [vr_ (some x0), vr_ x1, vi_ v6, vi_ v9] s3) fun s11 =>
    jm 123 [vr_ (some x0), vr_ x1] [] s11))))))))))
  else
    some (.inl none, s))) := by rfl
set_option maxRecDepth 100000 in
theorem cb_X3_way (x1 x2 : Int32) (x0 : Nat) (s : σ) : cx_B ct_lc gi gr pi pr ai ar wi wr an nw na io dp ct_ft ct_sg 0 [] ct_X3_way ca jm 1000 ct_X3_way [some (vr_ (some x0)), some (vi_ x1), some (vi_ x2)] [] s =
  ((gi 142 (some x0) s).bind fun v1 =>
  ((gr 138 (some x0) s).bind fun v2 =>
  ((an v2 s).bind fun v3 =>
  (if v1 = v3 then
    ((gr 138 (some x0) s).bind fun v4 =>
    ((gi 142 (some x0) s).bind fun v5 =>
    (cx_bR cx_th (ca 317 [vr_ v4, vi_ v5] s) fun v7 s6 =>
    ((pr 138 (some x0) v7 s6).bind fun s8 =>
    ((gr 139 (some x0) s8).bind fun v9 =>
    ((gi 142 (some x0) s8).bind fun v10 =>
    (cx_bR cx_th (ca 317 [vr_ v9, vi_ v10] s8) fun v12 s11 =>
    ((pr 139 (some x0) v12 s11).bind fun s13 =>
    jm 42 [vr_ (some x0), vi_ x1, vi_ x2] [] s13))))))))
  else
    jm 42 [vr_ (some x0), vi_ x1, vi_ x2] [] s)))) := by rfl
set_option maxRecDepth 100000 in
theorem cb_X3_way_42 (x1 x2 : Int32) (x0 : Nat) (s : σ) : cx_B ct_lc gi gr pi pr ai ar wi wr an nw na io dp ct_ft ct_sg 0 [] ct_X3_way ca jm 1000 (pj_at ct_X3_way 42) [some (vr_ (some x0)), some (vi_ x1), some (vi_ x2)] [] s =
  ((gr 138 (some x0) s).bind fun v1 =>
  ((gi 142 (some x0) s).bind fun v2 =>
  ((wi 0 v1 v2 x1 s).bind fun s3 =>
  ((gr 139 (some x0) s3).bind fun v4 =>
  ((gi 142 (some x0) s3).bind fun v5 =>
  ((wi 0 v4 v5 x2 s3).bind fun s6 =>
  ((gi 142 (some x0) s6).bind fun v7 =>
  ((pi 142 (some x0) (v7 + 1) s6).bind fun s8 =>
  some (.inl none, s8))))))))) := by rfl
set_option maxRecDepth 100000 in
theorem cb_X3_follow (x2 x3 : Int32) (x1 : Option Nat) (x0 : Nat) (s : σ) : cx_B ct_lc gi gr pi pr ai ar wi wr an nw na io dp ct_ft ct_sg 0 [] ct_X3_follow ca jm 1000 ct_X3_follow [some (vr_ (some x0)), some (vr_ x1), some (vi_ x2), some (vi_ x3), none, none, none, none] [] s =
  jm 6 [vr_ (some x0), vr_ x1, vi_ x2, vi_ x3] [] s := by rfl
set_option maxRecDepth 100000 in
theorem cb_X3_follow_6 (x4 x5 : Int32) (x1 : Option Nat) (x0 : Nat) (s : σ) : cx_B ct_lc gi gr pi pr ai ar wi wr an nw na io dp ct_ft ct_sg 0 [] ct_X3_follow ca jm 1000 (pj_at ct_X3_follow 6) [some (vr_ (some x0)), some (vr_ x1), none, none, some (vi_ x4), some (vi_ x5), none, none] [] s =
  ((gi 114 x1 s).bind fun v1 =>
  (if x4 < v1 then
    ((gr 141 (some x0) s).bind fun v2 =>
    ((ai 1 v2 x4 s).bind fun v3 =>
    (if v3 = 0 then
      ((gr 141 (some x0) s).bind fun v4 =>
      ((wi 1 v4 x4 1 s).bind fun s5 =>
      ((gr 113 x1 s5).bind fun v6 =>
      ((ai 0 v6 x4 s5).bind fun v7 =>
      ((gr 113 x1 s5).bind fun v8 =>
      ((ai 0 v8 (x4 + 1) s5).bind fun v9 =>
      (if v7 = 17 then
        some (.inl none, s5)
      else
        (if v7 = 20 then
          some (.inl none, s5)
        else
          (if v7 = 22 then
            ((gr 133 (some x0) s5).bind fun v10 =>
            ((wi 0 v10 v9 (x5 + 1) s5).bind fun s11 =>
            jm 86 [vr_ (some x0), vr_ x1, vi_ x4, vi_ x5, vi_ v7, vi_ v9] [] s11))
          else
            jm 86 [vr_ (some x0), vr_ x1, vi_ x4, vi_ x5, vi_ v7, vi_ v9] [] s5)))))))))
    else
      some (.inl none, s))))
  else
    some (.inl none, s))) := by rfl
set_option maxRecDepth 100000 in
theorem cb_X3_follow_86 (x4 x5 x6 x7 : Int32) (x1 : Option Nat) (x0 : Nat) (s : σ) : cx_B ct_lc gi gr pi pr ai ar wi wr an nw na io dp ct_ft ct_sg 0 [] ct_X3_follow ca jm 1000 (pj_at ct_X3_follow 86) [some (vr_ (some x0)), some (vr_ x1), none, none, some (vi_ x4), some (vi_ x5), some (vi_ x6), some (vi_ x7)] [] s =
  (if x6 = 21 then
    ((gr 140 (some x0) s).bind fun v1 =>
    ((gr 113 x1 s).bind fun v2 =>
    ((ai 0 v2 (x4 + 3) s).bind fun v3 =>
    ((ai 0 v1 v3 s).bind fun v4 =>
    ((dp 325 (some x0) s).bind fun m5 =>
    (cx_bV cx_th (ca m5 [vr_ (some x0), vi_ v4, vi_ (x5 - 1)] s) fun s6 =>
    ((gr 141 (some x0) s6).bind fun v7 =>
    ((wi 1 v7 (x4 + 2) 1 s6).bind fun s8 =>
    jm 6 [vr_ (some x0), vr_ x1, vi_ (x4 + 4), vi_ x5] [] s8))))))))
  else
    (cx_bI cx_th (ca 327 [vi_ x6, vi_ x7] s) fun v10 s9 =>
    (if x6 = 14 then
      ((gr 140 (some x0) s9).bind fun v11 =>
      ((ai 0 v11 x7 s9).bind fun v12 =>
      ((dp 325 (some x0) s9).bind fun m13 =>
      (cx_bV cx_th (ca m13 [vr_ (some x0), vi_ v12, vi_ (x5 + v10)] s9) fun s14 =>
      jm 170 [vr_ (some x0), vr_ x1, vi_ x4, vi_ (x5 + v10), vi_ x6, vi_ x7] [] s14))))
    else
      (if x6 = 15 then
        ((gr 140 (some x0) s9).bind fun v15 =>
        ((ai 0 v15 x7 s9).bind fun v16 =>
        ((dp 325 (some x0) s9).bind fun m17 =>
        (cx_bV cx_th (ca m17 [vr_ (some x0), vi_ v16, vi_ (x5 + v10)] s9) fun s18 =>
        jm 170 [vr_ (some x0), vr_ x1, vi_ x4, vi_ (x5 + v10), vi_ x6, vi_ x7] [] s18))))
      else
        jm 170 [vr_ (some x0), vr_ x1, vi_ x4, vi_ (x5 + v10), vi_ x6, vi_ x7] [] s9)))) := by rfl
set_option maxRecDepth 100000 in
theorem cb_X3_follow_170 (x4 x5 x6 x7 : Int32) (x1 : Option Nat) (x0 : Nat) (s : σ) : cx_B ct_lc gi gr pi pr ai ar wi wr an nw na io dp ct_ft ct_sg 0 [] ct_X3_follow ca jm 1000 (pj_at ct_X3_follow 170) [some (vr_ (some x0)), some (vr_ x1), none, none, some (vi_ x4), some (vi_ x5), some (vi_ x6), some (vi_ x7)] [] s =
  (if x6 = 13 then
    ((gr 140 (some x0) s).bind fun v1 =>
    ((ai 0 v1 x7 s).bind fun v2 =>
    jm 6 [vr_ (some x0), vr_ x1, vi_ v2, vi_ x5] [] s))
  else
    (if x6 = 25 then
      ((gr 140 (some x0) s).bind fun v3 =>
      ((ai 0 v3 x7 s).bind fun v4 =>
      jm 6 [vr_ (some x0), vr_ x1, vi_ v4, vi_ x5] [] s))
    else
      jm 6 [vr_ (some x0), vr_ x1, vi_ (x4 + 2), vi_ x5] [] s)) := by rfl
set_option maxRecDepth 100000 in
theorem cb_X3_grows (x0 x1 : Int32) (s : σ) : cx_B ct_lc gi gr pi pr ai ar wi wr an nw na io dp ct_ft ct_sg 1 [] ct_X3_grows ca jm 1000 ct_X3_grows [some (vi_ x0), some (vi_ x1)] [] s =
  (if x0 = Int32.ofInt 0 then
    some (.inl (some (vi_ 1)), s)
  else
  (if x0 = Int32.ofInt 1 then
    some (.inl (some (vi_ 1)), s)
  else
  (if x0 = Int32.ofInt 2 then
    some (.inl (some (vi_ 1)), s)
  else
  (if x0 = Int32.ofInt 3 then
    some (.inl (some (vi_ (-1))), s)
  else
  (if x0 = Int32.ofInt 4 then
    some (.inl (some (vi_ (-1))), s)
  else
  (if x0 = Int32.ofInt 5 then
    some (.inl (some (vi_ 0)), s)
  else
  (if x0 = Int32.ofInt 6 then
    some (.inl (some (vi_ (-2))), s)
  else
  (if x0 = Int32.ofInt 7 then
    some (.inl (some (vi_ 1)), s)
  else
  (if x0 = Int32.ofInt 8 then
    some (.inl (some (vi_ 0)), s)
  else
  (if x0 = Int32.ofInt 9 then
    some (.inl (some (vi_ 0)), s)
  else
  (if x0 = Int32.ofInt 10 then
    some (.inl (some (vi_ (-1))), s)
  else
  (if x0 = Int32.ofInt 11 then
    some (.inl (some (vi_ (-1))), s)
  else
  (if x0 = Int32.ofInt 12 then
    some (.inl (some (vi_ 0)), s)
  else
  (if x0 = Int32.ofInt 13 then
    some (.inl (some (vi_ 0)), s)
  else
  (if x0 = Int32.ofInt 14 then
    some (.inl (some (vi_ (-1))), s)
  else
  (if x0 = Int32.ofInt 15 then
    some (.inl (some (vi_ (-1))), s)
  else
  (if x0 = Int32.ofInt 16 then
    ((pj_div x1 65536).bind fun v1 =>
    some (.inl (some (vi_ (-v1))), s))
  else
  (if x0 = Int32.ofInt 17 then
    some (.inl (some (vi_ 0)), s)
  else
  (if x0 = Int32.ofInt 18 then
    some (.inl (some (vi_ 0)), s)
  else
  (if x0 = Int32.ofInt 19 then
    some (.inl (some (vi_ (-1))), s)
  else
  (if x0 = Int32.ofInt 20 then
    some (.inl (some (vi_ 0)), s)
  else
  (if x0 = Int32.ofInt 21 then
    some (.inl (some (vi_ 0)), s)
  else
  (if x0 = Int32.ofInt 22 then
    some (.inl (some (vi_ 0)), s)
  else
  (if x0 = Int32.ofInt 23 then
    some (.inl (some (vi_ (-1))), s)
  else
  (if x0 = Int32.ofInt 24 then
    some (.inl (some (vi_ (-3))), s)
  else
  some (.inl (some (vi_ 0)), s)))))))))))))))))))))))))) := by rfl
set_option maxRecDepth 100000 in
theorem cb_X3_one (x1 x2 x3 : Int32) (x0 : Nat) (s : σ) : cx_B ct_lc gi gr pi pr ai ar wi wr an nw na io dp ct_ft ct_sg 0 [] ct_X3_one ca jm 1000 ct_X3_one [some (vr_ (some x0)), some (vi_ x1), some (vi_ x2), some (vi_ x3)] [] s =
  (if x1 = Int32.ofInt 0 then
    ((dp 329 (some x0) s).bind fun m1 =>
    (cx_bV cx_th (ca m1 [vr_ (some x0), vi_ 0, vi_ x2] s) fun s2 =>
    some (.inl none, s2)))
  else
  (if x1 = Int32.ofInt 1 then
    ((dp 329 (some x0) s).bind fun m3 =>
    (cx_bV cx_th (ca m3 [vr_ (some x0), vi_ 1, vi_ x2] s) fun s4 =>
    some (.inl none, s4)))
  else
  (if x1 = Int32.ofInt 2 then
    ((dp 329 (some x0) s).bind fun m5 =>
    (cx_bV cx_th (ca m5 [vr_ (some x0), vi_ 2, vi_ x2] s) fun s6 =>
    some (.inl none, s6)))
  else
  (if x1 = Int32.ofInt 3 then
    ((dp 335 (some x0) s).bind fun m7 =>
    (cx_bV cx_th (ca m7 [vr_ (some x0), vi_ x1, vi_ x2] s) fun s8 =>
    some (.inl none, s8)))
  else
  (if x1 = Int32.ofInt 4 then
    ((dp 335 (some x0) s).bind fun m9 =>
    (cx_bV cx_th (ca m9 [vr_ (some x0), vi_ x1, vi_ x2] s) fun s10 =>
    some (.inl none, s10)))
  else
  (if x1 = Int32.ofInt 5 then
    ((dp 337 (some x0) s).bind fun m11 =>
    (cx_bV cx_th (ca m11 [vr_ (some x0), vi_ 1] s) fun s12 =>
    some (.inl none, s12)))
  else
  (if x1 = Int32.ofInt 6 then
    ((dp 339 (some x0) s).bind fun m13 =>
    (cx_bV cx_th (ca m13 [vr_ (some x0)] s) fun s14 =>
    some (.inl none, s14)))
  else
  (if x1 = Int32.ofInt 7 then
    ((dp 329 (some x0) s).bind fun m15 =>
    (cx_bV cx_th (ca m15 [vr_ (some x0), vi_ 3, vi_ x2] s) fun s16 =>
    some (.inl none, s16)))
  else
  (if x1 = Int32.ofInt 8 then
    ((dp 337 (some x0) s).bind fun m17 =>
    (cx_bV cx_th (ca m17 [vr_ (some x0), vi_ 2] s) fun s18 =>
    some (.inl none, s18)))
  else
  (if x1 = Int32.ofInt 9 then
    ((dp 337 (some x0) s).bind fun m19 =>
    (cx_bV cx_th (ca m19 [vr_ (some x0), vi_ 3] s) fun s20 =>
    some (.inl none, s20)))
  else
  (if x1 = Int32.ofInt 10 then
    ((dp 342 (some x0) s).bind fun m21 =>
    (cx_bV cx_th (ca m21 [vr_ (some x0), vi_ (20 + x2)] s) fun s22 =>
    some (.inl none, s22)))
  else
  (if x1 = Int32.ofInt 11 then
    ((dp 342 (some x0) s).bind fun m23 =>
    (cx_bV cx_th (ca m23 [vr_ (some x0), vi_ (40 + x2)] s) fun s24 =>
    some (.inl none, s24)))
  else
  (if x1 = Int32.ofInt 12 then
    ((dp 344 (some x0) s).bind fun m25 =>
    (cx_bV cx_th (ca m25 [vr_ (some x0), vi_ x2] s) fun s26 =>
    some (.inl none, s26)))
  else
  (if x1 = Int32.ofInt 13 then
    ((dp 347 (some x0) s).bind fun m27 =>
    (cx_bV cx_th (ca m27 [vr_ (some x0), vi_ x1, vi_ x2] s) fun s28 =>
    some (.inl none, s28)))
  else
  (if x1 = Int32.ofInt 14 then
    ((dp 347 (some x0) s).bind fun m29 =>
    (cx_bV cx_th (ca m29 [vr_ (some x0), vi_ x1, vi_ x2] s) fun s30 =>
    some (.inl none, s30)))
  else
  (if x1 = Int32.ofInt 15 then
    ((dp 347 (some x0) s).bind fun m31 =>
    (cx_bV cx_th (ca m31 [vr_ (some x0), vi_ x1, vi_ x2] s) fun s32 =>
    some (.inl none, s32)))
  else
  (if x1 = Int32.ofInt 16 then
    ((pj_div x2 65536).bind fun v33 =>
    ((pj_rem x2 65536).bind fun v34 =>
    ((dp 345 (some x0) s).bind fun m35 =>
    (cx_bV cx_th (ca m35 [vr_ (some x0), vi_ v33, vi_ v34] s) fun s36 =>
    some (.inl none, s36)))))
  else
  (if x1 = Int32.ofInt 17 then
    ((gi 131 (some x0) s).bind fun v37 =>
    ((dp 331 (some x0) s).bind fun m38 =>
    (cx_bV cx_th (ca m38 [vr_ (some x0), vi_ (v37 - 1)] s) fun s39 =>
    ((dp 333 (some x0) s39).bind fun m40 =>
    (cx_bV cx_th (ca m40 [vr_ (some x0), vr_ (some 1133), vi_ 4] s39) fun s41 =>
    ((gi 131 (some x0) s41).bind fun v42 =>
    ((pi 131 (some x0) (v42 - 1) s41).bind fun s43 =>
    ((pi 134 (some x0) 0 s43).bind fun s44 =>
    some (.inl none, s44)))))))))
  else
  (if x1 = Int32.ofInt 18 then
    ((dp 333 (some x0) s).bind fun m45 =>
    (cx_bV cx_th (ca m45 [vr_ (some x0), vr_ (some 1133), vi_ 9] s) fun s46 =>
    some (.inl none, s46)))
  else
  (if x1 = Int32.ofInt 19 then
    ((gi 131 (some x0) s).bind fun v47 =>
    ((pi 131 (some x0) (v47 - 1) s).bind fun s48 =>
    some (.inl none, s48)))
  else
  (if x1 = Int32.ofInt 20 then
    ((dp 333 (some x0) s).bind fun m49 =>
    (cx_bV cx_th (ca m49 [vr_ (some x0), vr_ (some 1133), vi_ 10] s) fun s50 =>
    ((pi 134 (some x0) 0 s50).bind fun s51 =>
    some (.inl none, s51))))
  else
  (if x1 = Int32.ofInt 21 then
    ((dp 346 (some x0) s).bind fun m52 =>
    (cx_bV cx_th (ca m52 [vr_ (some x0)] s) fun s53 =>
    ((gi 131 (some x0) s53).bind fun v54 =>
    ((dp 331 (some x0) s53).bind fun m55 =>
    (cx_bV cx_th (ca m55 [vr_ (some x0), vi_ (v54 - 1)] s53) fun s56 =>
    ((dp 332 (some x0) s56).bind fun m57 =>
    (cx_bV cx_th (ca m57 [vr_ (some x0), vi_ x2] s56) fun s58 =>
    ((dp 333 (some x0) s58).bind fun m59 =>
    (cx_bV cx_th (ca m59 [vr_ (some x0), vr_ (some 1133), vi_ 40] s58) fun s60 =>
    ((dp 333 (some x0) s60).bind fun m61 =>
    (cx_bV cx_th (ca m61 [vr_ (some x0), vr_ (some 1134), vi_ x3] s60) fun s62 =>
    ((pi 143 (some x0) 1 s62).bind fun s63 =>
    some (.inl none, s63)))))))))))))
  else
  (if x1 = Int32.ofInt 22 then
    ((dp 347 (some x0) s).bind fun m64 =>
    (cx_bV cx_th (ca m64 [vr_ (some x0), vi_ x1, vi_ x2] s) fun s65 =>
    some (.inl none, s65)))
  else
  (if x1 = Int32.ofInt 23 then
    ((dp 342 (some x0) s).bind fun m66 =>
    (cx_bV cx_th (ca m66 [vr_ (some x0), vi_ 6] s) fun s67 =>
    some (.inl none, s67)))
  else
  (if x1 = Int32.ofInt 24 then
    ((dp 343 (some x0) s).bind fun m68 =>
    (cx_bV cx_th (ca m68 [vr_ (some x0)] s) fun s69 =>
    some (.inl none, s69)))
  else
  ((dp 347 (some x0) s).bind fun m70 =>
    (cx_bV cx_th (ca m70 [vr_ (some x0), vi_ x1, vi_ x2] s) fun s71 =>
    some (.inl none, s71)))))))))))))))))))))))))))) := by rfl
set_option maxRecDepth 100000 in
theorem cb_X3_push (x1 x2 : Int32) (x0 : Nat) (s : σ) : cx_B ct_lc gi gr pi pr ai ar wi wr an nw na io dp ct_ft ct_sg 0 [] ct_X3_push ca jm 1000 ct_X3_push [some (vr_ (some x0)), some (vi_ x1), some (vi_ x2)] [] s =
  ((gi 131 (some x0) s).bind fun v1 =>
  (if 0 < v1 then
    ((gr 129 (some x0) s).bind fun v2 =>
    ((gi 131 (some x0) s).bind fun v3 =>
    ((ai 0 v2 (v3 - 1) s).bind fun v4 =>
    (if v4 = 5 then
      ((gi 131 (some x0) s).bind fun v5 =>
      ((dp 330 (some x0) s).bind fun m6 =>
      (cx_bV cx_th (ca m6 [vr_ (some x0), vi_ (v5 - 1)] s) fun s7 =>
      jm 32 [vr_ (some x0), vi_ x1, vi_ x2] [] s7)))
    else
      jm 32 [vr_ (some x0), vi_ x1, vi_ x2] [] s))))
  else
    jm 32 [vr_ (some x0), vi_ x1, vi_ x2] [] s)) := by rfl
set_option maxRecDepth 100000 in
theorem cb_X3_push_32 (x1 x2 : Int32) (x0 : Nat) (s : σ) : cx_B ct_lc gi gr pi pr ai ar wi wr an nw na io dp ct_ft ct_sg 0 [] ct_X3_push ca jm 1000 (pj_at ct_X3_push 32) [some (vr_ (some x0)), some (vi_ x1), some (vi_ x2)] [] s =
  ((dp 334 (some x0) s).bind fun m1 =>
  (cx_bV cx_th (ca m1 [vr_ (some x0)] s) fun s2 =>
  ((gr 129 (some x0) s2).bind fun v3 =>
  ((gi 131 (some x0) s2).bind fun v4 =>
  ((wi 0 v3 v4 x1 s2).bind fun s5 =>
  ((gr 130 (some x0) s5).bind fun v6 =>
  ((gi 131 (some x0) s5).bind fun v7 =>
  ((wi 0 v6 v7 x2 s5).bind fun s8 =>
  ((gi 131 (some x0) s8).bind fun v9 =>
  ((pi 131 (some x0) (v9 + 1) s8).bind fun s10 =>
  ((gi 132 (some x0) s10).bind fun v11 =>
  ((gi 131 (some x0) s10).bind fun v12 =>
  (cx_bI cx_th (ca 193 [vi_ v11, vi_ v12] s10) fun v14 s13 =>
  ((pi 132 (some x0) v14 s13).bind fun s15 =>
  some (.inl none, s15))))))))))))))) := by rfl
set_option maxRecDepth 100000 in
theorem cb_X3_keep (x1 : Int32) (x0 : Nat) (s : σ) : cx_B ct_lc gi gr pi pr ai ar wi wr an nw na io dp ct_ft ct_sg 0 [] ct_X3_keep ca jm 1000 ct_X3_keep [some (vr_ (some x0)), some (vi_ x1)] [] s =
  ((gr 129 (some x0) s).bind fun v1 =>
  ((ai 0 v1 x1 s).bind fun v2 =>
  (if v2 = 4 then
    some (.inl none, s)
  else
    ((dp 331 (some x0) s).bind fun m3 =>
    (cx_bV cx_th (ca m3 [vr_ (some x0), vi_ x1] s) fun s4 =>
    ((dp 333 (some x0) s4).bind fun m5 =>
    (cx_bV cx_th (ca m5 [vr_ (some x0), vr_ (some 1135), vi_ x1] s4) fun s6 =>
    ((gr 129 (some x0) s6).bind fun v7 =>
    ((wi 0 v7 x1 4 s6).bind fun s8 =>
    some (.inl none, s8)))))))))) := by rfl
set_option maxRecDepth 100000 in
theorem cb_X3_load (x1 : Int32) (x0 : Nat) (s : σ) : cx_B ct_lc gi gr pi pr ai ar wi wr an nw na io dp ct_ft ct_sg 0 [] ct_X3_load ca jm 1000 ct_X3_load [some (vr_ (some x0)), some (vi_ x1)] [] s =
  ((gr 129 (some x0) s).bind fun v1 =>
  ((ai 0 v1 x1 s).bind fun v2 =>
  (if v2 = Int32.ofInt 0 then
    ((gr 130 (some x0) s).bind fun v3 =>
    ((ai 0 v3 x1 s).bind fun v4 =>
    ((dp 332 (some x0) s).bind fun m5 =>
    (cx_bV cx_th (ca m5 [vr_ (some x0), vi_ v4] s) fun s6 =>
    some (.inl none, s6)))))
  else
  (if v2 = Int32.ofInt 1 then
    ((gr 130 (some x0) s).bind fun v7 =>
    ((ai 0 v7 x1 s).bind fun v8 =>
    ((dp 333 (some x0) s).bind fun m9 =>
    (cx_bV cx_th (ca m9 [vr_ (some x0), vr_ (some 1136), vi_ v8] s) fun s10 =>
    some (.inl none, s10)))))
  else
  (if v2 = Int32.ofInt 2 then
    ((gr 130 (some x0) s).bind fun v11 =>
    ((ai 0 v11 x1 s).bind fun v12 =>
    ((dp 333 (some x0) s).bind fun m13 =>
    (cx_bV cx_th (ca m13 [vr_ (some x0), vr_ (some 1137), vi_ v12] s) fun s14 =>
    some (.inl none, s14)))))
  else
  (if v2 = Int32.ofInt 3 then
    ((gr 130 (some x0) s).bind fun v15 =>
    ((ai 0 v15 x1 s).bind fun v16 =>
    ((dp 333 (some x0) s).bind fun m17 =>
    (cx_bV cx_th (ca m17 [vr_ (some x0), vr_ (some 1138), vi_ v16] s) fun s18 =>
    some (.inl none, s18)))))
  else
  (if v2 = Int32.ofInt 4 then
    ((dp 333 (some x0) s).bind fun m19 =>
    (cx_bV cx_th (ca m19 [vr_ (some x0), vr_ (some 1139), vi_ x1] s) fun s20 =>
    some (.inl none, s20)))
  else
  some (.inl none, s)))))))) := by rfl
set_option maxRecDepth 100000 in
theorem cb_X3_constant (x1 : Int32) (x0 : Nat) (s : σ) : cx_B ct_lc gi gr pi pr ai ar wi wr an nw na io dp ct_ft ct_sg 0 [] ct_X3_constant ca jm 1000 ct_X3_constant [some (vr_ (some x0)), some (vi_ x1), none, none] [] s =
  (if (-16000000) < x1 then
    (if x1 < 16000000 then
      ((dp 333 (some x0) s).bind fun m1 =>
      (cx_bV cx_th (ca m1 [vr_ (some x0), vr_ (some 1140), vi_ x1] s) fun s2 =>
      some (.inl none, s2)))
    else
      jm 22 [vr_ (some x0), vi_ x1, vi_ 0] [] s)
  else
    jm 22 [vr_ (some x0), vi_ x1, vi_ 0] [] s) := by rfl
set_option maxRecDepth 100000 in
theorem cb_X3_constant_22 (x1 x2 : Int32) (x0 : Nat) (s : σ) : cx_B ct_lc gi gr pi pr ai ar wi wr an nw na io dp ct_ft ct_sg 0 [] ct_X3_constant ca jm 1000 (pj_at ct_X3_constant 22) [some (vr_ (some x0)), some (vi_ x1), some (vi_ x2), none] [] s =
  ((gi 136 (some x0) s).bind fun v1 =>
  (if x2 < v1 then
    ((gr 135 (some x0) s).bind fun v2 =>
    ((ai 0 v2 x2 s).bind fun v3 =>
    (if v3 = x1 then
      jm 46 [vr_ (some x0), vi_ x1, vi_ x2] [] s
    else
      jm 22 [vr_ (some x0), vi_ x1, vi_ (x2 + 1)] [] s)))
  else
    jm 46 [vr_ (some x0), vi_ x1, vi_ x2] [] s)) := by rfl
set_option maxRecDepth 100000 in
theorem cb_X3_constant_46 (x1 x2 : Int32) (x0 : Nat) (s : σ) : cx_B ct_lc gi gr pi pr ai ar wi wr an nw na io dp ct_ft ct_sg 0 [] ct_X3_constant ca jm 1000 (pj_at ct_X3_constant 46) [some (vr_ (some x0)), some (vi_ x1), some (vi_ x2), none] [] s =
  ((gr 135 (some x0) s).bind fun v1 =>
  ((an v1 s).bind fun v2 =>
  (if x2 = v2 then
    ((gr 135 (some x0) s).bind fun v3 =>
    ((na 200 (2 * x2) s).bind fun q4 =>
    ((pr 135 (some x0) (some q4.1) q4.2).bind fun s5 =>
    ((gr 135 (some x0) s5).bind fun v6 =>
    (cx_bV cx_th (ca 416 [vr_ v3, vi_ 0, vr_ v6, vi_ 0, vi_ x2] s5) fun s7 =>
    jm 80 [vr_ (some x0), vi_ x1, vi_ x2] [] s7)))))
  else
    jm 80 [vr_ (some x0), vi_ x1, vi_ x2] [] s))) := by rfl
set_option maxRecDepth 100000 in
theorem cb_X3_constant_80 (x1 x2 : Int32) (x0 : Nat) (s : σ) : cx_B ct_lc gi gr pi pr ai ar wi wr an nw na io dp ct_ft ct_sg 0 [] ct_X3_constant ca jm 1000 (pj_at ct_X3_constant 80) [some (vr_ (some x0)), some (vi_ x1), some (vi_ x2), none] [] s =
  ((gi 136 (some x0) s).bind fun v1 =>
  (if x2 = v1 then
    ((gi 136 (some x0) s).bind fun v2 =>
    ((pi 136 (some x0) (v2 + 1) s).bind fun s3 =>
    ((gr 135 (some x0) s3).bind fun v4 =>
    ((wi 0 v4 x2 x1 s3).bind fun s5 =>
    ((gi 137 (some x0) s5).bind fun v6 =>
    ((dp 333 (some x0) s5).bind fun m7 =>
    (cx_bV cx_th (ca m7 [vr_ (some x0), vr_ (some 1141), vi_ (v6 + x2)] s5) fun s8 =>
    some (.inl none, s8))))))))
  else
    ((gr 135 (some x0) s).bind fun v9 =>
    ((wi 0 v9 x2 x1 s).bind fun s10 =>
    ((gi 137 (some x0) s10).bind fun v11 =>
    ((dp 333 (some x0) s10).bind fun m12 =>
    (cx_bV cx_th (ca m12 [vr_ (some x0), vr_ (some 1141), vi_ (v11 + x2)] s10) fun s13 =>
    some (.inl none, s13)))))))) := by rfl
set_option maxRecDepth 100000 in
theorem cb_X3_line (x2 : Int32) (x1 : Option Nat) (x0 : Nat) (s : σ) : cx_B ct_lc gi gr pi pr ai ar wi wr an nw na io dp ct_ft ct_sg 0 [] ct_X3_line ca jm 1000 ct_X3_line [some (vr_ (some x0)), some (vr_ x1), some (vi_ x2)] [] s =
  ((gr 128 (some x0) s).bind fun v1 =>
  ((dp 349 v1 s).bind fun m2 =>
  (cx_bV cx_th (ca m2 [vr_ v1, vr_ x1] s) fun s3 =>
  ((gr 128 (some x0) s3).bind fun v4 =>
  ((dp 351 v4 s3).bind fun m5 =>
  (cx_bV cx_th (ca m5 [vr_ v4, vi_ x2] s3) fun s6 =>
  ((gr 128 (some x0) s6).bind fun v7 =>
  ((dp 350 v7 s6).bind fun m8 =>
  (cx_bV cx_th (ca m8 [vr_ v7, vi_ 10] s6) fun s9 =>
  some (.inl none, s9)))))))))) := by rfl
set_option maxRecDepth 100000 in
theorem cb_X3_grow (x0 : Nat) (s : σ) : cx_B ct_lc gi gr pi pr ai ar wi wr an nw na io dp ct_ft ct_sg 0 [] ct_X3_grow ca jm 1000 ct_X3_grow [some (vr_ (some x0)), none, none] [] s =
  ((gi 131 (some x0) s).bind fun v1 =>
  ((gr 129 (some x0) s).bind fun v2 =>
  ((an v2 s).bind fun v3 =>
  (if v1 < v3 then
    some (.inl none, s)
  else
    ((gr 129 (some x0) s).bind fun v4 =>
    ((gr 130 (some x0) s).bind fun v5 =>
    ((gi 131 (some x0) s).bind fun v6 =>
    ((na 200 ((2 * v6) + 2) s).bind fun q7 =>
    ((pr 129 (some x0) (some q7.1) q7.2).bind fun s8 =>
    ((gi 131 (some x0) s8).bind fun v9 =>
    ((na 200 ((2 * v9) + 2) s8).bind fun q10 =>
    ((pr 130 (some x0) (some q10.1) q10.2).bind fun s11 =>
    ((gr 129 (some x0) s11).bind fun v12 =>
    ((an v4 s11).bind fun v13 =>
    (cx_bV cx_th (ca 416 [vr_ v4, vi_ 0, vr_ v12, vi_ 0, vi_ v13] s11) fun s14 =>
    ((gr 130 (some x0) s14).bind fun v15 =>
    ((an v5 s14).bind fun v16 =>
    (cx_bV cx_th (ca 416 [vr_ v5, vi_ 0, vr_ v15, vi_ 0, vi_ v16] s14) fun s17 =>
    some (.inl none, s17))))))))))))))))))) := by rfl
set_option maxRecDepth 100000 in
theorem cb_X3_stores (x1 x2 : Int32) (x0 : Nat) (s : σ) : cx_B ct_lc gi gr pi pr ai ar wi wr an nw na io dp ct_ft ct_sg 0 [] ct_X3_stores ca jm 1000 ct_X3_stores [some (vr_ (some x0)), some (vi_ x1), some (vi_ x2)] [] s =
  ((dp 336 (some x0) s).bind fun m1 =>
  (cx_bV cx_th (ca m1 [vr_ (some x0)] s) fun s2 =>
  ((gi 131 (some x0) s2).bind fun v3 =>
  ((dp 331 (some x0) s2).bind fun m4 =>
  (cx_bV cx_th (ca m4 [vr_ (some x0), vi_ (v3 - 1)] s2) fun s5 =>
  (if x1 = 3 then
    ((dp 333 (some x0) s5).bind fun m6 =>
    (cx_bV cx_th (ca m6 [vr_ (some x0), vr_ (some 1142), vi_ x2] s5) fun s7 =>
    ((gi 131 (some x0) s7).bind fun v8 =>
    ((pi 131 (some x0) (v8 - 1) s7).bind fun s9 =>
    some (.inl none, s9)))))
  else
    ((dp 333 (some x0) s5).bind fun m10 =>
    (cx_bV cx_th (ca m10 [vr_ (some x0), vr_ (some 1143), vi_ x2] s5) fun s11 =>
    ((gi 131 (some x0) s11).bind fun v12 =>
    ((pi 131 (some x0) (v12 - 1) s11).bind fun s13 =>
    some (.inl none, s13))))))))))) := by rfl
set_option maxRecDepth 100000 in
theorem cb_X3_keepBelow (x0 : Nat) (s : σ) : cx_B ct_lc gi gr pi pr ai ar wi wr an nw na io dp ct_ft ct_sg 0 [] ct_X3_keepBelow ca jm 1000 ct_X3_keepBelow [some (vr_ (some x0)), none] [] s =
  ((gr 129 (some x0) s).bind fun v1 =>
  ((gi 131 (some x0) s).bind fun v2 =>
  ((ai 0 v1 (v2 - 1) s).bind fun v3 =>
  (if v3 = 5 then
    ((gi 131 (some x0) s).bind fun v4 =>
    (if 1 < v4 then
      ((gi 131 (some x0) s).bind fun v5 =>
      ((dp 330 (some x0) s).bind fun m6 =>
      (cx_bV cx_th (ca m6 [vr_ (some x0), vi_ (v5 - 1)] s) fun s7 =>
      jm 35 [vr_ (some x0), vi_ 0] [] s7)))
    else
      jm 35 [vr_ (some x0), vi_ 0] [] s))
  else
    jm 35 [vr_ (some x0), vi_ 0] [] s)))) := by rfl
set_option maxRecDepth 100000 in
theorem cb_X3_keepBelow_35 (x1 : Int32) (x0 : Nat) (s : σ) : cx_B ct_lc gi gr pi pr ai ar wi wr an nw na io dp ct_ft ct_sg 0 [] ct_X3_keepBelow ca jm 1000 (pj_at ct_X3_keepBelow 35) [some (vr_ (some x0)), some (vi_ x1)] [] s =
  ((gi 131 (some x0) s).bind fun v1 =>
  (if (x1 + 1) < v1 then
    ((dp 330 (some x0) s).bind fun m2 =>
    (cx_bV cx_th (ca m2 [vr_ (some x0), vi_ x1] s) fun s3 =>
    jm 35 [vr_ (some x0), vi_ (x1 + 1)] [] s3))
  else
    some (.inl none, s))) := by rfl
set_option maxRecDepth 100000 in
theorem cb_X3_single (x1 : Int32) (x0 : Nat) (s : σ) : cx_B ct_lc gi gr pi pr ai ar wi wr an nw na io dp ct_ft ct_sg 0 [] ct_X3_single ca jm 1000 ct_X3_single [some (vr_ (some x0)), some (vi_ x1)] [] s =
  ((gi 131 (some x0) s).bind fun v1 =>
  ((dp 331 (some x0) s).bind fun m2 =>
  (cx_bV cx_th (ca m2 [vr_ (some x0), vi_ (v1 - 1)] s) fun s3 =>
  ((dp 333 (some x0) s3).bind fun m4 =>
  (cx_bV cx_th (ca m4 [vr_ (some x0), vr_ (some 1133), vi_ x1] s3) fun s5 =>
  ((dp 338 (some x0) s5).bind fun m6 =>
  (cx_bV cx_th (ca m6 [vr_ (some x0), vi_ 0] s5) fun s7 =>
  some (.inl none, s7)))))))) := by rfl
set_option maxRecDepth 100000 in
theorem cb_X3_held (x1 : Int32) (x0 : Nat) (s : σ) : cx_B ct_lc gi gr pi pr ai ar wi wr an nw na io dp ct_ft ct_sg 0 [] ct_X3_held ca jm 1000 ct_X3_held [some (vr_ (some x0)), some (vi_ x1)] [] s =
  ((gi 131 (some x0) s).bind fun v1 =>
  ((pi 131 (some x0) (v1 - x1) s).bind fun s2 =>
  ((gr 129 (some x0) s2).bind fun v3 =>
  ((gi 131 (some x0) s2).bind fun v4 =>
  ((wi 0 v3 (v4 - 1) 5 s2).bind fun s5 =>
  some (.inl none, s5)))))) := by rfl
set_option maxRecDepth 100000 in
theorem cb_X3_indirect (x0 : Nat) (s : σ) : cx_B ct_lc gi gr pi pr ai ar wi wr an nw na io dp ct_ft ct_sg 0 [] ct_X3_indirect ca jm 1000 ct_X3_indirect [some (vr_ (some x0)), none] [] s =
  jm 2 [vr_ (some x0), vi_ 0] [] s := by rfl
set_option maxRecDepth 100000 in
theorem cb_X3_indirect_2 (x1 : Int32) (x0 : Nat) (s : σ) : cx_B ct_lc gi gr pi pr ai ar wi wr an nw na io dp ct_ft ct_sg 0 [] ct_X3_indirect ca jm 1000 (pj_at ct_X3_indirect 2) [some (vr_ (some x0)), some (vi_ x1)] [] s =
  ((gi 131 (some x0) s).bind fun v1 =>
  (if (x1 + 2) < v1 then
    ((dp 340 (some x0) s).bind fun m2 =>
    (cx_bV cx_th (ca m2 [vr_ (some x0), vi_ x1] s) fun s3 =>
    jm 2 [vr_ (some x0), vi_ (x1 + 1)] [] s3))
  else
    ((dp 341 (some x0) s).bind fun m4 =>
    (cx_bV cx_th (ca m4 [vr_ (some x0)] s) fun s5 =>
    ((dp 333 (some x0) s5).bind fun m6 =>
    (cx_bV cx_th (ca m6 [vr_ (some x0), vr_ (some 1133), vi_ 5] s5) fun s7 =>
    ((gi 131 (some x0) s7).bind fun v8 =>
    ((pi 131 (some x0) (v8 - 2) s7).bind fun s9 =>
    some (.inl none, s9))))))))) := by rfl
set_option maxRecDepth 100000 in
theorem cb_X3_keep2 (x1 : Int32) (x0 : Nat) (s : σ) : cx_B ct_lc gi gr pi pr ai ar wi wr an nw na io dp ct_ft ct_sg 0 [] ct_X3_keep2 ca jm 1000 ct_X3_keep2 [some (vr_ (some x0)), some (vi_ x1)] [] s =
  ((gr 129 (some x0) s).bind fun v1 =>
  ((ai 0 v1 x1 s).bind fun v2 =>
  (if v2 = 4 then
    some (.inl none, s)
  else
    ((gr 129 (some x0) s).bind fun v3 =>
    ((gi 131 (some x0) s).bind fun v4 =>
    ((ai 0 v3 (v4 - 1) s).bind fun v5 =>
    (if v5 = 5 then
      ((gi 131 (some x0) s).bind fun v6 =>
      ((dp 330 (some x0) s).bind fun m7 =>
      (cx_bV cx_th (ca m7 [vr_ (some x0), vi_ (v6 - 1)] s) fun s8 =>
      ((dp 330 (some x0) s8).bind fun m9 =>
      (cx_bV cx_th (ca m9 [vr_ (some x0), vi_ x1] s8) fun s10 =>
      some (.inl none, s10))))))
    else
      ((dp 330 (some x0) s).bind fun m11 =>
      (cx_bV cx_th (ca m11 [vr_ (some x0), vi_ x1] s) fun s12 =>
      some (.inl none, s12)))))))))) := by rfl
set_option maxRecDepth 100000 in
theorem cb_X3_both (x0 : Nat) (s : σ) : cx_B ct_lc gi gr pi pr ai ar wi wr an nw na io dp ct_ft ct_sg 0 [] ct_X3_both ca jm 1000 ct_X3_both [some (vr_ (some x0))] [] s =
  ((gr 129 (some x0) s).bind fun v1 =>
  ((gi 131 (some x0) s).bind fun v2 =>
  ((ai 0 v1 (v2 - 1) s).bind fun v3 =>
  (if v3 = 5 then
    ((gi 131 (some x0) s).bind fun v4 =>
    ((dp 330 (some x0) s).bind fun m5 =>
    (cx_bV cx_th (ca m5 [vr_ (some x0), vi_ (v4 - 1)] s) fun s6 =>
    ((gi 131 (some x0) s6).bind fun v7 =>
    ((dp 331 (some x0) s6).bind fun m8 =>
    (cx_bV cx_th (ca m8 [vr_ (some x0), vi_ (v7 - 2)] s6) fun s9 =>
    ((gi 131 (some x0) s9).bind fun v10 =>
    ((dp 331 (some x0) s9).bind fun m11 =>
    (cx_bV cx_th (ca m11 [vr_ (some x0), vi_ (v10 - 1)] s9) fun s12 =>
    some (.inl none, s12))))))))))
  else
    ((gi 131 (some x0) s).bind fun v13 =>
    ((dp 331 (some x0) s).bind fun m14 =>
    (cx_bV cx_th (ca m14 [vr_ (some x0), vi_ (v13 - 2)] s) fun s15 =>
    ((gi 131 (some x0) s15).bind fun v16 =>
    ((dp 331 (some x0) s15).bind fun m17 =>
    (cx_bV cx_th (ca m17 [vr_ (some x0), vi_ (v16 - 1)] s15) fun s18 =>
    some (.inl none, s18))))))))))) := by rfl
set_option maxRecDepth 100000 in
theorem cb_X3_pair (x1 : Int32) (x0 : Nat) (s : σ) : cx_B ct_lc gi gr pi pr ai ar wi wr an nw na io dp ct_ft ct_sg 0 [] ct_X3_pair ca jm 1000 ct_X3_pair [some (vr_ (some x0)), some (vi_ x1)] [] s =
  ((dp 341 (some x0) s).bind fun m1 =>
  (cx_bV cx_th (ca m1 [vr_ (some x0)] s) fun s2 =>
  ((dp 333 (some x0) s2).bind fun m3 =>
  (cx_bV cx_th (ca m3 [vr_ (some x0), vr_ (some 1133), vi_ x1] s2) fun s4 =>
  ((dp 338 (some x0) s4).bind fun m5 =>
  (cx_bV cx_th (ca m5 [vr_ (some x0), vi_ 1] s4) fun s6 =>
  some (.inl none, s6))))))) := by rfl
set_option maxRecDepth 100000 in
theorem cb_X3_bytes (x0 : Nat) (s : σ) : cx_B ct_lc gi gr pi pr ai ar wi wr an nw na io dp ct_ft ct_sg 0 [] ct_X3_bytes ca jm 1000 ct_X3_bytes [some (vr_ (some x0)), none] [] s =
  jm 2 [vr_ (some x0), vi_ 0] [] s := by rfl
set_option maxRecDepth 100000 in
theorem cb_X3_bytes_2 (x1 : Int32) (x0 : Nat) (s : σ) : cx_B ct_lc gi gr pi pr ai ar wi wr an nw na io dp ct_ft ct_sg 0 [] ct_X3_bytes ca jm 1000 (pj_at ct_X3_bytes 2) [some (vr_ (some x0)), some (vi_ x1)] [] s =
  ((gi 131 (some x0) s).bind fun v1 =>
  (if (x1 + 3) < v1 then
    ((dp 340 (some x0) s).bind fun m2 =>
    (cx_bV cx_th (ca m2 [vr_ (some x0), vi_ x1] s) fun s3 =>
    jm 2 [vr_ (some x0), vi_ (x1 + 1)] [] s3))
  else
    ((dp 341 (some x0) s).bind fun m4 =>
    (cx_bV cx_th (ca m4 [vr_ (some x0)] s) fun s5 =>
    ((dp 333 (some x0) s5).bind fun m6 =>
    (cx_bV cx_th (ca m6 [vr_ (some x0), vr_ (some 1133), vi_ 7] s5) fun s7 =>
    ((gi 131 (some x0) s7).bind fun v8 =>
    ((dp 333 (some x0) s7).bind fun m9 =>
    (cx_bV cx_th (ca m9 [vr_ (some x0), vr_ (some 1135), vi_ (v8 - 1)] s7) fun s10 =>
    ((gi 131 (some x0) s10).bind fun v11 =>
    ((dp 331 (some x0) s10).bind fun m12 =>
    (cx_bV cx_th (ca m12 [vr_ (some x0), vi_ (v11 - 3)] s10) fun s13 =>
    ((gi 131 (some x0) s13).bind fun v14 =>
    ((dp 333 (some x0) s13).bind fun m15 =>
    (cx_bV cx_th (ca m15 [vr_ (some x0), vr_ (some 1139), vi_ (v14 - 1)] s13) fun s16 =>
    ((dp 333 (some x0) s16).bind fun m17 =>
    (cx_bV cx_th (ca m17 [vr_ (some x0), vr_ (some 1133), vi_ 8] s16) fun s18 =>
    ((gi 131 (some x0) s18).bind fun v19 =>
    ((pi 131 (some x0) (v19 - 3) s18).bind fun s20 =>
    some (.inl none, s20)))))))))))))))))))) := by rfl
set_option maxRecDepth 100000 in
theorem cb_X3_chain (x1 : Int32) (x0 : Nat) (s : σ) : cx_B ct_lc gi gr pi pr ai ar wi wr an nw na io dp ct_ft ct_sg 0 [] ct_X3_chain ca jm 1000 ct_X3_chain [some (vr_ (some x0)), some (vi_ x1)] [] s =
  ((dp 341 (some x0) s).bind fun m1 =>
  (cx_bV cx_th (ca m1 [vr_ (some x0)] s) fun s2 =>
  ((gi 131 (some x0) s2).bind fun v3 =>
  ((dp 333 (some x0) s2).bind fun m4 =>
  (cx_bV cx_th (ca m4 [vr_ (some x0), vr_ (some 1135), vi_ (v3 - 2)] s2) fun s5 =>
  ((dp 333 (some x0) s5).bind fun m6 =>
  (cx_bV cx_th (ca m6 [vr_ (some x0), vr_ (some 1133), vi_ (40 + x1)] s5) fun s7 =>
  ((gr 129 (some x0) s7).bind fun v8 =>
  ((gi 131 (some x0) s7).bind fun v9 =>
  ((wi 0 v8 (v9 - 2) 4 s7).bind fun s10 =>
  ((gr 129 (some x0) s10).bind fun v11 =>
  ((gi 131 (some x0) s10).bind fun v12 =>
  ((wi 0 v11 (v12 - 1) 5 s10).bind fun s13 =>
  some (.inl none, s13)))))))))))))) := by rfl
set_option maxRecDepth 100000 in
theorem cb_X3_call (x1 x2 : Int32) (x0 : Nat) (s : σ) : cx_B ct_lc gi gr pi pr ai ar wi wr an nw na io dp ct_ft ct_sg 0 [] ct_X3_call ca jm 1000 ct_X3_call [some (vr_ (some x0)), some (vi_ x1), some (vi_ x2)] [] s =
  ((dp 346 (some x0) s).bind fun m1 =>
  (cx_bV cx_th (ca m1 [vr_ (some x0)] s) fun s2 =>
  ((gi 131 (some x0) s2).bind fun v3 =>
  ((dp 331 (some x0) s2).bind fun m4 =>
  (cx_bV cx_th (ca m4 [vr_ (some x0), vi_ (v3 - 1)] s2) fun s5 =>
  ((dp 333 (some x0) s5).bind fun m6 =>
  (cx_bV cx_th (ca m6 [vr_ (some x0), vr_ (some 1144), vi_ x2] s5) fun s7 =>
  ((gi 131 (some x0) s7).bind fun v8 =>
  ((dp 333 (some x0) s7).bind fun m9 =>
  (cx_bV cx_th (ca m9 [vr_ (some x0), vr_ (some 1132), vi_ ((((x1 * 65536) + v8) - 1) - x1)] s7) fun s10 =>
  ((gi 131 (some x0) s10).bind fun v11 =>
  ((pi 131 (some x0) (v11 - x1) s10).bind fun s12 =>
  ((gr 129 (some x0) s12).bind fun v13 =>
  ((gi 131 (some x0) s12).bind fun v14 =>
  ((wi 0 v13 (v14 - 1) 5 s12).bind fun s15 =>
  some (.inl none, s15)))))))))))))))) := by rfl
set_option maxRecDepth 100000 in
theorem cb_X3_keepAll (x0 : Nat) (s : σ) : cx_B ct_lc gi gr pi pr ai ar wi wr an nw na io dp ct_ft ct_sg 0 [] ct_X3_keepAll ca jm 1000 ct_X3_keepAll [some (vr_ (some x0)), none] [] s =
  ((gi 131 (some x0) s).bind fun v1 =>
  (if 0 < v1 then
    ((gr 129 (some x0) s).bind fun v2 =>
    ((gi 131 (some x0) s).bind fun v3 =>
    ((ai 0 v2 (v3 - 1) s).bind fun v4 =>
    (if v4 = 5 then
      ((gi 131 (some x0) s).bind fun v5 =>
      ((dp 330 (some x0) s).bind fun m6 =>
      (cx_bV cx_th (ca m6 [vr_ (some x0), vi_ (v5 - 1)] s) fun s7 =>
      jm 34 [vr_ (some x0), vi_ 0] [] s7)))
    else
      jm 34 [vr_ (some x0), vi_ 0] [] s))))
  else
    jm 34 [vr_ (some x0), vi_ 0] [] s)) := by rfl
set_option maxRecDepth 100000 in
theorem cb_X3_keepAll_34 (x1 : Int32) (x0 : Nat) (s : σ) : cx_B ct_lc gi gr pi pr ai ar wi wr an nw na io dp ct_ft ct_sg 0 [] ct_X3_keepAll ca jm 1000 (pj_at ct_X3_keepAll 34) [some (vr_ (some x0)), some (vi_ x1)] [] s =
  ((gi 131 (some x0) s).bind fun v1 =>
  (if x1 < v1 then
    ((dp 330 (some x0) s).bind fun m2 =>
    (cx_bV cx_th (ca m2 [vr_ (some x0), vi_ x1] s) fun s3 =>
    jm 34 [vr_ (some x0), vi_ (x1 + 1)] [] s3))
  else
    some (.inl none, s))) := by rfl
set_option maxRecDepth 100000 in
theorem cb_X3_goes (x1 x2 : Int32) (x0 : Nat) (s : σ) : cx_B ct_lc gi gr pi pr ai ar wi wr an nw na io dp ct_ft ct_sg 0 [] ct_X3_goes ca jm 1000 ct_X3_goes [some (vr_ (some x0)), some (vi_ x1), some (vi_ x2), none] [] s =
  (if x1 = Int32.ofInt 13 then
    ((dp 346 (some x0) s).bind fun m1 =>
    (cx_bV cx_th (ca m1 [vr_ (some x0)] s) fun s2 =>
    ((dp 333 (some x0) s2).bind fun m3 =>
    (cx_bV cx_th (ca m3 [vr_ (some x0), vr_ (some 1145), vi_ x2] s2) fun s4 =>
    ((pi 134 (some x0) 0 s4).bind fun s5 =>
    some (.inl none, s5))))))
  else
  (if x1 = Int32.ofInt 22 then
    ((gi 134 (some x0) s).bind fun v6 =>
    (if v6 = 0 then
      jm 95 [vr_ (some x0), vi_ x2] [] s
    else
      ((dp 346 (some x0) s).bind fun m7 =>
      (cx_bV cx_th (ca m7 [vr_ (some x0)] s) fun s8 =>
      jm 95 [vr_ (some x0), vi_ x2] [] s8))))
  else
  (if x1 = Int32.ofInt 25 then
    ((dp 346 (some x0) s).bind fun m9 =>
    (cx_bV cx_th (ca m9 [vr_ (some x0)] s) fun s10 =>
    ((dp 333 (some x0) s10).bind fun m11 =>
    (cx_bV cx_th (ca m11 [vr_ (some x0), vr_ (some 1145), vi_ x2] s10) fun s12 =>
    ((gi 131 (some x0) s12).bind fun v13 =>
    ((pi 131 (some x0) (v13 - 1) s12).bind fun s14 =>
    ((pi 134 (some x0) 0 s14).bind fun s15 =>
    some (.inl none, s15))))))))
  else
  ((gi 143 (some x0) s).bind fun v16 =>
    (if v16 = 0 then
      ((dp 346 (some x0) s).bind fun m17 =>
      (cx_bV cx_th (ca m17 [vr_ (some x0)] s) fun s18 =>
      ((gi 131 (some x0) s18).bind fun v19 =>
      ((dp 331 (some x0) s18).bind fun m20 =>
      (cx_bV cx_th (ca m20 [vr_ (some x0), vi_ (v19 - 1)] s18) fun s21 =>
      ((gi 131 (some x0) s21).bind fun v22 =>
      ((pi 131 (some x0) (v22 - 1) s21).bind fun s23 =>
      (if x1 = 15 then
        ((dp 333 (some x0) s23).bind fun m24 =>
        (cx_bV cx_th (ca m24 [vr_ (some x0), vr_ (some 1134), vi_ x2] s23) fun s25 =>
        some (.inl none, s25)))
      else
        ((dp 333 (some x0) s23).bind fun m26 =>
        (cx_bV cx_th (ca m26 [vr_ (some x0), vr_ (some 1146), vi_ x2] s23) fun s27 =>
        some (.inl none, s27)))))))))))
    else
      ((pi 143 (some x0) 0 s).bind fun s28 =>
      some (.inl none, s28))))))) := by rfl
set_option maxRecDepth 100000 in
theorem cb_X3_goes_95 (x2 : Int32) (x0 : Nat) (s : σ) : cx_B ct_lc gi gr pi pr ai ar wi wr an nw na io dp ct_ft ct_sg 0 [] ct_X3_goes ca jm 1000 (pj_at ct_X3_goes 95) [some (vr_ (some x0)), none, some (vi_ x2), none] [] s =
  ((gr 133 (some x0) s).bind fun v1 =>
  ((ai 0 v1 x2 s).bind fun v2 =>
  ((pi 131 (some x0) (v2 - 1) s).bind fun s3 =>
  ((gi 132 (some x0) s3).bind fun v4 =>
  ((gi 131 (some x0) s3).bind fun v5 =>
  (cx_bI cx_th (ca 193 [vi_ v4, vi_ v5] s3) fun v7 s6 =>
  ((pi 132 (some x0) v7 s6).bind fun s8 =>
  ((dp 334 (some x0) s8).bind fun m9 =>
  (cx_bV cx_th (ca m9 [vr_ (some x0)] s8) fun s10 =>
  jm 128 [vr_ (some x0), vi_ x2, vi_ 0] [] s10))))))))) := by rfl
set_option maxRecDepth 100000 in
theorem cb_X3_goes_128 (x2 x3 : Int32) (x0 : Nat) (s : σ) : cx_B ct_lc gi gr pi pr ai ar wi wr an nw na io dp ct_ft ct_sg 0 [] ct_X3_goes ca jm 1000 (pj_at ct_X3_goes 128) [some (vr_ (some x0)), none, some (vi_ x2), some (vi_ x3)] [] s =
  ((gi 131 (some x0) s).bind fun v1 =>
  (if x3 < v1 then
    ((gr 129 (some x0) s).bind fun v2 =>
    ((wi 0 v2 x3 4 s).bind fun s3 =>
    jm 128 [vr_ (some x0), vi_ x2, vi_ (x3 + 1)] [] s3))
  else
    ((pi 134 (some x0) 1 s).bind fun s4 =>
    ((dp 333 (some x0) s4).bind fun m5 =>
    (cx_bV cx_th (ca m5 [vr_ (some x0), vr_ (some 1010), vi_ x2] s4) fun s6 =>
    some (.inl none, s6)))))) := by rfl
set_option maxRecDepth 100000 in
theorem cb_X4_init (x0 : Nat) (s : σ) : cx_B ct_lc gi gr pi pr ai ar wi wr an nw na io dp ct_ft ct_sg 0 [] ct_X4_init ca jm 1000 ct_X4_init [some (vr_ (some x0))] [] s =
  (cx_bV cx_th (ca 151 [vr_ (some x0)] s) fun s1 =>
  ((na 201 4096 s1).bind fun q2 =>
  ((pr 144 (some x0) (some q2.1) q2.2).bind fun s3 =>
  some (.inl none, s3)))) := by rfl
set_option maxRecDepth 100000 in
theorem cb_X4_letters (x1 : Option Nat) (x0 : Nat) (s : σ) : cx_B ct_lc gi gr pi pr ai ar wi wr an nw na io dp ct_ft ct_sg 0 [] ct_X4_letters ca jm 1000 ct_X4_letters [some (vr_ (some x0)), some (vr_ x1), none] [] s =
  jm 2 [vr_ (some x0), vr_ x1, vi_ 0] [] s := by rfl
set_option maxRecDepth 100000 in
theorem cb_X4_letters_2 (x2 : Int32) (x1 : Option Nat) (x0 : Nat) (s : σ) : cx_B ct_lc gi gr pi pr ai ar wi wr an nw na io dp ct_ft ct_sg 0 [] ct_X4_letters ca jm 1000 (pj_at ct_X4_letters 2) [some (vr_ (some x0)), some (vr_ x1), some (vi_ x2)] [] s =
  ((dp 86 x1 s).bind fun m1 =>
  (cx_bI cx_th (ca m1 [vr_ x1] s) fun v3 s2 =>
  (if x2 < v3 then
    ((dp 88 x1 s2).bind fun m4 =>
    (cx_bI cx_th (ca m4 [vr_ x1, vi_ x2] s2) fun v6 s5 =>
    ((dp 350 (some x0) s5).bind fun m7 =>
    (cx_bV cx_th (ca m7 [vr_ (some x0), vi_ v6] s5) fun s8 =>
    jm 2 [vr_ (some x0), vr_ x1, vi_ (x2 + 1)] [] s8))))
  else
    some (.inl none, s2)))) := by rfl
set_option maxRecDepth 100000 in
theorem cb_X4_one (x1 : Int32) (x0 : Nat) (s : σ) : cx_B ct_lc gi gr pi pr ai ar wi wr an nw na io dp ct_ft ct_sg 0 [] ct_X4_one ca jm 1000 ct_X4_one [some (vr_ (some x0)), some (vi_ x1), none] [] s =
  ((gi 145 (some x0) s).bind fun v1 =>
  ((gr 144 (some x0) s).bind fun v2 =>
  ((an v2 s).bind fun v3 =>
  (if v1 = v3 then
    ((gr 144 (some x0) s).bind fun v4 =>
    ((gi 145 (some x0) s).bind fun v5 =>
    ((na 201 (2 * v5) s).bind fun q6 =>
    ((pr 144 (some x0) (some q6.1) q6.2).bind fun s7 =>
    ((gr 144 (some x0) s7).bind fun v8 =>
    ((gi 145 (some x0) s7).bind fun v9 =>
    (cx_bV cx_th (ca 416 [vr_ v4, vi_ 0, vr_ v8, vi_ 0, vi_ v9] s7) fun s10 =>
    ((gr 144 (some x0) s10).bind fun v11 =>
    ((gi 145 (some x0) s10).bind fun v12 =>
    ((wi 1 v11 v12 (x1 : Int32).toInt8.toInt32 s10).bind fun s13 =>
    ((gi 145 (some x0) s13).bind fun v14 =>
    ((pi 145 (some x0) (v14 + 1) s13).bind fun s15 =>
    some (.inl none, s15)))))))))))))
  else
    ((gr 144 (some x0) s).bind fun v16 =>
    ((gi 145 (some x0) s).bind fun v17 =>
    ((wi 1 v16 v17 (x1 : Int32).toInt8.toInt32 s).bind fun s18 =>
    ((gi 145 (some x0) s18).bind fun v19 =>
    ((pi 145 (some x0) (v19 + 1) s18).bind fun s20 =>
    some (.inl none, s20)))))))))) := by rfl
set_option maxRecDepth 100000 in
theorem cb_X4_number (x1 : Int32) (x0 : Nat) (s : σ) : cx_B ct_lc gi gr pi pr ai ar wi wr an nw na io dp ct_ft ct_sg 0 [] ct_X4_number ca jm 1000 ct_X4_number [some (vr_ (some x0)), some (vi_ x1), none] [] s =
  (if x1 < 0 then
    ((dp 350 (some x0) s).bind fun m1 =>
    (cx_bV cx_th (ca m1 [vr_ (some x0), vi_ 45] s) fun s2 =>
    jm 12 [vr_ (some x0), vi_ x1, vi_ 1] [] s2))
  else
    jm 12 [vr_ (some x0), vi_ x1, vi_ 1] [] s) := by rfl
set_option maxRecDepth 100000 in
theorem cb_X4_number_12 (x1 x2 : Int32) (x0 : Nat) (s : σ) : cx_B ct_lc gi gr pi pr ai ar wi wr an nw na io dp ct_ft ct_sg 0 [] ct_X4_number ca jm 1000 (pj_at ct_X4_number 12) [some (vr_ (some x0)), some (vi_ x1), some (vi_ x2)] [] s =
  ((pj_div x1 x2).bind fun v1 =>
  ((pj_div v1 10).bind fun v2 =>
  (if v2 = 0 then
    jm 29 [vr_ (some x0), vi_ x1, vi_ x2] [] s
  else
    jm 12 [vr_ (some x0), vi_ x1, vi_ (x2 * 10)] [] s))) := by rfl
set_option maxRecDepth 100000 in
theorem cb_X4_number_29 (x1 x2 : Int32) (x0 : Nat) (s : σ) : cx_B ct_lc gi gr pi pr ai ar wi wr an nw na io dp ct_ft ct_sg 0 [] ct_X4_number ca jm 1000 (pj_at ct_X4_number 29) [some (vr_ (some x0)), some (vi_ x1), some (vi_ x2)] [] s =
  (if 0 < x2 then
    ((pj_div x1 x2).bind fun v1 =>
    ((pj_rem v1 10).bind fun v2 =>
    (cx_bI cx_th (ca 194 [vi_ v2] s) fun v4 s3 =>
    ((dp 350 (some x0) s3).bind fun m5 =>
    (cx_bV cx_th (ca m5 [vr_ (some x0), vi_ (48 + v4)] s3) fun s6 =>
    ((pj_div x2 10).bind fun v7 =>
    jm 29 [vr_ (some x0), vi_ x1, vi_ v7] [] s6))))))
  else
    some (.inl none, s)) := by rfl
set_option maxRecDepth 100000 in
theorem cb_X5_init (x0 : Nat) (s : σ) : cx_B ct_lc gi gr pi pr ai ar wi wr an nw na io dp ct_ft ct_sg 0 [] ct_X5_init ca jm 1000 ct_X5_init [some (vr_ (some x0))] [] s =
  (cx_bV cx_th (ca 151 [vr_ (some x0)] s) fun s1 =>
  ((na 200 256 s1).bind fun q2 =>
  ((pr 146 (some x0) (some q2.1) q2.2).bind fun s3 =>
  ((na 200 256 s3).bind fun q4 =>
  ((pr 147 (some x0) (some q4.1) q4.2).bind fun s5 =>
  ((na 202 256 s5).bind fun q6 =>
  ((pr 150 (some x0) (some q6.1) q6.2).bind fun s7 =>
  ((na 200 64 s7).bind fun q8 =>
  ((pr 151 (some x0) (some q8.1) q8.2).bind fun s9 =>
  ((na 200 256 s9).bind fun q10 =>
  ((pr 152 (some x0) (some q10.1) q10.2).bind fun s11 =>
  some (.inl none, s11)))))))))))) := by rfl
set_option maxRecDepth 100000 in
theorem cb_X5_all (x1 : Option Nat) (x0 : Nat) (s : σ) : cx_B ct_lc gi gr pi pr ai ar wi wr an nw na io dp ct_ft ct_sg 0 [] ct_X5_all ca jm 1000 ct_X5_all [some (vr_ (some x0)), some (vr_ x1), none, none] [] s =
  ((gr 146 (some x0) s).bind fun v1 =>
  ((an v1 s).bind fun v2 =>
  ((gi 114 x1 s).bind fun v3 =>
  (if v2 < (v3 + 2) then
    ((gi 114 x1 s).bind fun v4 =>
    ((na 200 (2 * v4) s).bind fun q5 =>
    ((pr 146 (some x0) (some q5.1) q5.2).bind fun s6 =>
    ((gi 114 x1 s6).bind fun v7 =>
    ((na 200 (2 * v7) s6).bind fun q8 =>
    ((pr 147 (some x0) (some q8.1) q8.2).bind fun s9 =>
    ((gi 114 x1 s9).bind fun v10 =>
    ((na 202 (2 * v10) s9).bind fun q11 =>
    ((pr 150 (some x0) (some q11.1) q11.2).bind fun s12 =>
    ((gi 114 x1 s12).bind fun v13 =>
    ((na 200 (2 * v13) s12).bind fun q14 =>
    ((pr 152 (some x0) (some q14.1) q14.2).bind fun s15 =>
    jm 62 [vr_ (some x0), vr_ x1] [] s15))))))))))))
  else
    jm 62 [vr_ (some x0), vr_ x1] [] s)))) := by rfl
set_option maxRecDepth 100000 in
theorem cb_X5_all_62 (x1 : Option Nat) (x0 : Nat) (s : σ) : cx_B ct_lc gi gr pi pr ai ar wi wr an nw na io dp ct_ft ct_sg 0 [] ct_X5_all ca jm 1000 (pj_at ct_X5_all 62) [some (vr_ (some x0)), some (vr_ x1), none, none] [] s =
  ((gr 151 (some x0) s).bind fun v1 =>
  ((an v1 s).bind fun v2 =>
  ((gi 115 x1 s).bind fun v3 =>
  (if v2 < v3 then
    ((gi 115 x1 s).bind fun v4 =>
    ((na 200 (2 * v4) s).bind fun q5 =>
    ((pr 151 (some x0) (some q5.1) q5.2).bind fun s6 =>
    jm 86 [vr_ (some x0), vr_ x1] [] s6)))
  else
    jm 86 [vr_ (some x0), vr_ x1] [] s)))) := by rfl
set_option maxRecDepth 100000 in
theorem cb_X5_all_86 (x1 : Option Nat) (x0 : Nat) (s : σ) : cx_B ct_lc gi gr pi pr ai ar wi wr an nw na io dp ct_ft ct_sg 0 [] ct_X5_all ca jm 1000 (pj_at ct_X5_all 86) [some (vr_ (some x0)), some (vr_ x1), none, none] [] s =
  ((gr 113 x1 s).bind fun v1 =>
  ((gr 146 (some x0) s).bind fun v2 =>
  ((gi 114 x1 s).bind fun v3 =>
  (cx_bV cx_th (ca 416 [vr_ v1, vi_ 0, vr_ v2, vi_ 0, vi_ v3] s) fun s4 =>
  ((gi 114 x1 s4).bind fun v5 =>
  ((pi 148 (some x0) v5 s4).bind fun s6 =>
  jm 113 [vr_ (some x0), vr_ x1, vi_ 1] [] s6)))))) := by rfl
set_option maxRecDepth 100000 in
theorem cb_X5_all_113 (x2 : Int32) (x1 : Option Nat) (x0 : Nat) (s : σ) : cx_B ct_lc gi gr pi pr ai ar wi wr an nw na io dp ct_ft ct_sg 0 [] ct_X5_all ca jm 1000 (pj_at ct_X5_all 113) [some (vr_ (some x0)), some (vr_ x1), some (vi_ x2), none] [] s =
  (if x2 = 0 then
    ((gr 146 (some x0) s).bind fun v1 =>
    ((gr 113 x1 s).bind fun v2 =>
    ((gi 148 (some x0) s).bind fun v3 =>
    (cx_bV cx_th (ca 416 [vr_ v1, vi_ 0, vr_ v2, vi_ 0, vi_ v3] s) fun s4 =>
    ((gi 148 (some x0) s4).bind fun v5 =>
    ((pi 114 x1 v5 s4).bind fun s6 =>
    some (.inl none, s6)))))))
  else
    ((pi 149 (some x0) 0 s).bind fun s7 =>
    ((dp 354 (some x0) s7).bind fun m8 =>
    (cx_bV cx_th (ca m8 [vr_ (some x0)] s7) fun s9 =>
    ((dp 356 (some x0) s9).bind fun m10 =>
    (cx_bV cx_th (ca m10 [vr_ (some x0)] s9) fun s11 =>
    ((gi 149 (some x0) s11).bind fun v12 =>
    ((gi 148 (some x0) s11).bind fun v13 =>
    (if v12 < v13 then
      jm 146 [vr_ (some x0), vr_ x1] [vi_ 1] s11
    else
      jm 146 [vr_ (some x0), vr_ x1] [vi_ 0] s11))))))))) := by rfl
set_option maxRecDepth 100000 in
theorem cb_X5_all_146 (y0 : Int32) (x1 : Option Nat) (x0 : Nat) (s : σ) : cx_B ct_lc gi gr pi pr ai ar wi wr an nw na io dp ct_ft ct_sg 0 [] ct_X5_all ca jm 1000 (pj_at ct_X5_all 146) [some (vr_ (some x0)), some (vr_ x1), none, none] [vi_ y0] s =
  ((gr 146 (some x0) s).bind fun v1 =>
  ((gr 147 (some x0) s).bind fun v2 =>
  ((pr 146 (some x0) v2 s).bind fun s3 =>
  ((pr 147 (some x0) v1 s3).bind fun s4 =>
  ((gi 149 (some x0) s4).bind fun v5 =>
  ((pi 148 (some x0) v5 s4).bind fun s6 =>
  jm 113 [vr_ (some x0), vr_ x1, vi_ y0] [] s6)))))) := by rfl
set_option maxRecDepth 100000 in
theorem cb_X5_mark (x0 : Nat) (s : σ) : cx_B ct_lc gi gr pi pr ai ar wi wr an nw na io dp ct_ft ct_sg 0 [] ct_X5_mark ca jm 1000 ct_X5_mark [some (vr_ (some x0)), none] [] s =
  jm 2 [vr_ (some x0), vi_ 0] [] s := by rfl
set_option maxRecDepth 100000 in
theorem cb_X5_mark_2 (x1 : Int32) (x0 : Nat) (s : σ) : cx_B ct_lc gi gr pi pr ai ar wi wr an nw na io dp ct_ft ct_sg 0 [] ct_X5_mark ca jm 1000 (pj_at ct_X5_mark 2) [some (vr_ (some x0)), some (vi_ x1)] [] s =
  ((gi 148 (some x0) s).bind fun v1 =>
  (if x1 < v1 then
    ((gr 150 (some x0) s).bind fun v2 =>
    ((wi 1 v2 x1 0 s).bind fun s3 =>
    jm 2 [vr_ (some x0), vi_ (x1 + 1)] [] s3))
  else
    jm 25 [vr_ (some x0), vi_ 0] [] s)) := by rfl
set_option maxRecDepth 100000 in
theorem cb_X5_mark_25 (x1 : Int32) (x0 : Nat) (s : σ) : cx_B ct_lc gi gr pi pr ai ar wi wr an nw na io dp ct_ft ct_sg 0 [] ct_X5_mark ca jm 1000 (pj_at ct_X5_mark 25) [some (vr_ (some x0)), some (vi_ x1)] [] s =
  ((gi 148 (some x0) s).bind fun v1 =>
  (if x1 < v1 then
    ((gr 146 (some x0) s).bind fun v2 =>
    ((ai 0 v2 x1 s).bind fun v3 =>
    (if v3 = 22 then
      ((gr 151 (some x0) s).bind fun v4 =>
      ((gr 146 (some x0) s).bind fun v5 =>
      ((ai 0 v5 (x1 + 1) s).bind fun v6 =>
      ((wi 0 v4 v6 x1 s).bind fun s7 =>
      jm 25 [vr_ (some x0), vi_ (x1 + 2)] [] s7))))
    else
      jm 25 [vr_ (some x0), vi_ (x1 + 2)] [] s)))
  else
    ((pi 153 (some x0) 0 s).bind fun s8 =>
    ((dp 355 (some x0) s8).bind fun m9 =>
    (cx_bV cx_th (ca m9 [vr_ (some x0), vi_ 0] s8) fun s10 =>
    jm 74 [vr_ (some x0)] [] s10))))) := by rfl
set_option maxRecDepth 100000 in
theorem cb_X5_mark_74 (x0 : Nat) (s : σ) : cx_B ct_lc gi gr pi pr ai ar wi wr an nw na io dp ct_ft ct_sg 0 [] ct_X5_mark ca jm 1000 (pj_at ct_X5_mark 74) [some (vr_ (some x0)), none] [] s =
  ((gi 153 (some x0) s).bind fun v1 =>
  (if 0 < v1 then
    ((gi 153 (some x0) s).bind fun v2 =>
    ((pi 153 (some x0) (v2 - 1) s).bind fun s3 =>
    ((gr 152 (some x0) s3).bind fun v4 =>
    ((gi 153 (some x0) s3).bind fun v5 =>
    ((ai 0 v4 v5 s3).bind fun v6 =>
    ((dp 355 (some x0) s3).bind fun m7 =>
    (cx_bV cx_th (ca m7 [vr_ (some x0), vi_ v6] s3) fun s8 =>
    jm 74 [vr_ (some x0)] [] s8)))))))
  else
    some (.inl none, s))) := by rfl
set_option maxRecDepth 100000 in
theorem cb_X5_walk (x1 : Int32) (x0 : Nat) (s : σ) : cx_B ct_lc gi gr pi pr ai ar wi wr an nw na io dp ct_ft ct_sg 0 [] ct_X5_walk ca jm 1000 ct_X5_walk [some (vr_ (some x0)), some (vi_ x1), none, none] [] s =
  jm 2 [vr_ (some x0), vi_ x1] [] s := by rfl
set_option maxRecDepth 100000 in
theorem cb_X5_walk_2 (x2 : Int32) (x0 : Nat) (s : σ) : cx_B ct_lc gi gr pi pr ai ar wi wr an nw na io dp ct_ft ct_sg 0 [] ct_X5_walk ca jm 1000 (pj_at ct_X5_walk 2) [some (vr_ (some x0)), none, some (vi_ x2), none] [] s =
  ((gi 148 (some x0) s).bind fun v1 =>
  (if x2 < v1 then
    ((gr 150 (some x0) s).bind fun v2 =>
    ((ai 1 v2 x2 s).bind fun v3 =>
    (if v3 = 0 then
      ((gr 150 (some x0) s).bind fun v4 =>
      ((wi 1 v4 x2 1 s).bind fun s5 =>
      ((gr 146 (some x0) s5).bind fun v6 =>
      ((ai 0 v6 x2 s5).bind fun v7 =>
      (if v7 = 17 then
        some (.inl none, s5)
      else
        (if v7 = 20 then
          some (.inl none, s5)
        else
          (if v7 = 14 then
            jm 58 [vr_ (some x0), vi_ x2, vi_ v7] [] s5
          else
            (if v7 = 15 then
              jm 58 [vr_ (some x0), vi_ x2, vi_ v7] [] s5
            else
              jm 90 [vr_ (some x0), vi_ x2, vi_ v7] [] s5))))))))
    else
      some (.inl none, s))))
  else
    some (.inl none, s))) := by rfl
set_option maxRecDepth 100000 in
theorem cb_X5_walk_58 (x2 x3 : Int32) (x0 : Nat) (s : σ) : cx_B ct_lc gi gr pi pr ai ar wi wr an nw na io dp ct_ft ct_sg 0 [] ct_X5_walk ca jm 1000 (pj_at ct_X5_walk 58) [some (vr_ (some x0)), none, some (vi_ x2), some (vi_ x3)] [] s =
  ((gr 152 (some x0) s).bind fun v1 =>
  ((gi 153 (some x0) s).bind fun v2 =>
  ((gr 151 (some x0) s).bind fun v3 =>
  ((gr 146 (some x0) s).bind fun v4 =>
  ((ai 0 v4 (x2 + 1) s).bind fun v5 =>
  ((ai 0 v3 v5 s).bind fun v6 =>
  ((wi 0 v1 v2 v6 s).bind fun s7 =>
  ((gi 153 (some x0) s7).bind fun v8 =>
  ((pi 153 (some x0) (v8 + 1) s7).bind fun s9 =>
  jm 90 [vr_ (some x0), vi_ x2, vi_ x3] [] s9))))))))) := by rfl
set_option maxRecDepth 100000 in
theorem cb_X5_walk_90 (x2 x3 : Int32) (x0 : Nat) (s : σ) : cx_B ct_lc gi gr pi pr ai ar wi wr an nw na io dp ct_ft ct_sg 0 [] ct_X5_walk ca jm 1000 (pj_at ct_X5_walk 90) [some (vr_ (some x0)), none, some (vi_ x2), some (vi_ x3)] [] s =
  (if x3 = 13 then
    ((gr 151 (some x0) s).bind fun v1 =>
    ((gr 146 (some x0) s).bind fun v2 =>
    ((ai 0 v2 (x2 + 1) s).bind fun v3 =>
    ((ai 0 v1 v3 s).bind fun v4 =>
    jm 2 [vr_ (some x0), vi_ v4] [] s))))
  else
    (if x3 = 25 then
      ((gr 151 (some x0) s).bind fun v5 =>
      ((gr 146 (some x0) s).bind fun v6 =>
      ((ai 0 v6 (x2 + 1) s).bind fun v7 =>
      ((ai 0 v5 v7 s).bind fun v8 =>
      jm 2 [vr_ (some x0), vi_ v8] [] s))))
    else
      jm 2 [vr_ (some x0), vi_ (x2 + 2)] [] s)) := by rfl
set_option maxRecDepth 100000 in
theorem cb_X5_pass (x0 : Nat) (s : σ) : cx_B ct_lc gi gr pi pr ai ar wi wr an nw na io dp ct_ft ct_sg 0 [] ct_X5_pass ca jm 1000 ct_X5_pass [some (vr_ (some x0)), none, none, none] [] s =
  jm 2 [vr_ (some x0), vi_ 0] [] s := by rfl
set_option maxRecDepth 100000 in
theorem cb_X5_pass_2 (x1 : Int32) (x0 : Nat) (s : σ) : cx_B ct_lc gi gr pi pr ai ar wi wr an nw na io dp ct_ft ct_sg 0 [] ct_X5_pass ca jm 1000 (pj_at ct_X5_pass 2) [some (vr_ (some x0)), some (vi_ x1), none, none] [] s =
  ((gi 148 (some x0) s).bind fun v1 =>
  (if x1 < v1 then
    ((gr 146 (some x0) s).bind fun v2 =>
    ((ai 0 v2 x1 s).bind fun v3 =>
    ((gr 146 (some x0) s).bind fun v4 =>
    ((ai 0 v4 (x1 + 1) s).bind fun v5 =>
    ((gr 150 (some x0) s).bind fun v6 =>
    ((ai 1 v6 x1 s).bind fun v7 =>
    (if v7 = 0 then
      jm 2 [vr_ (some x0), vi_ (x1 + 2)] [] s
    else
      ((dp 357 (some x0) s).bind fun m8 =>
      (cx_bI cx_th (ca m8 [vr_ (some x0), vi_ v3, vi_ v5] s) fun v10 s9 =>
      (if v10 = 0 then
        ((dp 360 (some x0) s9).bind fun m11 =>
        (cx_bI cx_th (ca m11 [vr_ (some x0), vi_ v3, vi_ v5, vi_ x1] s9) fun v13 s12 =>
        (if v13 = 0 then
          ((dp 359 (some x0) s12).bind fun m14 =>
          (cx_bV cx_th (ca m14 [vr_ (some x0), vi_ v3, vi_ v5] s12) fun s15 =>
          jm 2 [vr_ (some x0), vi_ (x1 + 2)] [] s15))
        else
          jm 2 [vr_ (some x0), vi_ (x1 + 2)] [] s12)))
      else
        jm 2 [vr_ (some x0), vi_ (x1 + 2)] [] s9))))))))))
  else
    some (.inl none, s))) := by rfl
set_option maxRecDepth 100000 in
theorem cb_X5_folded (x1 x2 : Int32) (x0 : Nat) (s : σ) : cx_B ct_lc gi gr pi pr ai ar wi wr an nw na io dp ct_ft ct_sg 4 [] ct_X5_folded ca jm 1000 ct_X5_folded [some (vr_ (some x0)), some (vi_ x1), some (vi_ x2), none, none] [] s =
  (if x1 = 8 then
    jm 12 [vr_ (some x0), vi_ x1, vi_ x2] [] s
  else
    (if x1 = 9 then
      jm 12 [vr_ (some x0), vi_ x1, vi_ x2] [] s
    else
      jm 67 [vr_ (some x0), vi_ x1, vi_ x2] [] s)) := by rfl
set_option maxRecDepth 100000 in
theorem cb_X5_folded_12 (x1 x2 : Int32) (x0 : Nat) (s : σ) : cx_B ct_lc gi gr pi pr ai ar wi wr an nw na io dp ct_ft ct_sg 4 [] ct_X5_folded ca jm 1000 (pj_at ct_X5_folded 12) [some (vr_ (some x0)), some (vi_ x1), some (vi_ x2), none, none] [] s =
  ((dp 358 (some x0) s).bind fun m1 =>
  (cx_bI cx_th (ca m1 [vr_ (some x0), vi_ 2] s) fun v3 s2 =>
  (if v3 = 0 then
    jm 67 [vr_ (some x0), vi_ x1, vi_ x2] [] s2
  else
    ((gr 147 (some x0) s2).bind fun v4 =>
    ((gi 149 (some x0) s2).bind fun v5 =>
    (if x1 = 8 then
      ((gr 147 (some x0) s2).bind fun v6 =>
      ((gi 149 (some x0) s2).bind fun v7 =>
      ((ai 0 v6 (v7 - 1) s2).bind fun v8 =>
      ((wi 0 v4 (v5 - 1) (-v8) s2).bind fun s9 =>
      some (.inl (some (vi_ 1)), s9)))))
    else
      ((gr 147 (some x0) s2).bind fun v10 =>
      ((gi 149 (some x0) s2).bind fun v11 =>
      ((ai 0 v10 (v11 - 1) s2).bind fun v12 =>
      ((wi 0 v4 (v5 - 1) (v12 ^^^ (-1)) s2).bind fun s13 =>
      some (.inl (some (vi_ 1)), s13))))))))))) := by rfl
set_option maxRecDepth 100000 in
theorem cb_X5_folded_67 (x1 x2 : Int32) (x0 : Nat) (s : σ) : cx_B ct_lc gi gr pi pr ai ar wi wr an nw na io dp ct_ft ct_sg 4 [] ct_X5_folded ca jm 1000 (pj_at ct_X5_folded 67) [some (vr_ (some x0)), some (vi_ x1), some (vi_ x2), none, none] [] s =
  (if x1 = 10 then
    jm 79 [vr_ (some x0), vi_ x1, vi_ x2] [] s
  else
    (if x1 = 11 then
      jm 79 [vr_ (some x0), vi_ x1, vi_ x2] [] s
    else
      (if x1 = 14 then
        jm 209 [vr_ (some x0), vi_ x1, vi_ x2] [] s
      else
        (if x1 = 15 then
          jm 209 [vr_ (some x0), vi_ x1, vi_ x2] [] s
        else
          jm 279 [vr_ (some x0), vi_ x1] [] s)))) := by rfl
set_option maxRecDepth 100000 in
theorem cb_X5_folded_79 (x1 x2 : Int32) (x0 : Nat) (s : σ) : cx_B ct_lc gi gr pi pr ai ar wi wr an nw na io dp ct_ft ct_sg 4 [] ct_X5_folded ca jm 1000 (pj_at ct_X5_folded 79) [some (vr_ (some x0)), some (vi_ x1), some (vi_ x2), none, none] [] s =
  ((dp 358 (some x0) s).bind fun m1 =>
  (cx_bI cx_th (ca m1 [vr_ (some x0), vi_ 2] s) fun v3 s2 =>
  (if v3 = 0 then
    (if x1 = 14 then
      jm 209 [vr_ (some x0), vi_ x1, vi_ x2] [] s2
    else
      (if x1 = 15 then
        jm 209 [vr_ (some x0), vi_ x1, vi_ x2] [] s2
      else
        jm 279 [vr_ (some x0), vi_ x1] [] s2))
  else
    ((dp 358 (some x0) s2).bind fun m4 =>
    (cx_bI cx_th (ca m4 [vr_ (some x0), vi_ 4] s2) fun v6 s5 =>
    (if v6 = 0 then
      (if x1 = 14 then
        jm 209 [vr_ (some x0), vi_ x1, vi_ x2] [] s5
      else
        (if x1 = 15 then
          jm 209 [vr_ (some x0), vi_ x1, vi_ x2] [] s5
        else
          jm 279 [vr_ (some x0), vi_ x1] [] s5))
    else
      ((gr 147 (some x0) s5).bind fun v7 =>
      ((gi 149 (some x0) s5).bind fun v8 =>
      ((ai 0 v7 (v8 - 3) s5).bind fun v9 =>
      ((gr 147 (some x0) s5).bind fun v10 =>
      ((gi 149 (some x0) s5).bind fun v11 =>
      ((ai 0 v10 (v11 - 1) s5).bind fun v12 =>
      (if x1 = 10 then
        (if x2 = 3 then
          (if v12 = 0 then
            some (.inl (some (vi_ 0)), s5)
          else
            jm 143 [vr_ (some x0), vi_ x1, vi_ x2, vi_ v9, vi_ v12] [] s5)
        else
          (if x2 = 4 then
            (if v12 = 0 then
              some (.inl (some (vi_ 0)), s5)
            else
              jm 143 [vr_ (some x0), vi_ x1, vi_ x2, vi_ v9, vi_ v12] [] s5)
          else
            jm 143 [vr_ (some x0), vi_ x1, vi_ x2, vi_ v9, vi_ v12] [] s5))
      else
        jm 143 [vr_ (some x0), vi_ x1, vi_ x2, vi_ v9, vi_ v12] [] s5))))))))))))) := by rfl
set_option maxRecDepth 100000 in
theorem cb_X5_folded_143 (x1 x2 x3 x4 : Int32) (x0 : Nat) (s : σ) : cx_B ct_lc gi gr pi pr ai ar wi wr an nw na io dp ct_ft ct_sg 4 [] ct_X5_folded ca jm 1000 (pj_at ct_X5_folded 143) [some (vr_ (some x0)), some (vi_ x1), some (vi_ x2), some (vi_ x3), some (vi_ x4)] [] s =
  ((gi 149 (some x0) s).bind fun v1 =>
  ((pi 149 (some x0) (v1 - 2) s).bind fun s2 =>
  ((gr 147 (some x0) s2).bind fun v3 =>
  ((gi 149 (some x0) s2).bind fun v4 =>
  (if x1 = 10 then
    (cx_bI cx_th (ca 215 [vi_ x2, vi_ x3, vi_ x4] s2) fun v6 s5 =>
    ((wi 0 v3 (v4 - 1) v6 s5).bind fun s7 =>
    some (.inl (some (vi_ 1)), s7)))
  else
    (cx_bI cx_th (ca 214 [vi_ x2, vi_ x3, vi_ x4] s2) fun v9 s8 =>
    (if v9 = 0 then
      ((wi 0 v3 (v4 - 1) 0 s8).bind fun s10 =>
      some (.inl (some (vi_ 1)), s10))
    else
      ((wi 0 v3 (v4 - 1) (-1) s8).bind fun s11 =>
      some (.inl (some (vi_ 1)), s11))))))))) := by rfl
set_option maxRecDepth 100000 in
theorem cb_X5_folded_209 (x1 x2 : Int32) (x0 : Nat) (s : σ) : cx_B ct_lc gi gr pi pr ai ar wi wr an nw na io dp ct_ft ct_sg 4 [] ct_X5_folded ca jm 1000 (pj_at ct_X5_folded 209) [some (vr_ (some x0)), some (vi_ x1), some (vi_ x2), none, none] [] s =
  ((dp 358 (some x0) s).bind fun m1 =>
  (cx_bI cx_th (ca m1 [vr_ (some x0), vi_ 2] s) fun v3 s2 =>
  (if v3 = 0 then
    jm 279 [vr_ (some x0), vi_ x1] [] s2
  else
    ((gr 147 (some x0) s2).bind fun v4 =>
    ((gi 149 (some x0) s2).bind fun v5 =>
    ((ai 0 v4 (v5 - 1) s2).bind fun v6 =>
    (if v6 = 0 then
      jm 236 [vr_ (some x0), vi_ x1, vi_ x2] [vi_ 0] s2
    else
      jm 236 [vr_ (some x0), vi_ x1, vi_ x2] [vi_ 1] s2))))))) := by rfl
set_option maxRecDepth 100000 in
theorem cb_X5_folded_236 (x1 x2 y0 : Int32) (x0 : Nat) (s : σ) : cx_B ct_lc gi gr pi pr ai ar wi wr an nw na io dp ct_ft ct_sg 4 [] ct_X5_folded ca jm 1000 (pj_at ct_X5_folded 236) [some (vr_ (some x0)), some (vi_ x1), some (vi_ x2), none, none] [vi_ y0] s =
  (if x1 = 15 then
    (if y0 = 1 then
      jm 255 [vr_ (some x0), vi_ x2] [vi_ 1] s
    else
      jm 255 [vr_ (some x0), vi_ x2] [vi_ 0] s)
  else
    (if y0 = 0 then
      jm 255 [vr_ (some x0), vi_ x2] [vi_ 1] s
    else
      jm 255 [vr_ (some x0), vi_ x2] [vi_ 0] s)) := by rfl
set_option maxRecDepth 100000 in
theorem cb_X5_folded_255 (x2 y0 : Int32) (x0 : Nat) (s : σ) : cx_B ct_lc gi gr pi pr ai ar wi wr an nw na io dp ct_ft ct_sg 4 [] ct_X5_folded ca jm 1000 (pj_at ct_X5_folded 255) [some (vr_ (some x0)), none, some (vi_ x2), none, none] [vi_ y0] s =
  ((gi 149 (some x0) s).bind fun v1 =>
  ((pi 149 (some x0) (v1 - 2) s).bind fun s2 =>
  (if y0 = 0 then
    some (.inl (some (vi_ 1)), s2)
  else
    ((dp 359 (some x0) s2).bind fun m3 =>
    (cx_bV cx_th (ca m3 [vr_ (some x0), vi_ 13, vi_ x2] s2) fun s4 =>
    some (.inl (some (vi_ 1)), s4)))))) := by rfl
set_option maxRecDepth 100000 in
theorem cb_X5_folded_279 (x1 : Int32) (x0 : Nat) (s : σ) : cx_B ct_lc gi gr pi pr ai ar wi wr an nw na io dp ct_ft ct_sg 4 [] ct_X5_folded ca jm 1000 (pj_at ct_X5_folded 279) [some (vr_ (some x0)), some (vi_ x1), none, none, none] [] s =
  (if x1 = 19 then
    ((gi 149 (some x0) s).bind fun v1 =>
    (if v1 < 2 then
      some (.inl (some (vi_ 0)), s)
    else
      ((gr 147 (some x0) s).bind fun v2 =>
      ((gi 149 (some x0) s).bind fun v3 =>
      ((ai 0 v2 (v3 - 2) s).bind fun v4 =>
      (if v4 = 0 then
        ((gi 149 (some x0) s).bind fun v5 =>
        ((pi 149 (some x0) (v5 - 2) s).bind fun s6 =>
        some (.inl (some (vi_ 1)), s6)))
      else
        ((gr 147 (some x0) s).bind fun v7 =>
        ((gi 149 (some x0) s).bind fun v8 =>
        ((ai 0 v7 (v8 - 2) s).bind fun v9 =>
        (if v9 = 1 then
          ((gi 149 (some x0) s).bind fun v10 =>
          ((pi 149 (some x0) (v10 - 2) s).bind fun s11 =>
          some (.inl (some (vi_ 1)), s11)))
        else
          ((gr 147 (some x0) s).bind fun v12 =>
          ((gi 149 (some x0) s).bind fun v13 =>
          ((ai 0 v12 (v13 - 2) s).bind fun v14 =>
          (if v14 = 2 then
            ((gi 149 (some x0) s).bind fun v15 =>
            ((pi 149 (some x0) (v15 - 2) s).bind fun s16 =>
            some (.inl (some (vi_ 1)), s16)))
          else
            ((gr 147 (some x0) s).bind fun v17 =>
            ((gi 149 (some x0) s).bind fun v18 =>
            ((ai 0 v17 (v18 - 2) s).bind fun v19 =>
            (if v19 = 7 then
              ((gi 149 (some x0) s).bind fun v20 =>
              ((pi 149 (some x0) (v20 - 2) s).bind fun s21 =>
              some (.inl (some (vi_ 1)), s21)))
            else
              some (.inl (some (vi_ 0)), s)))))))))))))))))))
  else
    some (.inl (some (vi_ 0)), s)) := by rfl
set_option maxRecDepth 100000 in
theorem cb_X5_isConstant (x1 : Int32) (x0 : Nat) (s : σ) : cx_B ct_lc gi gr pi pr ai ar wi wr an nw na io dp ct_ft ct_sg 4 [] ct_X5_isConstant ca jm 1000 ct_X5_isConstant [some (vr_ (some x0)), some (vi_ x1)] [] s =
  ((gi 149 (some x0) s).bind fun v1 =>
  (if v1 < x1 then
    some (.inl (some (vi_ 0)), s)
  else
    ((gr 147 (some x0) s).bind fun v2 =>
    ((gi 149 (some x0) s).bind fun v3 =>
    ((ai 0 v2 (v3 - x1) s).bind fun v4 =>
    (if v4 = 0 then
      some (.inl (some (vi_ 1)), s)
    else
      some (.inl (some (vi_ 0)), s))))))) := by rfl
set_option maxRecDepth 100000 in
theorem cb_X5_keep (x1 x2 : Int32) (x0 : Nat) (s : σ) : cx_B ct_lc gi gr pi pr ai ar wi wr an nw na io dp ct_ft ct_sg 0 [] ct_X5_keep ca jm 1000 ct_X5_keep [some (vr_ (some x0)), some (vi_ x1), some (vi_ x2)] [] s =
  ((gr 147 (some x0) s).bind fun v1 =>
  ((gi 149 (some x0) s).bind fun v2 =>
  ((wi 0 v1 v2 x1 s).bind fun s3 =>
  ((gr 147 (some x0) s3).bind fun v4 =>
  ((gi 149 (some x0) s3).bind fun v5 =>
  ((wi 0 v4 (v5 + 1) x2 s3).bind fun s6 =>
  ((gi 149 (some x0) s6).bind fun v7 =>
  ((pi 149 (some x0) (v7 + 2) s6).bind fun s8 =>
  some (.inl none, s8))))))))) := by rfl
set_option maxRecDepth 100000 in
theorem cb_X5_next (x1 x2 x3 : Int32) (x0 : Nat) (s : σ) : cx_B ct_lc gi gr pi pr ai ar wi wr an nw na io dp ct_ft ct_sg 4 [] ct_X5_next ca jm 1000 ct_X5_next [some (vr_ (some x0)), some (vi_ x1), some (vi_ x2), some (vi_ x3), none] [] s =
  (if x1 = 13 then
    jm 13 [vr_ (some x0), vi_ x2, vi_ (x3 + 2)] [] s
  else
    some (.inl (some (vi_ 0)), s)) := by rfl
set_option maxRecDepth 100000 in
theorem cb_X5_next_13 (x2 x4 : Int32) (x0 : Nat) (s : σ) : cx_B ct_lc gi gr pi pr ai ar wi wr an nw na io dp ct_ft ct_sg 4 [] ct_X5_next ca jm 1000 (pj_at ct_X5_next 13) [some (vr_ (some x0)), none, some (vi_ x2), none, some (vi_ x4)] [] s =
  ((gi 148 (some x0) s).bind fun v1 =>
  (if x4 < v1 then
    ((gr 146 (some x0) s).bind fun v2 =>
    ((ai 0 v2 x4 s).bind fun v3 =>
    (if v3 = 22 then
      ((gr 146 (some x0) s).bind fun v4 =>
      ((ai 0 v4 (x4 + 1) s).bind fun v5 =>
      (if v5 = x2 then
        some (.inl (some (vi_ 1)), s)
      else
        jm 13 [vr_ (some x0), vi_ x2, vi_ (x4 + 2)] [] s)))
    else
      some (.inl (some (vi_ 0)), s))))
  else
    some (.inl (some (vi_ 0)), s))) := by rfl
set_option maxRecDepth 100000 in
theorem cb_X6_init (x2 : Int32) (x1 : Option Nat) (x0 : Nat) (s : σ) : cx_B ct_lc gi gr pi pr ai ar wi wr an nw na io dp ct_ft ct_sg 0 [] ct_X6_init ca jm 1000 ct_X6_init [some (vr_ (some x0)), some (vr_ x1), some (vi_ x2)] [] s =
  (cx_bV cx_th (ca 151 [vr_ (some x0)] s) fun s1 =>
  ((pi 156 (some x0) 1 s1).bind fun s2 =>
  ((pr 154 (some x0) x1 s2).bind fun s3 =>
  ((pi 155 (some x0) x2 s3).bind fun s4 =>
  some (.inl none, s4))))) := by rfl
set_option maxRecDepth 100000 in
theorem cb_X7_init (x1 x2 : Int32) (x0 : Nat) (s : σ) : cx_B ct_lc gi gr pi pr ai ar wi wr an nw na io dp ct_ft ct_sg 0 [] ct_X7_init ca jm 1000 ct_X7_init [some (vr_ (some x0)), some (vi_ x1), some (vi_ x2), none] [] s =
  (cx_bV cx_th (ca 151 [vr_ (some x0)] s) fun s1 =>
  ((na 201 x1 s1).bind fun q2 =>
  ((pr 162 (some x0) (some q2.1) q2.2).bind fun s3 =>
  (if x2 = 0 then
    jm 22 [vr_ (some x0)] [vi_ 0] s3
  else
    jm 22 [vr_ (some x0)] [vi_ (x1 + 1)] s3)))) := by rfl
set_option maxRecDepth 100000 in
theorem cb_X7_init_22 (y0 : Int32) (x0 : Nat) (s : σ) : cx_B ct_lc gi gr pi pr ai ar wi wr an nw na io dp ct_ft ct_sg 0 [] ct_X7_init ca jm 1000 (pj_at ct_X7_init 22) [some (vr_ (some x0)), none, none, none] [vi_ y0] s =
  ((na 200 y0 s).bind fun q1 =>
  ((pr 165 (some x0) (some q1.1) q1.2).bind fun s2 =>
  ((na 200 y0 s2).bind fun q3 =>
  ((pr 166 (some x0) (some q3.1) q3.2).bind fun s4 =>
  ((na 200 y0 s4).bind fun q5 =>
  ((pr 167 (some x0) (some q5.1) q5.2).bind fun s6 =>
  ((na 200 y0 s6).bind fun q7 =>
  ((pr 168 (some x0) (some q7.1) q7.2).bind fun s8 =>
  some (.inl none, s8))))))))) := by rfl
set_option maxRecDepth 100000 in
theorem cb_X7_begin (x1 : Int32) (x0 : Nat) (s : σ) : cx_B ct_lc gi gr pi pr ai ar wi wr an nw na io dp ct_ft ct_sg 0 [] ct_X7_begin ca jm 1000 ct_X7_begin [some (vr_ (some x0)), some (vi_ x1), none, none, none] [] s =
  ((pi 163 (some x0) x1 s).bind fun s1 =>
  ((pi 164 (some x0) 0 s1).bind fun s2 =>
  ((gr 165 (some x0) s2).bind fun v3 =>
  ((wi 0 v3 x1 x1 s2).bind fun s4 =>
  ((gr 166 (some x0) s4).bind fun v5 =>
  ((wi 0 v5 x1 x1 s4).bind fun s6 =>
  ((gr 167 (some x0) s6).bind fun v7 =>
  ((wi 0 v7 x1 0 s6).bind fun s8 =>
  ((gr 168 (some x0) s8).bind fun v9 =>
  ((wi 0 v9 x1 1 s8).bind fun s10 =>
  jm 42 [vr_ (some x0), vi_ (x1 - 1)] [] s10)))))))))) := by rfl
set_option maxRecDepth 100000 in
theorem cb_X7_begin_42 (x2 : Int32) (x0 : Nat) (s : σ) : cx_B ct_lc gi gr pi pr ai ar wi wr an nw na io dp ct_ft ct_sg 0 [] ct_X7_begin ca jm 1000 (pj_at ct_X7_begin 42) [some (vr_ (some x0)), none, some (vi_ x2), none, none] [] s =
  (if x2 < 0 then
    some (.inl none, s)
  else
    ((gr 162 (some x0) s).bind fun v1 =>
    ((ai 1 v1 x2 s).bind fun v2 =>
    (if v2 < 48 then
      jm 70 [vr_ (some x0), vi_ x2, vi_ v2] [vi_ 0] s
    else
      (if 57 < v2 then
        jm 70 [vr_ (some x0), vi_ x2, vi_ v2] [vi_ 0] s
      else
        jm 70 [vr_ (some x0), vi_ x2, vi_ v2] [vi_ 1] s))))) := by rfl
set_option maxRecDepth 100000 in
theorem cb_X7_begin_70 (x2 x3 y0 : Int32) (x0 : Nat) (s : σ) : cx_B ct_lc gi gr pi pr ai ar wi wr an nw na io dp ct_ft ct_sg 0 [] ct_X7_begin ca jm 1000 (pj_at ct_X7_begin 70) [some (vr_ (some x0)), none, some (vi_ x2), some (vi_ x3), none] [vi_ y0] s =
  ((gr 165 (some x0) s).bind fun v1 =>
  (if x3 = 32 then
    ((gr 165 (some x0) s).bind fun v2 =>
    ((ai 0 v2 (x2 + 1) s).bind fun v3 =>
    jm 113 [vr_ (some x0), vi_ x2, vi_ x3, vi_ y0] [vi_ v3, vi_ x2, vr_ v1] s))
  else
    (if x3 = 9 then
      ((gr 165 (some x0) s).bind fun v4 =>
      ((ai 0 v4 (x2 + 1) s).bind fun v5 =>
      jm 113 [vr_ (some x0), vi_ x2, vi_ x3, vi_ y0] [vi_ v5, vi_ x2, vr_ v1] s))
    else
      (if x3 = 10 then
        ((gr 165 (some x0) s).bind fun v6 =>
        ((ai 0 v6 (x2 + 1) s).bind fun v7 =>
        jm 113 [vr_ (some x0), vi_ x2, vi_ x3, vi_ y0] [vi_ v7, vi_ x2, vr_ v1] s))
      else
        (if x3 = 13 then
          ((gr 165 (some x0) s).bind fun v8 =>
          ((ai 0 v8 (x2 + 1) s).bind fun v9 =>
          jm 113 [vr_ (some x0), vi_ x2, vi_ x3, vi_ y0] [vi_ v9, vi_ x2, vr_ v1] s))
        else
          jm 113 [vr_ (some x0), vi_ x2, vi_ x3, vi_ y0] [vi_ x2, vi_ x2, vr_ v1] s))))) := by rfl
set_option maxRecDepth 100000 in
theorem cb_X7_begin_113 (x2 x3 x4 y1 y2 : Int32) (y0 : Option Nat) (x0 : Nat) (s : σ) : cx_B ct_lc gi gr pi pr ai ar wi wr an nw na io dp ct_ft ct_sg 0 [] ct_X7_begin ca jm 1000 (pj_at ct_X7_begin 113) [some (vr_ (some x0)), none, some (vi_ x2), some (vi_ x3), some (vi_ x4)] [vi_ y2, vi_ y1, vr_ y0] s =
  ((wi 0 y0 y1 y2 s).bind fun s1 =>
  ((gr 166 (some x0) s1).bind fun v2 =>
  (if x4 = 0 then
    jm 136 [vr_ (some x0), vi_ x2, vi_ x3, vi_ x4] [vi_ x2, vi_ x2, vr_ v2] s1
  else
    ((gr 166 (some x0) s1).bind fun v3 =>
    ((ai 0 v3 (x2 + 1) s1).bind fun v4 =>
    jm 136 [vr_ (some x0), vi_ x2, vi_ x3, vi_ x4] [vi_ v4, vi_ x2, vr_ v2] s1))))) := by rfl
set_option maxRecDepth 100000 in
theorem cb_X7_begin_136 (x2 x3 x4 y1 y2 : Int32) (y0 : Option Nat) (x0 : Nat) (s : σ) : cx_B ct_lc gi gr pi pr ai ar wi wr an nw na io dp ct_ft ct_sg 0 [] ct_X7_begin ca jm 1000 (pj_at ct_X7_begin 136) [some (vr_ (some x0)), none, some (vi_ x2), some (vi_ x3), some (vi_ x4)] [vi_ y2, vi_ y1, vr_ y0] s =
  ((wi 0 y0 y1 y2 s).bind fun s1 =>
  ((gr 167 (some x0) s1).bind fun v2 =>
  (if x4 = 0 then
    jm 173 [vr_ (some x0), vi_ x2, vi_ x4] [vi_ 0, vi_ x2, vr_ v2] s1
  else
    ((gr 168 (some x0) s1).bind fun v3 =>
    ((ai 0 v3 (x2 + 1) s1).bind fun v4 =>
    ((gr 167 (some x0) s1).bind fun v5 =>
    ((ai 0 v5 (x2 + 1) s1).bind fun v6 =>
    jm 173 [vr_ (some x0), vi_ x2, vi_ x4] [vi_ (((x3 - 48) * v4) + v6), vi_ x2, vr_ v2] s1))))))) := by rfl
set_option maxRecDepth 100000 in
theorem cb_X7_begin_173 (x2 x4 y1 y2 : Int32) (y0 : Option Nat) (x0 : Nat) (s : σ) : cx_B ct_lc gi gr pi pr ai ar wi wr an nw na io dp ct_ft ct_sg 0 [] ct_X7_begin ca jm 1000 (pj_at ct_X7_begin 173) [some (vr_ (some x0)), none, some (vi_ x2), none, some (vi_ x4)] [vi_ y2, vi_ y1, vr_ y0] s =
  ((wi 0 y0 y1 y2 s).bind fun s1 =>
  ((gr 168 (some x0) s1).bind fun v2 =>
  (if x4 = 0 then
    ((wi 0 v2 x2 1 s1).bind fun s3 =>
    jm 42 [vr_ (some x0), vi_ (x2 + (-1))] [] s3)
  else
    ((gr 168 (some x0) s1).bind fun v4 =>
    ((ai 0 v4 (x2 + 1) s1).bind fun v5 =>
    ((wi 0 v2 x2 (10 * v5) s1).bind fun s6 =>
    jm 42 [vr_ (some x0), vi_ (x2 + (-1))] [] s6)))))) := by rfl
set_option maxRecDepth 100000 in
theorem cb_X7_isFull (x0 : Nat) (s : σ) : cx_B ct_lc gi gr pi pr ai ar wi wr an nw na io dp ct_ft ct_sg 4 [] ct_X7_isFull ca jm 1000 ct_X7_isFull [some (vr_ (some x0))] [] s =
  ((gi 163 (some x0) s).bind fun v1 =>
  ((gr 162 (some x0) s).bind fun v2 =>
  ((an v2 s).bind fun v3 =>
  (if v1 = v3 then
    some (.inl (some (vi_ 1)), s)
  else
    some (.inl (some (vi_ 0)), s))))) := by rfl
set_option maxRecDepth 100000 in
theorem cb_X7_write (x1 : Int32) (x0 : Nat) (s : σ) : cx_B ct_lc gi gr pi pr ai ar wi wr an nw na io dp ct_ft ct_sg 0 [] ct_X7_write ca jm 1000 ct_X7_write [some (vr_ (some x0)), some (vi_ x1)] [] s =
  ((gi 163 (some x0) s).bind fun v1 =>
  ((gr 162 (some x0) s).bind fun v2 =>
  ((an v2 s).bind fun v3 =>
  (if v1 = v3 then
    some (.inl none, s)
  else
    ((gr 162 (some x0) s).bind fun v4 =>
    ((gi 163 (some x0) s).bind fun v5 =>
    ((wi 1 v4 v5 (x1 : Int32).toInt8.toInt32 s).bind fun s6 =>
    ((gi 163 (some x0) s6).bind fun v7 =>
    ((pi 163 (some x0) (v7 + 1) s6).bind fun s8 =>
    some (.inl none, s8)))))))))) := by rfl
set_option maxRecDepth 100000 in
theorem cb_X7_read (x0 : Nat) (s : σ) : cx_B ct_lc gi gr pi pr ai ar wi wr an nw na io dp ct_ft ct_sg 1 [] ct_X7_read ca jm 1000 ct_X7_read [some (vr_ (some x0))] [] s =
  ((gi 164 (some x0) s).bind fun v1 =>
  ((gi 163 (some x0) s).bind fun v2 =>
  (if v1 = v2 then
    some (.inl (some (vi_ (-1))), s)
  else
    ((gi 164 (some x0) s).bind fun v3 =>
    ((pi 164 (some x0) (v3 + 1) s).bind fun s4 =>
    ((gr 162 (some x0) s4).bind fun v5 =>
    ((gi 164 (some x0) s4).bind fun v6 =>
    ((ai 1 v5 (v6 - 1) s4).bind fun v7 =>
    some (.inl (some (vi_ (v7 &&& 255))), s4))))))))) := by rfl
set_option maxRecDepth 100000 in
theorem cb_X7_number (x0 : Nat) (s : σ) : cx_B ct_lc gi gr pi pr ai ar wi wr an nw na io dp ct_ft ct_sg 1 [] ct_X7_number ca jm 1000 ct_X7_number [some (vr_ (some x0)), none, none] [] s =
  ((gr 165 (some x0) s).bind fun v1 =>
  ((gi 164 (some x0) s).bind fun v2 =>
  ((ai 0 v1 v2 s).bind fun v3 =>
  ((gi 163 (some x0) s).bind fun v4 =>
  (if v3 < v4 then
    ((gr 162 (some x0) s).bind fun v5 =>
    ((ai 1 v5 v3 s).bind fun v6 =>
    (if v6 = 45 then
      jm 44 [vr_ (some x0), vi_ (v3 + 1), vi_ v6] [] s
    else
      (if v6 = 43 then
        jm 44 [vr_ (some x0), vi_ (v3 + 1), vi_ v6] [] s
      else
        jm 44 [vr_ (some x0), vi_ v3, vi_ v6] [] s))))
  else
    jm 44 [vr_ (some x0), vi_ v3, vi_ (-1)] [] s))))) := by rfl
set_option maxRecDepth 100000 in
theorem cb_X7_number_44 (x1 x2 : Int32) (x0 : Nat) (s : σ) : cx_B ct_lc gi gr pi pr ai ar wi wr an nw na io dp ct_ft ct_sg 1 [] ct_X7_number ca jm 1000 (pj_at ct_X7_number 44) [some (vr_ (some x0)), some (vi_ x1), some (vi_ x2)] [] s =
  ((gr 166 (some x0) s).bind fun v1 =>
  ((ai 0 v1 x1 s).bind fun v2 =>
  ((pi 164 (some x0) v2 s).bind fun s3 =>
  (if x2 = 45 then
    ((gr 167 (some x0) s3).bind fun v4 =>
    ((ai 0 v4 x1 s3).bind fun v5 =>
    some (.inl (some (vi_ (-v5))), s3)))
  else
    ((gr 167 (some x0) s3).bind fun v6 =>
    ((ai 0 v6 x1 s3).bind fun v7 =>
    some (.inl (some (vi_ v7)), s3))))))) := by rfl
set_option maxRecDepth 100000 in
theorem cb_X9_init (x1 x2 x3 : Option Nat) (x0 : Nat) (s : σ) : cx_B ct_lc gi gr pi pr ai ar wi wr an nw na io dp ct_ft ct_sg 0 [] ct_X9_init ca jm 1000 ct_X9_init [some (vr_ (some x0)), some (vr_ x1), some (vr_ x2), some (vr_ x3)] [] s =
  (cx_bV cx_th (ca 151 [vr_ (some x0)] s) fun s1 =>
  (cx_bV cx_th (ca 72 [vr_ (some (nw 36 s1).1)] (nw 36 s1).2) fun s2 =>
  ((pr 169 (some x0) (some (nw 36 s1).1) s2).bind fun s3 =>
  (cx_bV cx_th (ca 72 [vr_ (some (nw 36 s3).1)] (nw 36 s3).2) fun s4 =>
  ((pr 170 (some x0) (some (nw 36 s3).1) s4).bind fun s5 =>
  ((pi 173 (some x0) (-1) s5).bind fun s6 =>
  ((pi 175 (some x0) (-1) s6).bind fun s7 =>
  (cx_bV cx_th (ca 72 [vr_ (some (nw 36 s7).1)] (nw 36 s7).2) fun s8 =>
  ((pr 184 (some x0) (some (nw 36 s7).1) s8).bind fun s9 =>
  ((pr 171 (some x0) x1 s9).bind fun s10 =>
  ((pr 176 (some x0) x2 s10).bind fun s11 =>
  ((gr 169 (some x0) s11).bind fun v12 =>
  ((dp 73 v12 s11).bind fun m13 =>
  (cx_bI cx_th (ca m13 [vr_ v12, vr_ x3] s11) fun v15 s14 =>
  some (.inl none, s14))))))))))))))) := by rfl
set_option maxRecDepth 100000 in
theorem cb_X9_text (x1 x2 : Option Nat) (x0 : Nat) (s : σ) : cx_B ct_lc gi gr pi pr ai ar wi wr an nw na io dp ct_ft ct_sg 0 [] ct_X9_text ca jm 1000 ct_X9_text [some (vr_ (some x0)), some (vr_ x1), some (vr_ x2), none, none] [] s =
  ((dp 370 (some x0) s).bind fun m1 =>
  (cx_bV cx_th (ca m1 [vr_ (some x0), vr_ x2] s) fun s2 =>
  ((dp 371 (some x0) s2).bind fun m3 =>
  (cx_bV cx_th (ca m3 [vr_ (some x0)] s2) fun s4 =>
  jm 11 [vr_ (some x0), vr_ x1, vi_ 0] [] s4)))) := by rfl
set_option maxRecDepth 100000 in
theorem cb_X9_text_11 (x3 : Int32) (x1 : Option Nat) (x0 : Nat) (s : σ) : cx_B ct_lc gi gr pi pr ai ar wi wr an nw na io dp ct_ft ct_sg 0 [] ct_X9_text ca jm 1000 (pj_at ct_X9_text 11) [some (vr_ (some x0)), some (vr_ x1), none, some (vi_ x3), none] [] s =
  ((dp 78 x1 s).bind fun m1 =>
  (cx_bI cx_th (ca m1 [vr_ x1] s) fun v3 s2 =>
  (if x3 < v3 then
    ((dp 79 x1 s2).bind fun m4 =>
    (cx_bR cx_th (ca m4 [vr_ x1, vi_ x3] s2) fun v6 s5 =>
    ((cx_cst io 9 v6 s5).bind fun _ =>
    ((dp 372 (some x0) s5).bind fun m7 =>
    (cx_bV cx_th (ca m7 [vr_ (some x0), vr_ v6] s5) fun s8 =>
    jm 11 [vr_ (some x0), vr_ x1, vi_ (x3 + 1)] [] s8)))))
  else
    ((gi 172 (some x0) s2).bind fun v9 =>
    (if 1500 < v9 then
      jm 82 [vr_ (some x0), vi_ 0, vi_ 0] [] s2
    else
      ((gr 170 (some x0) s2).bind fun v10 =>
      ((dp 78 v10 s2).bind fun m11 =>
      (cx_bI cx_th (ca m11 [vr_ v10] s2) fun v13 s12 =>
      (if 200 < v13 then
        jm 82 [vr_ (some x0), vi_ 0, vi_ 0] [] s12
      else
        ((gi 175 (some x0) s12).bind fun v14 =>
        (if v14 < 0 then
          jm 82 [vr_ (some x0), vi_ 0, vi_ 0] [] s12
        else
          jm 82 [vr_ (some x0), vi_ 1, vi_ 0] [] s12))))))))))) := by rfl
set_option maxRecDepth 100000 in
theorem cb_X9_text_82 (x3 x4 : Int32) (x0 : Nat) (s : σ) : cx_B ct_lc gi gr pi pr ai ar wi wr an nw na io dp ct_ft ct_sg 0 [] ct_X9_text ca jm 1000 (pj_at ct_X9_text 82) [some (vr_ (some x0)), none, none, some (vi_ x3), some (vi_ x4)] [] s =
  ((gr 170 (some x0) s).bind fun v1 =>
  ((dp 78 v1 s).bind fun m2 =>
  (cx_bI cx_th (ca m2 [vr_ v1] s) fun v4 s3 =>
  (if x4 < v4 then
    (if x3 = 0 then
      jm 82 [vr_ (some x0), vi_ 0, vi_ (x4 + 1)] [] s3
    else
      ((gr 170 (some x0) s3).bind fun v5 =>
      ((dp 79 v5 s3).bind fun m6 =>
      (cx_bR cx_th (ca m6 [vr_ v5, vi_ x4] s3) fun v8 s7 =>
      ((cx_cst io 11 v8 s7).bind fun _ =>
      ((gi 118 v8 s7).bind fun v9 =>
      (if 32000 < v9 then
        jm 82 [vr_ (some x0), vi_ 0, vi_ (x4 + 1)] [] s7
      else
        jm 82 [vr_ (some x0), vi_ 1, vi_ (x4 + 1)] [] s7)))))))
  else
    ((gi 173 (some x0) s3).bind fun v10 =>
    (if v10 < 0 then
      (if x3 = 0 then
        ((dp 375 (some x0) s3).bind fun m11 =>
        (cx_bV cx_th (ca m11 [vr_ (some x0), vi_ 0, vi_ 7] s3) fun s12 =>
        some (.inl none, s12)))
      else
        some (.inl none, s3))
    else
      some (.inl none, s3))))))) := by rfl
set_option maxRecDepth 100000 in
theorem cb_X9_lay (x1 : Option Nat) (x0 : Nat) (s : σ) : cx_B ct_lc gi gr pi pr ai ar wi wr an nw na io dp ct_ft ct_sg 0 [] ct_X9_lay ca jm 1000 ct_X9_lay [some (vr_ (some x0)), some (vr_ x1), none, none, none, none, none] [] s =
  jm 4 [vr_ (some x0), vr_ x1, vi_ 0, vi_ 0] [] s := by rfl
set_option maxRecDepth 100000 in
theorem cb_X9_lay_4 (x2 x3 : Int32) (x1 : Option Nat) (x0 : Nat) (s : σ) : cx_B ct_lc gi gr pi pr ai ar wi wr an nw na io dp ct_ft ct_sg 0 [] ct_X9_lay ca jm 1000 (pj_at ct_X9_lay 4) [some (vr_ (some x0)), some (vr_ x1), some (vi_ x2), some (vi_ x3), none, none, none] [] s =
  ((dp 78 x1 s).bind fun m1 =>
  (cx_bI cx_th (ca m1 [vr_ x1] s) fun v3 s2 =>
  (if x3 < v3 then
    ((dp 79 x1 s2).bind fun m4 =>
    (cx_bR cx_th (ca m4 [vr_ x1, vi_ x3] s2) fun v6 s5 =>
    ((cx_cst io 9 v6 s5).bind fun _ =>
    ((gr 99 v6 s5).bind fun v7 =>
    (if v7 = (some 1101) then
      ((gr 103 v6 s5).bind fun v8 =>
      ((dp 86 v8 s5).bind fun m9 =>
      (cx_bI cx_th (ca m9 [vr_ v8] s5) fun v11 s10 =>
      ((pj_div v11 4).bind fun v12 =>
      jm 72 [vr_ (some x0), vr_ x1, vi_ x2, vi_ x3, vr_ v6] [vi_ (1 + v12)] s10))))
    else
      ((gr 99 v6 s5).bind fun v13 =>
      (if v13 = (some 1103) then
        ((dp 307 v6 s5).bind fun m14 =>
        (cx_bI cx_th (ca m14 [vr_ v6] s5) fun v16 s15 =>
        jm 72 [vr_ (some x0), vr_ x1, vi_ x2, vi_ x3, vr_ v6] [vi_ v16] s15))
      else
        jm 72 [vr_ (some x0), vr_ x1, vi_ x2, vi_ x3, vr_ v6] [vi_ 1] s5)))))))
  else
    jm 284 [vr_ (some x0), vi_ x2, vi_ 0] [] s2))) := by rfl
set_option maxRecDepth 100000 in
theorem cb_X9_lay_72 (x2 x3 y0 : Int32) (x1 x4 : Option Nat) (x0 : Nat) (s : σ) : cx_B ct_lc gi gr pi pr ai ar wi wr an nw na io dp ct_ft ct_sg 0 [] ct_X9_lay ca jm 1000 (pj_at ct_X9_lay 72) [some (vr_ (some x0)), some (vr_ x1), some (vi_ x2), some (vi_ x3), some (vr_ x4), none, none] [vi_ y0] s =
  ((gr 99 x4 s).bind fun v1 =>
  (if v1 = (some 1129) then
    ((cx_cst io 5 x4 s).bind fun _ =>
    ((pi 112 x4 x2 s).bind fun s2 =>
    ((gi 110 x4 s2).bind fun v3 =>
    (if v3 = 0 then
      jm 112 [vr_ (some x0), vr_ x1, vi_ (x2 + 1), vi_ x3, vr_ x4, vi_ y0] [] s2
    else
      jm 4 [vr_ (some x0), vr_ x1, vi_ (x2 + 1), vi_ (x3 + 1)] [] s2))))
  else
    jm 112 [vr_ (some x0), vr_ x1, vi_ x2, vi_ x3, vr_ x4, vi_ y0] [] s)) := by rfl
set_option maxRecDepth 100000 in
theorem cb_X9_lay_112 (x2 x3 x5 : Int32) (x1 x4 : Option Nat) (x0 : Nat) (s : σ) : cx_B ct_lc gi gr pi pr ai ar wi wr an nw na io dp ct_ft ct_sg 0 [] ct_X9_lay ca jm 1000 (pj_at ct_X9_lay 112) [some (vr_ (some x0)), some (vr_ x1), some (vi_ x2), some (vi_ x3), some (vr_ x4), some (vi_ x5), none] [] s =
  ((gi 172 (some x0) s).bind fun v1 =>
  ((pi 104 x4 (100 + v1) s).bind fun s2 =>
  ((gi 172 (some x0) s2).bind fun v3 =>
  (if 1500 < (v3 + x5) then
    jm 226 [vr_ (some x0), vr_ x1, vi_ x2, vi_ x3, vr_ x4, vi_ x5] [] s2
  else
    ((gr 99 x4 s2).bind fun v4 =>
    (if v4 = (some 1101) then
      ((gr 171 (some x0) s2).bind fun v5 =>
      ((gi 172 (some x0) s2).bind fun v6 =>
      ((gr 103 x4 s2).bind fun v7 =>
      ((dp 86 v7 s2).bind fun m8 =>
      (cx_bI cx_th (ca m8 [vr_ v7] s2) fun v10 s9 =>
      ((wi 0 v5 v6 v10 s9).bind fun s11 =>
      jm 168 [vr_ (some x0), vr_ x1, vi_ x2, vi_ x3, vr_ x4, vi_ x5, vi_ 0] [] s11))))))
    else
      jm 226 [vr_ (some x0), vr_ x1, vi_ x2, vi_ x3, vr_ x4, vi_ x5] [] s2)))))) := by rfl
set_option maxRecDepth 100000 in
theorem cb_X9_lay_168 (x2 x3 x5 x6 : Int32) (x1 x4 : Option Nat) (x0 : Nat) (s : σ) : cx_B ct_lc gi gr pi pr ai ar wi wr an nw na io dp ct_ft ct_sg 0 [] ct_X9_lay ca jm 1000 (pj_at ct_X9_lay 168) [some (vr_ (some x0)), some (vr_ x1), some (vi_ x2), some (vi_ x3), some (vr_ x4), some (vi_ x5), some (vi_ x6)] [] s =
  ((gr 103 x4 s).bind fun v1 =>
  ((dp 86 v1 s).bind fun m2 =>
  (cx_bI cx_th (ca m2 [vr_ v1] s) fun v4 s3 =>
  (if x6 < v4 then
    ((gr 171 (some x0) s3).bind fun v5 =>
    ((gi 172 (some x0) s3).bind fun v6 =>
    ((pj_div (x6 + 1) 4).bind fun v7 =>
    ((ai 0 v5 (v6 + v7) s3).bind fun v8 =>
    ((gr 103 x4 s3).bind fun v9 =>
    ((dp 88 v9 s3).bind fun m10 =>
    (cx_bI cx_th (ca m10 [vr_ v9, vi_ x6] s3) fun v12 s11 =>
    ((pj_rem (x6 + 1) 4).bind fun v13 =>
    ((wi 0 v5 (v6 + v7) (v8 ||| (v12 <<< ((8 * v13) &&& 31))) s11).bind fun s14 =>
    jm 168 [vr_ (some x0), vr_ x1, vi_ x2, vi_ x3, vr_ x4, vi_ x5, vi_ (x6 + 1)] [] s14)))))))))
  else
    jm 226 [vr_ (some x0), vr_ x1, vi_ x2, vi_ x3, vr_ x4, vi_ x5] [] s3)))) := by rfl
set_option maxRecDepth 100000 in
theorem cb_X9_lay_226 (x2 x3 x5 : Int32) (x1 x4 : Option Nat) (x0 : Nat) (s : σ) : cx_B ct_lc gi gr pi pr ai ar wi wr an nw na io dp ct_ft ct_sg 0 [] ct_X9_lay ca jm 1000 (pj_at ct_X9_lay 226) [some (vr_ (some x0)), some (vr_ x1), some (vi_ x2), some (vi_ x3), some (vr_ x4), some (vi_ x5), none] [] s =
  ((gi 172 (some x0) s).bind fun v1 =>
  (if 1500 < (v1 + x5) then
    ((gi 172 (some x0) s).bind fun v2 =>
    ((pi 172 (some x0) (v2 + x5) s).bind fun s3 =>
    jm 4 [vr_ (some x0), vr_ x1, vi_ x2, vi_ (x3 + 1)] [] s3))
  else
    ((gr 99 x4 s).bind fun v4 =>
    (if v4 = (some 1129) then
      ((gr 171 (some x0) s).bind fun v5 =>
      ((gi 172 (some x0) s).bind fun v6 =>
      ((wi 0 v5 v6 ((1000000 + x2) - 1) s).bind fun s7 =>
      ((gi 172 (some x0) s7).bind fun v8 =>
      ((pi 172 (some x0) (v8 + x5) s7).bind fun s9 =>
      jm 4 [vr_ (some x0), vr_ x1, vi_ x2, vi_ (x3 + 1)] [] s9)))))
    else
      ((gi 172 (some x0) s).bind fun v10 =>
      ((pi 172 (some x0) (v10 + x5) s).bind fun s11 =>
      jm 4 [vr_ (some x0), vr_ x1, vi_ x2, vi_ (x3 + 1)] [] s11)))))) := by rfl
set_option maxRecDepth 100000 in
theorem cb_X9_lay_284 (x2 x3 : Int32) (x0 : Nat) (s : σ) : cx_B ct_lc gi gr pi pr ai ar wi wr an nw na io dp ct_ft ct_sg 0 [] ct_X9_lay ca jm 1000 (pj_at ct_X9_lay 284) [some (vr_ (some x0)), none, some (vi_ x2), some (vi_ x3), none, none, none] [] s =
  (if x3 < x2 then
    ((gr 170 (some x0) s).bind fun v1 =>
    (cx_bV cx_th (ca 310 [vr_ (some (nw 11 s).1)] (nw 11 s).2) fun s2 =>
    ((dp 73 v1 s2).bind fun m3 =>
    (cx_bI cx_th (ca m3 [vr_ v1, vr_ (some (nw 11 s).1)] s2) fun v5 s4 =>
    jm 284 [vr_ (some x0), vi_ x2, vi_ (x3 + 1)] [] s4))))
  else
    some (.inl none, s)) := by rfl
set_option maxRecDepth 100000 in
theorem cb_X9_open (x0 : Nat) (s : σ) : cx_B ct_lc gi gr pi pr ai ar wi wr an nw na io dp ct_ft ct_sg 0 [] ct_X9_open ca jm 1000 ct_X9_open [some (vr_ (some x0))] [] s =
  ((gr 169 (some x0) s).bind fun v1 =>
  (cx_bV cx_th (ca 1 [vr_ (some (nw 38 s).1)] (nw 38 s).2) fun s2 =>
  ((dp 73 v1 s2).bind fun m3 =>
  (cx_bI cx_th (ca m3 [vr_ v1, vr_ (some (nw 38 s).1)] s2) fun v5 s4 =>
  some (.inl none, s4))))) := by rfl
set_option maxRecDepth 100000 in
theorem cb_X9_declaration (x1 : Option Nat) (x0 : Nat) (s : σ) : cx_B ct_lc gi gr pi pr ai ar wi wr an nw na io dp ct_ft ct_sg 0 [] ct_X9_declaration ca jm 1000 ct_X9_declaration [some (vr_ (some x0)), some (vr_ x1)] [] s =
  ((gr 99 x1 s).bind fun v1 =>
  ((dp 200 v1 s).bind fun m2 =>
  (cx_bI cx_th (ca m2 [vr_ v1] s) fun v4 s3 =>
  (if v4 = Int32.ofInt 37 then
    ((cx_cst io 5 x1 s3).bind fun _ =>
    ((dp 406 (some x0) s3).bind fun m5 =>
    (cx_bV cx_th (ca m5 [vr_ (some x0), vr_ x1] s3) fun s6 =>
    some (.inl none, s6))))
  else
  (if v4 = Int32.ofInt 38 then
    ((dp 373 (some x0) s3).bind fun m7 =>
    (cx_bV cx_th (ca m7 [vr_ (some x0), vr_ x1] s3) fun s8 =>
    some (.inl none, s8)))
  else
  ((dp 407 (some x0) s3).bind fun m9 =>
    (cx_bV cx_th (ca m9 [vr_ (some x0), vr_ x1] s3) fun s10 =>
    some (.inl none, s10)))))))) := by rfl
set_option maxRecDepth 100000 in
theorem cb_X9_routinesOf (x1 : Option Nat) (x0 : Nat) (s : σ) : cx_B ct_lc gi gr pi pr ai ar wi wr an nw na io dp ct_ft ct_sg 0 [] ct_X9_routinesOf ca jm 1000 ct_X9_routinesOf [some (vr_ (some x0)), some (vr_ x1), none, none, none, none, none] [] s =
  ((gr 105 x1 s).bind fun v1 =>
  jm 5 [vr_ (some x0), vr_ x1, vr_ v1] [] s) := by rfl
set_option maxRecDepth 100000 in
theorem cb_X9_routinesOf_5 (x1 x2 : Option Nat) (x0 : Nat) (s : σ) : cx_B ct_lc gi gr pi pr ai ar wi wr an nw na io dp ct_ft ct_sg 0 [] ct_X9_routinesOf ca jm 1000 (pj_at ct_X9_routinesOf 5) [some (vr_ (some x0)), some (vr_ x1), some (vr_ x2), none, none, none, none] [] s =
  (if x2 = none then
    ((gr 105 x1 s).bind fun v1 =>
    jm 195 [vr_ (some x0), vr_ v1] [] s)
  else
    ((cx_cst io 5 x2 s).bind fun _ =>
    ((gr 169 (some x0) s).bind fun v2 =>
    ((gr 169 (some x0) s).bind fun v3 =>
    ((dp 78 v3 s).bind fun m4 =>
    (cx_bI cx_th (ca m4 [vr_ v3] s) fun v6 s5 =>
    ((dp 79 v2 s5).bind fun m7 =>
    (cx_bR cx_th (ca m7 [vr_ v2, vi_ (v6 - 1)] s5) fun v9 s8 =>
    ((cx_cst io 56 v9 s8).bind fun _ =>
    ((gr 103 x2 s8).bind fun v10 =>
    ((dp 17 v9 s8).bind fun m11 =>
    (cx_bR cx_th (ca m11 [vr_ v9, vr_ v10] s8) fun v13 s12 =>
    ((cx_cst io 7 v13 s12).bind fun _ =>
    ((gi 110 x2 s12).bind fun v14 =>
    (if v14 = 0 then
      jm 88 [vr_ (some x0), vr_ x1, vr_ x2, vr_ x2, vr_ v13] [vi_ 0] s12
    else
      (if v13 = none then
        jm 88 [vr_ (some x0), vr_ x1, vr_ x2, vr_ x2, vr_ v13] [vi_ 0] s12
      else
        ((gi 158 v13 s12).bind fun v15 =>
        (if v15 = 0 then
          jm 88 [vr_ (some x0), vr_ x1, vr_ x2, vr_ x2, vr_ v13] [vi_ 0] s12
        else
          ((gi 157 v13 s12).bind fun v16 =>
          (if v16 = 0 then
            jm 88 [vr_ (some x0), vr_ x1, vr_ x2, vr_ x2, vr_ v13] [vi_ 1] s12
          else
            jm 88 [vr_ (some x0), vr_ x1, vr_ x2, vr_ x2, vr_ v13] [vi_ 0] s12)))))))))))))))))))) := by rfl
set_option maxRecDepth 100000 in
theorem cb_X9_routinesOf_88 (y0 : Int32) (x1 x2 x3 x5 : Option Nat) (x0 : Nat) (s : σ) : cx_B ct_lc gi gr pi pr ai ar wi wr an nw na io dp ct_ft ct_sg 0 [] ct_X9_routinesOf ca jm 1000 (pj_at ct_X9_routinesOf 88) [some (vr_ (some x0)), some (vr_ x1), some (vr_ x2), some (vr_ x3), none, some (vr_ x5), none] [vi_ y0] s =
  ((gi 109 x3 s).bind fun v1 =>
  (if v1 = 0 then
    jm 125 [vr_ (some x0), vr_ x1, vr_ x2, vr_ x3, vr_ x5, vi_ y0] [] s
  else
    ((gr 103 x3 s).bind fun v2 =>
    ((dp 99 v2 s).bind fun m3 =>
    (cx_bI cx_th (ca m3 [vr_ v2, vr_ (some 1147)] s) fun v5 s4 =>
    (if v5 = 0 then
      jm 125 [vr_ (some x0), vr_ x1, vr_ x2, vr_ x3, vr_ x5, vi_ y0] [] s4
    else
      ((gi 175 (some x0) s4).bind fun v6 =>
      (if v6 < 0 then
        ((gi 112 x3 s4).bind fun v7 =>
        ((pi 175 (some x0) v7 s4).bind fun s8 =>
        jm 125 [vr_ (some x0), vr_ x1, vr_ x2, vr_ x3, vr_ x5, vi_ y0] [] s8))
      else
        jm 125 [vr_ (some x0), vr_ x1, vr_ x2, vr_ x3, vr_ x5, vi_ y0] [] s4)))))))) := by rfl
set_option maxRecDepth 100000 in
theorem cb_X9_routinesOf_125 (x6 : Int32) (x1 x2 x3 x5 : Option Nat) (x0 : Nat) (s : σ) : cx_B ct_lc gi gr pi pr ai ar wi wr an nw na io dp ct_ft ct_sg 0 [] ct_X9_routinesOf ca jm 1000 (pj_at ct_X9_routinesOf 125) [some (vr_ (some x0)), some (vr_ x1), some (vr_ x2), some (vr_ x3), none, some (vr_ x5), some (vi_ x6)] [] s =
  (if x6 = 0 then
    ((gr 103 x3 s).bind fun v1 =>
    ((gi 100 x3 s).bind fun v2 =>
    ((gi 104 x3 (nw 7 s).2).bind fun v3 =>
    (cx_bV cx_th (ca 361 [vr_ (some (nw 7 s).1), vr_ (some 1148), vi_ v3] (nw 7 s).2) fun s4 =>
    ((dp 374 (some x0) s4).bind fun m5 =>
    (cx_bV cx_th (ca m5 [vr_ (some x0), vr_ v1, vi_ v2, vr_ (some (nw 7 s).1)] s4) fun s6 =>
    ((gr 107 x2 s6).bind fun v7 =>
    jm 5 [vr_ (some x0), vr_ x1, vr_ v7] [] s6)))))))
  else
    ((pi 157 x5 1 s).bind fun s8 =>
    ((gr 176 (some x0) s8).bind fun v9 =>
    ((gi 155 x5 s8).bind fun v10 =>
    ((gi 112 x3 s8).bind fun v11 =>
    ((wi 0 v9 v10 (1000000 + v11) s8).bind fun s12 =>
    ((gr 107 x2 s12).bind fun v13 =>
    jm 5 [vr_ (some x0), vr_ x1, vr_ v13] [] s12))))))) := by rfl
set_option maxRecDepth 100000 in
theorem cb_X9_routinesOf_195 (x2 : Option Nat) (x0 : Nat) (s : σ) : cx_B ct_lc gi gr pi pr ai ar wi wr an nw na io dp ct_ft ct_sg 0 [] ct_X9_routinesOf ca jm 1000 (pj_at ct_X9_routinesOf 195) [some (vr_ (some x0)), none, some (vr_ x2), none, none, none, none] [] s =
  (if x2 = none then
    some (.inl none, s)
  else
    ((cx_cst io 5 x2 s).bind fun _ =>
    ((dp 376 (some x0) s).bind fun m1 =>
    (cx_bV cx_th (ca m1 [vr_ (some x0), vr_ x2] s) fun s2 =>
    ((gr 107 x2 s2).bind fun v3 =>
    jm 195 [vr_ (some x0), vr_ v3] [] s2))))) := by rfl
set_option maxRecDepth 100000 in
theorem cb_X9_declare (x2 : Int32) (x1 x3 : Option Nat) (x0 : Nat) (s : σ) : cx_B ct_lc gi gr pi pr ai ar wi wr an nw na io dp ct_ft ct_sg 0 [] ct_X9_declare ca jm 1000 ct_X9_declare [some (vr_ (some x0)), some (vr_ x1), some (vi_ x2), some (vr_ x3), none] [] s =
  ((gr 169 (some x0) s).bind fun v1 =>
  ((gr 169 (some x0) s).bind fun v2 =>
  ((dp 78 v2 s).bind fun m3 =>
  (cx_bI cx_th (ca m3 [vr_ v2] s) fun v5 s4 =>
  ((dp 79 v1 s4).bind fun m6 =>
  (cx_bR cx_th (ca m6 [vr_ v1, vi_ (v5 - 1)] s4) fun v8 s7 =>
  ((cx_cst io 56 v8 s7).bind fun _ =>
  ((dp 2 v8 s7).bind fun m9 =>
  (cx_bR cx_th (ca m9 [vr_ v8, vr_ x1, vr_ x3] s7) fun v11 s10 =>
  ((cx_cst io 7 v11 s10).bind fun _ =>
  (if v11 = none then
    ((pi 159 x3 x2 s10).bind fun s12 =>
    (if v11 = none then
      some (.inl none, s12)
    else
      ((gi 159 v11 s12).bind fun v13 =>
      (cx_bI cx_th (ca 193 [vi_ v13, vi_ x2] s12) fun v15 s14 =>
      ((dp 375 (some x0) s14).bind fun m16 =>
      (cx_bV cx_th (ca m16 [vr_ (some x0), vi_ v15, vi_ 4] s14) fun s17 =>
      some (.inl none, s17)))))))
  else
    ((gi 159 v11 s10).bind fun v18 =>
    (cx_bI cx_th (ca 192 [vi_ v18, vi_ x2] s10) fun v20 s19 =>
    ((pi 159 x3 v20 s19).bind fun s21 =>
    (if v11 = none then
      some (.inl none, s21)
    else
      ((gi 159 v11 s21).bind fun v22 =>
      (cx_bI cx_th (ca 193 [vi_ v22, vi_ x2] s21) fun v24 s23 =>
      ((dp 375 (some x0) s23).bind fun m25 =>
      (cx_bV cx_th (ca m25 [vr_ (some x0), vi_ v24, vi_ 4] s23) fun s26 =>
      some (.inl none, s26)))))))))))))))))))) := by rfl
set_option maxRecDepth 100000 in
theorem cb_X9_wrong (x1 x2 : Int32) (x0 : Nat) (s : σ) : cx_B ct_lc gi gr pi pr ai ar wi wr an nw na io dp ct_ft ct_sg 0 [] ct_X9_wrong ca jm 1000 ct_X9_wrong [some (vr_ (some x0)), some (vi_ x1), some (vi_ x2)] [] s =
  ((gi 173 (some x0) s).bind fun v1 =>
  (if v1 < 0 then
    ((pi 173 (some x0) x1 s).bind fun s2 =>
    ((pi 174 (some x0) x2 s2).bind fun s3 =>
    some (.inl none, s3)))
  else
    ((gi 173 (some x0) s).bind fun v4 =>
    (if v4 < x1 then
      some (.inl none, s)
    else
      ((gi 173 (some x0) s).bind fun v5 =>
      (if v5 = x1 then
        ((gi 174 (some x0) s).bind fun v6 =>
        (if x2 < v6 then
          ((pi 173 (some x0) x1 s).bind fun s7 =>
          ((pi 174 (some x0) x2 s7).bind fun s8 =>
          some (.inl none, s8)))
        else
          some (.inl none, s)))
      else
        ((pi 173 (some x0) x1 s).bind fun s9 =>
        ((pi 174 (some x0) x2 s9).bind fun s10 =>
        some (.inl none, s10))))))))) := by rfl
set_option maxRecDepth 100000 in
theorem cb_X9_routine (x1 : Option Nat) (x0 : Nat) (s : σ) : cx_B ct_lc gi gr pi pr ai ar wi wr an nw na io dp ct_ft ct_sg 0 [] ct_X9_routine ca jm 1000 ct_X9_routine [some (vr_ (some x0)), some (vr_ x1), none, none, none, none, none, none, none] [] s =
  ((gr 177 (some x0) s).bind fun v1 =>
  ((gr 178 (some x0) s).bind fun v2 =>
  ((gr 179 (some x0) s).bind fun v3 =>
  ((gr 180 (some x0) s).bind fun v4 =>
  ((gr 181 (some x0) s).bind fun v5 =>
  ((pr 178 (some x0) none s).bind fun s6 =>
  ((pr 179 (some x0) none s6).bind fun s7 =>
  ((pr 180 (some x0) none s7).bind fun s8 =>
  ((pr 181 (some x0) none s8).bind fun s9 =>
  ((gr 170 (some x0) s9).bind fun v10 =>
  ((gi 112 x1 s9).bind fun v11 =>
  ((dp 79 v10 s9).bind fun m12 =>
  (cx_bR cx_th (ca m12 [vr_ v10, vi_ v11] s9) fun v14 s13 =>
  ((cx_cst io 11 v14 s13).bind fun _ =>
  ((pr 177 (some x0) v14 s13).bind fun s15 =>
  ((gr 177 (some x0) s15).bind fun v16 =>
  ((gr 108 x1 s15).bind fun v17 =>
  ((dp 78 v17 s15).bind fun m18 =>
  (cx_bI cx_th (ca m18 [vr_ v17] s15) fun v20 s19 =>
  ((pi 116 v16 v20 s19).bind fun s21 =>
  ((gr 177 (some x0) s21).bind fun v22 =>
  ((gi 111 x1 s21).bind fun v23 =>
  ((pi 119 v22 v23 s21).bind fun s24 =>
  ((dp 371 (some x0) s24).bind fun m25 =>
  (cx_bV cx_th (ca m25 [vr_ (some x0)] s24) fun s26 =>
  jm 102 [vr_ (some x0), vr_ x1, vr_ v1, vr_ v2, vr_ v3, vr_ v4, vr_ v5, vi_ 0] [] s26))))))))))))))))))))))))) := by rfl
set_option maxRecDepth 100000 in
theorem cb_X9_routine_102 (x7 : Int32) (x1 x2 x3 x4 x5 x6 : Option Nat) (x0 : Nat) (s : σ) : cx_B ct_lc gi gr pi pr ai ar wi wr an nw na io dp ct_ft ct_sg 0 [] ct_X9_routine ca jm 1000 (pj_at ct_X9_routine 102) [some (vr_ (some x0)), some (vr_ x1), some (vr_ x2), some (vr_ x3), some (vr_ x4), some (vr_ x5), some (vr_ x6), some (vi_ x7), none] [] s =
  ((gr 108 x1 s).bind fun v1 =>
  ((dp 78 v1 s).bind fun m2 =>
  (cx_bI cx_th (ca m2 [vr_ v1] s) fun v4 s3 =>
  (if x7 < v4 then
    ((gr 108 x1 s3).bind fun v5 =>
    ((dp 79 v5 s3).bind fun m6 =>
    (cx_bR cx_th (ca m6 [vr_ v5, vi_ x7] s3) fun v8 s7 =>
    ((cx_cst io 14 v8 s7).bind fun _ =>
    ((gr 88 v8 s7).bind fun v9 =>
    ((gi 85 v8 s7).bind fun v10 =>
    ((dp 377 (some x0) s7).bind fun m11 =>
    (cx_bR cx_th (ca m11 [vr_ (some x0)] s7) fun v13 s12 =>
    ((dp 374 (some x0) s12).bind fun m14 =>
    (cx_bV cx_th (ca m14 [vr_ (some x0), vr_ v9, vi_ v10, vr_ v13] s12) fun s15 =>
    jm 102 [vr_ (some x0), vr_ x1, vr_ x2, vr_ x3, vr_ x4, vr_ x5, vr_ x6, vi_ (x7 + 1)] [] s15))))))))))
  else
    ((gr 177 (some x0) s3).bind fun v16 =>
    ((gi 119 v16 s3).bind fun v17 =>
    (if v17 = 0 then
      ((dp 308 x1 s3).bind fun m18 =>
      (cx_bR cx_th (ca m18 [vr_ x1, vi_ 0] s3) fun v20 s19 =>
      ((dp 391 (some x0) s19).bind fun m21 =>
      (cx_bV cx_th (ca m21 [vr_ (some x0), vr_ v20] s19) fun s22 =>
      ((gr 177 (some x0) s22).bind fun v23 =>
      ((dp 312 v23 s22).bind fun m24 =>
      (cx_bI cx_th (ca m24 [vr_ v23, vi_ 0, vi_ 0] s22) fun v26 s25 =>
      jm 197 [vr_ (some x0), vr_ x2, vr_ x3, vr_ x4, vr_ x5, vr_ x6] [] s25)))))))
    else
      ((dp 308 x1 s3).bind fun m27 =>
      (cx_bR cx_th (ca m27 [vr_ x1, vi_ 0] s3) fun v29 s28 =>
      ((dp 378 (some x0) s28).bind fun m30 =>
      (cx_bV cx_th (ca m30 [vr_ (some x0), vr_ v29] s28) fun s31 =>
      jm 197 [vr_ (some x0), vr_ x2, vr_ x3, vr_ x4, vr_ x5, vr_ x6] [] s31))))))))))) := by rfl
set_option maxRecDepth 100000 in
theorem cb_X9_routine_197 (x2 x3 x4 x5 x6 : Option Nat) (x0 : Nat) (s : σ) : cx_B ct_lc gi gr pi pr ai ar wi wr an nw na io dp ct_ft ct_sg 0 [] ct_X9_routine ca jm 1000 (pj_at ct_X9_routine 197) [some (vr_ (some x0)), none, some (vr_ x2), some (vr_ x3), some (vr_ x4), some (vr_ x5), some (vr_ x6), none, none] [] s =
  ((gr 177 (some x0) s).bind fun v1 =>
  ((dp 312 v1 s).bind fun m2 =>
  (cx_bI cx_th (ca m2 [vr_ v1, vi_ 17, vi_ 0] s) fun v4 s3 =>
  ((dp 400 (some x0) s3).bind fun m5 =>
  (cx_bV cx_th (ca m5 [vr_ (some x0)] s3) fun s6 =>
  ((pr 177 (some x0) x2 s6).bind fun s7 =>
  ((pr 178 (some x0) x3 s7).bind fun s8 =>
  ((pr 179 (some x0) x4 s8).bind fun s9 =>
  ((pr 180 (some x0) x5 s9).bind fun s10 =>
  ((pr 181 (some x0) x6 s10).bind fun s11 =>
  some (.inl none, s11))))))))))) := by rfl
set_option maxRecDepth 100000 in
theorem cb_X9_local (x0 : Nat) (s : σ) : cx_B ct_lc gi gr pi pr ai ar wi wr an nw na io dp ct_ft ct_sg 3 [] ct_X9_local ca jm 1000 ct_X9_local [some (vr_ (some x0)), none] [] s =
  ((gr 177 (some x0) (nw 7 s).2).bind fun v1 =>
  ((gi 117 v1 (nw 7 s).2).bind fun v2 =>
  (cx_bV cx_th (ca 361 [vr_ (some (nw 7 s).1), vr_ (some 1149), vi_ v2] (nw 7 s).2) fun s3 =>
  ((gr 177 (some x0) s3).bind fun v4 =>
  ((pr 160 (some (nw 7 s).1) v4 s3).bind fun s5 =>
  ((gr 177 (some x0) s5).bind fun v6 =>
  ((dp 311 v6 s5).bind fun m7 =>
  (cx_bV cx_th (ca m7 [vr_ v6, vi_ 1] s5) fun s8 =>
  some (.inl (some (vr_ (some (nw 7 s).1))), s8))))))))) := by rfl
set_option maxRecDepth 100000 in
theorem cb_X9_value (x1 : Option Nat) (x0 : Nat) (s : σ) : cx_B ct_lc gi gr pi pr ai ar wi wr an nw na io dp ct_ft ct_sg 0 [] ct_X9_value ca jm 1000 ct_X9_value [some (vr_ (some x0)), some (vr_ x1), none, none] [] s =
  ((gr 99 x1 s).bind fun v1 =>
  ((dp 200 v1 s).bind fun m2 =>
  (cx_bI cx_th (ca m2 [vr_ v1] s) fun v4 s3 =>
  (if v4 = Int32.ofInt 0 then
    ((gr 177 (some x0) s3).bind fun v5 =>
    ((gi 104 x1 s3).bind fun v6 =>
    ((dp 312 v5 s3).bind fun m7 =>
    (cx_bI cx_th (ca m7 [vr_ v5, vi_ 0, vi_ v6] s3) fun v9 s8 =>
    some (.inl none, s8)))))
  else
  (if v4 = Int32.ofInt 1 then
    ((gr 177 (some x0) s3).bind fun v10 =>
    ((gi 104 x1 s3).bind fun v11 =>
    ((dp 312 v10 s3).bind fun m12 =>
    (cx_bI cx_th (ca m12 [vr_ v10, vi_ 0, vi_ v11] s3) fun v14 s13 =>
    some (.inl none, s13)))))
  else
  (if v4 = Int32.ofInt 2 then
    ((dp 379 (some x0) s3).bind fun m15 =>
    (cx_bR cx_th (ca m15 [vr_ (some x0), vr_ x1] s3) fun v17 s16 =>
    (if v17 = none then
      jm 142 [vr_ (some x0), vr_ v17] [] s16
    else
      ((gr 154 v17 s16).bind fun v18 =>
      (if v18 = (some 1150) then
        ((gi 100 x1 s16).bind fun v19 =>
        ((dp 375 (some x0) s16).bind fun m20 =>
        (cx_bV cx_th (ca m20 [vr_ (some x0), vi_ v19, vi_ 6] s16) fun s21 =>
        jm 142 [vr_ (some x0), vr_ v17] [] s21)))
      else
        jm 142 [vr_ (some x0), vr_ v17] [] s16)))))
  else
  (if v4 = Int32.ofInt 3 then
    ((gr 105 x1 s3).bind fun v22 =>
    ((gr 107 v22 s3).bind fun v23 =>
    jm 397 [vr_ (some x0), vr_ x1, vr_ v23] [] s3))
  else
  (if v4 = Int32.ofInt 4 then
    ((dp 381 (some x0) s3).bind fun m24 =>
    (cx_bV cx_th (ca m24 [vr_ (some x0), vr_ x1] s3) fun s25 =>
    ((gr 177 (some x0) s25).bind fun v26 =>
    ((dp 312 v26 s25).bind fun m27 =>
    (cx_bI cx_th (ca m27 [vr_ v26, vi_ 5, vi_ 0] s25) fun v29 s28 =>
    some (.inl none, s28))))))
  else
  (if v4 = Int32.ofInt 5 then
    ((dp 308 x1 s3).bind fun m30 =>
    (cx_bR cx_th (ca m30 [vr_ x1, vi_ 0] s3) fun v32 s31 =>
    ((dp 382 (some x0) s31).bind fun m33 =>
    (cx_bV cx_th (ca m33 [vr_ (some x0), vr_ v32] s31) fun s34 =>
    some (.inl none, s34)))))
  else
  (if v4 = Int32.ofInt 6 then
    ((dp 308 x1 s3).bind fun m35 =>
    (cx_bR cx_th (ca m35 [vr_ x1, vi_ 0] s3) fun v37 s36 =>
    ((dp 378 (some x0) s36).bind fun m38 =>
    (cx_bV cx_th (ca m38 [vr_ (some x0), vr_ v37] s36) fun s39 =>
    some (.inl none, s39)))))
  else
  (if v4 = Int32.ofInt 7 then
    ((dp 308 x1 s3).bind fun m40 =>
    (cx_bR cx_th (ca m40 [vr_ x1, vi_ 0] s3) fun v42 s41 =>
    ((dp 378 (some x0) s41).bind fun m43 =>
    (cx_bV cx_th (ca m43 [vr_ (some x0), vr_ v42] s41) fun s44 =>
    ((gr 177 (some x0) s44).bind fun v45 =>
    ((gr 99 x1 s44).bind fun v46 =>
    (if v46 = (some 1093) then
      ((dp 312 v45 s44).bind fun m47 =>
      (cx_bI cx_th (ca m47 [vr_ v45, vi_ 8, vi_ 0] s44) fun v49 s48 =>
      some (.inl none, s48)))
    else
      ((dp 312 v45 s44).bind fun m50 =>
      (cx_bI cx_th (ca m50 [vr_ v45, vi_ 9, vi_ 0] s44) fun v52 s51 =>
      some (.inl none, s51))))))))))
  else
  (if v4 = Int32.ofInt 8 then
    ((dp 308 x1 s3).bind fun m53 =>
    (cx_bR cx_th (ca m53 [vr_ x1, vi_ 0] s3) fun v55 s54 =>
    ((dp 378 (some x0) s54).bind fun m56 =>
    (cx_bV cx_th (ca m56 [vr_ (some x0), vr_ v55] s54) fun s57 =>
    ((gr 177 (some x0) s57).bind fun v58 =>
    ((gr 99 x1 s57).bind fun v59 =>
    (if v59 = (some 1093) then
      ((dp 312 v58 s57).bind fun m60 =>
      (cx_bI cx_th (ca m60 [vr_ v58, vi_ 8, vi_ 0] s57) fun v62 s61 =>
      some (.inl none, s61)))
    else
      ((dp 312 v58 s57).bind fun m63 =>
      (cx_bI cx_th (ca m63 [vr_ v58, vi_ 9, vi_ 0] s57) fun v65 s64 =>
      some (.inl none, s64))))))))))
  else
  (if v4 = Int32.ofInt 9 then
    ((dp 384 (some x0) s3).bind fun m66 =>
    (cx_bV cx_th (ca m66 [vr_ (some x0), vr_ x1] s3) fun s67 =>
    some (.inl none, s67)))
  else
  (if v4 = Int32.ofInt 10 then
    ((cx_cst io 5 x1 s3).bind fun _ =>
    ((dp 385 (some x0) s3).bind fun m68 =>
    (cx_bV cx_th (ca m68 [vr_ (some x0), vr_ x1] s3) fun s69 =>
    some (.inl none, s69))))
  else
  (if v4 = Int32.ofInt 11 then
    ((dp 308 x1 s3).bind fun m70 =>
    (cx_bR cx_th (ca m70 [vr_ x1, vi_ 0] s3) fun v72 s71 =>
    ((dp 378 (some x0) s71).bind fun m73 =>
    (cx_bV cx_th (ca m73 [vr_ (some x0), vr_ v72] s71) fun s74 =>
    ((gr 177 (some x0) s74).bind fun v75 =>
    ((dp 312 v75 s74).bind fun m76 =>
    (cx_bI cx_th (ca m76 [vr_ v75, vi_ 14, vi_ 0] s74) fun v78 s77 =>
    ((dp 308 x1 s77).bind fun m79 =>
    (cx_bR cx_th (ca m79 [vr_ x1, vi_ 1] s77) fun v81 s80 =>
    ((dp 378 (some x0) s80).bind fun m82 =>
    (cx_bV cx_th (ca m82 [vr_ (some x0), vr_ v81] s80) fun s83 =>
    ((gr 177 (some x0) s83).bind fun v84 =>
    ((dp 312 v84 s83).bind fun m85 =>
    (cx_bI cx_th (ca m85 [vr_ v84, vi_ 25, vi_ 0] s83) fun v87 s86 =>
    ((gr 177 (some x0) s86).bind fun v88 =>
    ((dp 313 v88 s86).bind fun m89 =>
    (cx_bV cx_th (ca m89 [vr_ v88, vi_ v78] s86) fun s90 =>
    ((dp 308 x1 s90).bind fun m91 =>
    (cx_bR cx_th (ca m91 [vr_ x1, vi_ 2] s90) fun v93 s92 =>
    ((dp 378 (some x0) s92).bind fun m94 =>
    (cx_bV cx_th (ca m94 [vr_ (some x0), vr_ v93] s92) fun s95 =>
    ((gr 177 (some x0) s95).bind fun v96 =>
    ((dp 313 v96 s95).bind fun m97 =>
    (cx_bV cx_th (ca m97 [vr_ v96, vi_ v87] s95) fun s98 =>
    some (.inl none, s98)))))))))))))))))))))))))
  else
  (if v4 = Int32.ofInt 12 then
    ((dp 390 (some x0) s3).bind fun m99 =>
    (cx_bV cx_th (ca m99 [vr_ (some x0), vr_ x1] s3) fun s100 =>
    some (.inl none, s100)))
  else
  (if v4 = Int32.ofInt 13 then
    ((gi 104 x1 s3).bind fun v101 =>
    ((gr 105 x1 s3).bind fun v102 =>
    jm 463 [vr_ (some x0), vr_ x1, vi_ v101, vr_ v102] [] s3))
  else
  (if v4 = Int32.ofInt 14 then
    ((dp 308 x1 s3).bind fun m103 =>
    (cx_bR cx_th (ca m103 [vr_ x1, vi_ 0] s3) fun v105 s104 =>
    ((dp 378 (some x0) s104).bind fun m106 =>
    (cx_bV cx_th (ca m106 [vr_ (some x0), vr_ v105] s104) fun s107 =>
    ((dp 308 x1 s107).bind fun m108 =>
    (cx_bR cx_th (ca m108 [vr_ x1, vi_ 1] s107) fun v110 s109 =>
    ((dp 378 (some x0) s109).bind fun m111 =>
    (cx_bV cx_th (ca m111 [vr_ (some x0), vr_ v110] s109) fun s112 =>
    ((gr 177 (some x0) s112).bind fun v113 =>
    ((dp 312 v113 s112).bind fun m114 =>
    (cx_bI cx_th (ca m114 [vr_ v113, vi_ 23, vi_ 0] s112) fun v116 s115 =>
    some (.inl none, s115))))))))))))
  else
  ((dp 390 (some x0) s3).bind fun m117 =>
    (cx_bV cx_th (ca m117 [vr_ (some x0), vr_ x1] s3) fun s118 =>
    some (.inl none, s118))))))))))))))))))))) := by rfl
set_option maxRecDepth 100000 in
theorem cb_X9_value_142 (x2 : Option Nat) (x0 : Nat) (s : σ) : cx_B ct_lc gi gr pi pr ai ar wi wr an nw na io dp ct_ft ct_sg 0 [] ct_X9_value ca jm 1000 (pj_at ct_X9_value 142) [some (vr_ (some x0)), none, some (vr_ x2), none] [] s =
  (if x2 = none then
    some (.inl none, s)
  else
    ((gr 177 (some x0) s).bind fun v1 =>
    ((gr 154 x2 s).bind fun v2 =>
    (if v2 = (some 1149) then
      ((gi 155 x2 s).bind fun v3 =>
      ((dp 312 v1 s).bind fun m4 =>
      (cx_bI cx_th (ca m4 [vr_ v1, vi_ 1, vi_ v3] s) fun v6 s5 =>
      some (.inl none, s5))))
    else
      ((gr 154 x2 s).bind fun v7 =>
      (if v7 = (some 1148) then
        ((gi 155 x2 s).bind fun v8 =>
        ((dp 312 v1 s).bind fun m9 =>
        (cx_bI cx_th (ca m9 [vr_ v1, vi_ 2, vi_ v8] s) fun v11 s10 =>
        some (.inl none, s10))))
      else
        ((gi 155 x2 s).bind fun v12 =>
        ((dp 312 v1 s).bind fun m13 =>
        (cx_bI cx_th (ca m13 [vr_ v1, vi_ 0, vi_ v12] s) fun v15 s14 =>
        some (.inl none, s14)))))))))) := by rfl
set_option maxRecDepth 100000 in
theorem cb_X9_value_397 (x1 x2 : Option Nat) (x0 : Nat) (s : σ) : cx_B ct_lc gi gr pi pr ai ar wi wr an nw na io dp ct_ft ct_sg 0 [] ct_X9_value ca jm 1000 (pj_at ct_X9_value 397) [some (vr_ (some x0)), some (vr_ x1), some (vr_ x2), none] [] s =
  (if x2 = none then
    ((gr 105 x1 s).bind fun v1 =>
    ((dp 378 (some x0) s).bind fun m2 =>
    (cx_bV cx_th (ca m2 [vr_ (some x0), vr_ v1] s) fun s3 =>
    ((gr 177 (some x0) s3).bind fun v4 =>
    ((dp 307 x1 s3).bind fun m5 =>
    (cx_bI cx_th (ca m5 [vr_ x1] s3) fun v7 s6 =>
    ((gr 177 (some x0) s6).bind fun v8 =>
    ((gi 117 v8 s6).bind fun v9 =>
    ((dp 312 v4 s6).bind fun m10 =>
    (cx_bI cx_th (ca m10 [vr_ v4, vi_ 16, vi_ (((v7 - 1) * 65536) + v9)] s6) fun v12 s11 =>
    some (.inl none, s11)))))))))))
  else
    ((dp 378 (some x0) s).bind fun m13 =>
    (cx_bV cx_th (ca m13 [vr_ (some x0), vr_ x2] s) fun s14 =>
    ((gr 107 x2 s14).bind fun v15 =>
    jm 397 [vr_ (some x0), vr_ x1, vr_ v15] [] s14)))) := by rfl
set_option maxRecDepth 100000 in
theorem cb_X9_value_463 (x2 : Int32) (x1 x3 : Option Nat) (x0 : Nat) (s : σ) : cx_B ct_lc gi gr pi pr ai ar wi wr an nw na io dp ct_ft ct_sg 0 [] ct_X9_value ca jm 1000 (pj_at ct_X9_value 463) [some (vr_ (some x0)), some (vr_ x1), some (vi_ x2), some (vr_ x3)] [] s =
  (if x3 = none then
    ((gr 177 (some x0) s).bind fun v1 =>
    ((gi 104 x1 s).bind fun v2 =>
    ((dp 312 v1 s).bind fun m3 =>
    (cx_bI cx_th (ca m3 [vr_ v1, vi_ 0, vi_ v2] s) fun v5 s4 =>
    some (.inl none, s4)))))
  else
    ((dp 386 (some x0) s).bind fun m6 =>
    (cx_bI cx_th (ca m6 [vr_ (some x0), vr_ x3] s) fun v8 s7 =>
    ((dp 389 (some x0) s7).bind fun m9 =>
    (cx_bV cx_th (ca m9 [vr_ (some x0), vi_ x2, vi_ v8] s7) fun s10 =>
    ((gr 107 x3 s10).bind fun v11 =>
    jm 463 [vr_ (some x0), vr_ x1, vi_ (x2 + 1), vr_ v11] [] s10)))))) := by rfl
set_option maxRecDepth 100000 in
theorem cb_X9_meaning (x1 : Option Nat) (x0 : Nat) (s : σ) : cx_B ct_lc gi gr pi pr ai ar wi wr an nw na io dp ct_ft ct_sg 3 [] ct_X9_meaning ca jm 1000 ct_X9_meaning [some (vr_ (some x0)), some (vr_ x1), none] [] s =
  ((gr 103 x1 s).bind fun v1 =>
  ((dp 380 (some x0) s).bind fun m2 =>
  (cx_bR cx_th (ca m2 [vr_ (some x0), vr_ v1] s) fun v4 s3 =>
  (if v4 = none then
    ((gi 100 x1 s3).bind fun v5 =>
    ((dp 375 (some x0) s3).bind fun m6 =>
    (cx_bV cx_th (ca m6 [vr_ (some x0), vi_ v5, vi_ 3] s3) fun s7 =>
    jm 22 [vr_ (some x0), vr_ x1, vr_ v4] [] s7)))
  else
    jm 22 [vr_ (some x0), vr_ x1, vr_ v4] [] s3)))) := by rfl
set_option maxRecDepth 100000 in
theorem cb_X9_meaning_22 (x1 x2 : Option Nat) (x0 : Nat) (s : σ) : cx_B ct_lc gi gr pi pr ai ar wi wr an nw na io dp ct_ft ct_sg 3 [] ct_X9_meaning ca jm 1000 (pj_at ct_X9_meaning 22) [some (vr_ (some x0)), some (vr_ x1), some (vr_ x2)] [] s =
  (if x2 = none then
    some (.inl (some (vr_ x2)), s)
  else
    ((gr 154 x2 s).bind fun v1 =>
    (if v1 = (some 1149) then
      ((gr 160 x2 s).bind fun v2 =>
      ((gr 177 (some x0) s).bind fun v3 =>
      (if v2 = v3 then
        some (.inl (some (vr_ x2)), s)
      else
        ((gi 100 x1 s).bind fun v4 =>
        ((dp 375 (some x0) s).bind fun m5 =>
        (cx_bV cx_th (ca m5 [vr_ (some x0), vi_ v4, vi_ 5] s) fun s6 =>
        some (.inl (some (vr_ none)), s6)))))))
    else
      some (.inl (some (vr_ x2)), s)))) := by rfl
set_option maxRecDepth 100000 in
theorem cb_X9_find (x1 : Option Nat) (x0 : Nat) (s : σ) : cx_B ct_lc gi gr pi pr ai ar wi wr an nw na io dp ct_ft ct_sg 3 [] ct_X9_find ca jm 1000 ct_X9_find [some (vr_ (some x0)), some (vr_ x1), none, none] [] s =
  ((gr 169 (some x0) s).bind fun v1 =>
  ((dp 78 v1 s).bind fun m2 =>
  (cx_bI cx_th (ca m2 [vr_ v1] s) fun v4 s3 =>
  jm 12 [vr_ (some x0), vr_ x1, vi_ (v4 - 1)] [] s3))) := by rfl
set_option maxRecDepth 100000 in
theorem cb_X9_find_12 (x2 : Int32) (x1 : Option Nat) (x0 : Nat) (s : σ) : cx_B ct_lc gi gr pi pr ai ar wi wr an nw na io dp ct_ft ct_sg 3 [] ct_X9_find ca jm 1000 (pj_at ct_X9_find 12) [some (vr_ (some x0)), some (vr_ x1), some (vi_ x2), none] [] s =
  (if x2 < 0 then
    some (.inl (some (vr_ none)), s)
  else
    ((gr 169 (some x0) s).bind fun v1 =>
    ((dp 79 v1 s).bind fun m2 =>
    (cx_bR cx_th (ca m2 [vr_ v1, vi_ x2] s) fun v4 s3 =>
    ((cx_cst io 56 v4 s3).bind fun _ =>
    ((dp 17 v4 s3).bind fun m5 =>
    (cx_bR cx_th (ca m5 [vr_ v4, vr_ x1] s3) fun v7 s6 =>
    ((cx_cst io 7 v7 s6).bind fun _ =>
    (if v7 = none then
      jm 12 [vr_ (some x0), vr_ x1, vi_ (x2 + (-1))] [] s6
    else
      some (.inl (some (vr_ v7)), s6)))))))))) := by rfl
set_option maxRecDepth 100000 in
theorem cb_X9_word (x1 : Option Nat) (x0 : Nat) (s : σ) : cx_B ct_lc gi gr pi pr ai ar wi wr an nw na io dp ct_ft ct_sg 0 [] ct_X9_word ca jm 1000 ct_X9_word [some (vr_ (some x0)), some (vr_ x1)] [] s =
  ((gr 105 x1 s).bind fun v1 =>
  ((dp 378 (some x0) s).bind fun m2 =>
  (cx_bV cx_th (ca m2 [vr_ (some x0), vr_ v1] s) fun s3 =>
  ((gr 105 x1 s3).bind fun v4 =>
  ((gr 107 v4 s3).bind fun v5 =>
  (if v5 = none then
    some (.inl none, s3)
  else
    ((gr 105 x1 s3).bind fun v6 =>
    ((gr 107 v6 s3).bind fun v7 =>
    ((dp 378 (some x0) s3).bind fun m8 =>
    (cx_bV cx_th (ca m8 [vr_ (some x0), vr_ v7] s3) fun s9 =>
    ((gr 177 (some x0) s9).bind fun v10 =>
    (cx_bI cx_th (ca 212 [vr_ (some 1027)] s9) fun v12 s11 =>
    ((dp 312 v10 s11).bind fun m13 =>
    (cx_bI cx_th (ca m13 [vr_ v10, vi_ 10, vi_ v12] s11) fun v15 s14 =>
    some (.inl none, s14))))))))))))))) := by rfl
set_option maxRecDepth 100000 in
theorem cb_X9_address (x1 : Option Nat) (x0 : Nat) (s : σ) : cx_B ct_lc gi gr pi pr ai ar wi wr an nw na io dp ct_ft ct_sg 0 [] ct_X9_address ca jm 1000 ct_X9_address [some (vr_ (some x0)), some (vr_ x1), none, none] [] s =
  ((gr 99 x1 s).bind fun v1 =>
  (if v1 = (some 1096) then
    ((dp 381 (some x0) s).bind fun m2 =>
    (cx_bV cx_th (ca m2 [vr_ (some x0), vr_ x1] s) fun s3 =>
    some (.inl none, s3)))
  else
    ((gr 99 x1 s).bind fun v4 =>
    (if v4 = (some 1099) then
      ((dp 379 (some x0) s).bind fun m5 =>
      (cx_bR cx_th (ca m5 [vr_ (some x0), vr_ x1] s) fun v7 s6 =>
      jm 35 [vr_ (some x0), vr_ x1] [vr_ v7] s6))
    else
      jm 35 [vr_ (some x0), vr_ x1] [vr_ none] s)))) := by rfl
set_option maxRecDepth 100000 in
theorem cb_X9_address_35 (x1 y0 : Option Nat) (x0 : Nat) (s : σ) : cx_B ct_lc gi gr pi pr ai ar wi wr an nw na io dp ct_ft ct_sg 0 [] ct_X9_address ca jm 1000 (pj_at ct_X9_address 35) [some (vr_ (some x0)), some (vr_ x1), none, none] [vr_ y0] s =
  (if y0 = none then
    jm 65 [vr_ (some x0), vr_ x1, vr_ y0] [vi_ 0] s
  else
    ((gr 154 y0 s).bind fun v1 =>
    (if v1 = (some 1149) then
      jm 65 [vr_ (some x0), vr_ x1, vr_ y0] [vi_ 1] s
    else
      ((gr 154 y0 s).bind fun v2 =>
      (if v2 = (some 1148) then
        jm 65 [vr_ (some x0), vr_ x1, vr_ y0] [vi_ 1] s
      else
        jm 65 [vr_ (some x0), vr_ x1, vr_ y0] [vi_ 0] s))))) := by rfl
set_option maxRecDepth 100000 in
theorem cb_X9_address_65 (y0 : Int32) (x1 x2 : Option Nat) (x0 : Nat) (s : σ) : cx_B ct_lc gi gr pi pr ai ar wi wr an nw na io dp ct_ft ct_sg 0 [] ct_X9_address ca jm 1000 (pj_at ct_X9_address 65) [some (vr_ (some x0)), some (vr_ x1), some (vr_ x2), none] [vi_ y0] s =
  (if y0 = 0 then
    ((gr 99 x1 s).bind fun v1 =>
    (if v1 = (some 1099) then
      (if x2 = none then
        some (.inl none, s)
      else
        ((dp 383 (some x0) s).bind fun m2 =>
        (cx_bV cx_th (ca m2 [vr_ (some x0), vr_ x1] s) fun s3 =>
        some (.inl none, s3))))
    else
      ((dp 383 (some x0) s).bind fun m4 =>
      (cx_bV cx_th (ca m4 [vr_ (some x0), vr_ x1] s) fun s5 =>
      some (.inl none, s5)))))
  else
    ((gr 177 (some x0) s).bind fun v6 =>
    ((gr 154 x2 s).bind fun v7 =>
    (if v7 = (some 1149) then
      ((gi 155 x2 s).bind fun v8 =>
      ((dp 312 v6 s).bind fun m9 =>
      (cx_bI cx_th (ca m9 [vr_ v6, vi_ 7, vi_ v8] s) fun v11 s10 =>
      some (.inl none, s10))))
    else
      ((gi 155 x2 s).bind fun v12 =>
      ((dp 312 v6 s).bind fun m13 =>
      (cx_bI cx_th (ca m13 [vr_ v6, vi_ 0, vi_ v12] s) fun v15 s14 =>
      some (.inl none, s14)))))))) := by rfl
set_option maxRecDepth 100000 in
theorem cb_X9_noPlace (x1 : Option Nat) (x0 : Nat) (s : σ) : cx_B ct_lc gi gr pi pr ai ar wi wr an nw na io dp ct_ft ct_sg 0 [] ct_X9_noPlace ca jm 1000 ct_X9_noPlace [some (vr_ (some x0)), some (vr_ x1)] [] s =
  ((gi 101 x1 s).bind fun v1 =>
  ((dp 375 (some x0) s).bind fun m2 =>
  (cx_bV cx_th (ca m2 [vr_ (some x0), vi_ v1, vi_ 6] s) fun s3 =>
  ((dp 378 (some x0) s3).bind fun m4 =>
  (cx_bV cx_th (ca m4 [vr_ (some x0), vr_ x1] s3) fun s5 =>
  some (.inl none, s5)))))) := by rfl
set_option maxRecDepth 100000 in
theorem cb_X9_binary (x1 : Option Nat) (x0 : Nat) (s : σ) : cx_B ct_lc gi gr pi pr ai ar wi wr an nw na io dp ct_ft ct_sg 0 [] ct_X9_binary ca jm 1000 ct_X9_binary [some (vr_ (some x0)), some (vr_ x1), none, none, none] [] s =
  (cx_bV cx_th (ca 72 [vr_ (some (nw 36 s).1)] (nw 36 s).2) fun s1 =>
  jm 10 [vr_ (some x0), vr_ (some (nw 36 s).1), vr_ x1] [] s1) := by rfl
set_option maxRecDepth 100000 in
theorem cb_X9_binary_10 (x2 x3 : Option Nat) (x0 : Nat) (s : σ) : cx_B ct_lc gi gr pi pr ai ar wi wr an nw na io dp ct_ft ct_sg 0 [] ct_X9_binary ca jm 1000 (pj_at ct_X9_binary 10) [some (vr_ (some x0)), none, some (vr_ x2), some (vr_ x3), none] [] s =
  ((gr 99 x3 s).bind fun v1 =>
  (if v1 = (some 1091) then
    ((dp 73 x2 s).bind fun m2 =>
    (cx_bI cx_th (ca m2 [vr_ x2, vr_ x3] s) fun v4 s3 =>
    ((dp 308 x3 s3).bind fun m5 =>
    (cx_bR cx_th (ca m5 [vr_ x3, vi_ 0] s3) fun v7 s6 =>
    jm 10 [vr_ (some x0), vr_ x2, vr_ v7] [] s6))))
  else
    ((dp 378 (some x0) s).bind fun m8 =>
    (cx_bV cx_th (ca m8 [vr_ (some x0), vr_ x3] s) fun s9 =>
    ((dp 78 x2 s9).bind fun m10 =>
    (cx_bI cx_th (ca m10 [vr_ x2] s9) fun v12 s11 =>
    jm 52 [vr_ (some x0), vr_ x2, vi_ (v12 - 1)] [] s11)))))) := by rfl
set_option maxRecDepth 100000 in
theorem cb_X9_binary_52 (x4 : Int32) (x2 : Option Nat) (x0 : Nat) (s : σ) : cx_B ct_lc gi gr pi pr ai ar wi wr an nw na io dp ct_ft ct_sg 0 [] ct_X9_binary ca jm 1000 (pj_at ct_X9_binary 52) [some (vr_ (some x0)), none, some (vr_ x2), none, some (vi_ x4)] [] s =
  (if x4 < 0 then
    some (.inl none, s)
  else
    ((dp 79 x2 s).bind fun m1 =>
    (cx_bR cx_th (ca m1 [vr_ x2, vi_ x4] s) fun v3 s2 =>
    ((cx_cst io 9 v3 s2).bind fun _ =>
    ((dp 308 v3 s2).bind fun m4 =>
    (cx_bR cx_th (ca m4 [vr_ v3, vi_ 1] s2) fun v6 s5 =>
    ((dp 378 (some x0) s5).bind fun m7 =>
    (cx_bV cx_th (ca m7 [vr_ (some x0), vr_ v6] s5) fun s8 =>
    ((gr 177 (some x0) s8).bind fun v9 =>
    ((dp 79 x2 s8).bind fun m10 =>
    (cx_bR cx_th (ca m10 [vr_ x2, vi_ x4] s8) fun v12 s11 =>
    ((cx_cst io 9 v12 s11).bind fun _ =>
    ((gr 103 v12 s11).bind fun v13 =>
    (cx_bI cx_th (ca 212 [vr_ v13] s11) fun v15 s14 =>
    ((dp 312 v9 s14).bind fun m16 =>
    (cx_bI cx_th (ca m16 [vr_ v9, vi_ 10, vi_ v15] s14) fun v18 s17 =>
    jm 52 [vr_ (some x0), vr_ x2, vi_ (x4 + (-1))] [] s17)))))))))))))))) := by rfl
set_option maxRecDepth 100000 in
theorem cb_X9_compare (x1 : Option Nat) (x0 : Nat) (s : σ) : cx_B ct_lc gi gr pi pr ai ar wi wr an nw na io dp ct_ft ct_sg 0 [] ct_X9_compare ca jm 1000 ct_X9_compare [some (vr_ (some x0)), some (vr_ x1), none, none, none, none] [] s =
  (cx_bV cx_th (ca 72 [vr_ (some (nw 36 s).1)] (nw 36 s).2) fun s1 =>
  ((gr 105 x1 s1).bind fun v2 =>
  ((dp 378 (some x0) s1).bind fun m3 =>
  (cx_bV cx_th (ca m3 [vr_ (some x0), vr_ v2] s1) fun s4 =>
  jm 21 [vr_ (some x0), vr_ x1, vr_ (some (nw 36 s).1), vr_ v2, vi_ 0] [] s4)))) := by rfl
set_option maxRecDepth 100000 in
theorem cb_X9_compare_21 (x4 : Int32) (x1 x2 x3 : Option Nat) (x0 : Nat) (s : σ) : cx_B ct_lc gi gr pi pr ai ar wi wr an nw na io dp ct_ft ct_sg 0 [] ct_X9_compare ca jm 1000 (pj_at ct_X9_compare 21) [some (vr_ (some x0)), some (vr_ x1), some (vr_ x2), some (vr_ x3), some (vi_ x4), none] [] s =
  ((gr 108 x1 s).bind fun v1 =>
  ((dp 78 v1 s).bind fun m2 =>
  (cx_bI cx_th (ca m2 [vr_ v1] s) fun v4 s3 =>
  (if x4 < v4 then
    ((gr 107 x3 s3).bind fun v5 =>
    ((dp 378 (some x0) s3).bind fun m6 =>
    (cx_bV cx_th (ca m6 [vr_ (some x0), vr_ v5] s3) fun s7 =>
    ((gr 108 x1 s7).bind fun v8 =>
    ((dp 79 v8 s7).bind fun m9 =>
    (cx_bR cx_th (ca m9 [vr_ v8, vi_ x4] s7) fun v11 s10 =>
    ((cx_cst io 14 v11 s10).bind fun _ =>
    ((gr 88 v11 s10).bind fun v12 =>
    (cx_bI cx_th (ca 213 [vr_ v12] s10) fun v14 s13 =>
    ((gr 108 x1 s13).bind fun v15 =>
    ((dp 78 v15 s13).bind fun m16 =>
    (cx_bI cx_th (ca m16 [vr_ v15] s13) fun v18 s17 =>
    (if (x4 + 1) = v18 then
      ((gr 177 (some x0) s17).bind fun v19 =>
      ((dp 312 v19 s17).bind fun m20 =>
      (cx_bI cx_th (ca m20 [vr_ v19, vi_ 11, vi_ v14] s17) fun v22 s21 =>
      jm 21 [vr_ (some x0), vr_ x1, vr_ x2, vr_ v5, vi_ (x4 + 1)] [] s21)))
    else
      ((gr 177 (some x0) s17).bind fun v23 =>
      ((dp 312 v23 s17).bind fun m24 =>
      (cx_bI cx_th (ca m24 [vr_ v23, vi_ 12, vi_ v14] s17) fun v26 s25 =>
      ((gr 177 (some x0) s25).bind fun v27 =>
      ((dp 312 v27 s25).bind fun m28 =>
      (cx_bI cx_th (ca m28 [vr_ v27, vi_ 14, vi_ 0] s25) fun v30 s29 =>
      (cx_bR cx_th (ca 28 [vi_ v30] s29) fun v32 s31 =>
      ((dp 73 x2 s31).bind fun m33 =>
      (cx_bI cx_th (ca m33 [vr_ x2, vr_ v32] s31) fun v35 s34 =>
      jm 21 [vr_ (some x0), vr_ x1, vr_ x2, vr_ v5, vi_ (x4 + 1)] [] s34))))))))))))))))))))))
  else
    ((dp 77 x2 s3).bind fun m36 =>
    (cx_bI cx_th (ca m36 [vr_ x2] s3) fun v38 s37 =>
    (if v38 = 0 then
      ((gr 177 (some x0) s37).bind fun v39 =>
      ((dp 312 v39 s37).bind fun m40 =>
      (cx_bI cx_th (ca m40 [vr_ v39, vi_ 25, vi_ 0] s37) fun v42 s41 =>
      jm 161 [vr_ (some x0), vr_ x2, vi_ v42, vi_ 0] [] s41)))
    else
      some (.inl none, s37)))))))) := by rfl
set_option maxRecDepth 100000 in
theorem cb_X9_compare_161 (x4 x5 : Int32) (x2 : Option Nat) (x0 : Nat) (s : σ) : cx_B ct_lc gi gr pi pr ai ar wi wr an nw na io dp ct_ft ct_sg 0 [] ct_X9_compare ca jm 1000 (pj_at ct_X9_compare 161) [some (vr_ (some x0)), none, some (vr_ x2), none, some (vi_ x4), some (vi_ x5)] [] s =
  ((dp 78 x2 s).bind fun m1 =>
  (cx_bI cx_th (ca m1 [vr_ x2] s) fun v3 s2 =>
  (if x5 < v3 then
    ((gr 177 (some x0) s2).bind fun v4 =>
    ((dp 79 x2 s2).bind fun m5 =>
    (cx_bR cx_th (ca m5 [vr_ x2, vi_ x5] s2) fun v7 s6 =>
    ((cx_cst io 20 v7 s6).bind fun _ =>
    ((dp 26 v7 s6).bind fun m8 =>
    (cx_bI cx_th (ca m8 [vr_ v7] s6) fun v10 s9 =>
    ((dp 313 v4 s9).bind fun m11 =>
    (cx_bV cx_th (ca m11 [vr_ v4, vi_ v10] s9) fun s12 =>
    jm 161 [vr_ (some x0), vr_ x2, vi_ x4, vi_ (x5 + 1)] [] s12))))))))
  else
    ((gr 177 (some x0) s2).bind fun v13 =>
    ((dp 312 v13 s2).bind fun m14 =>
    (cx_bI cx_th (ca m14 [vr_ v13, vi_ 19, vi_ 0] s2) fun v16 s15 =>
    ((gr 177 (some x0) s15).bind fun v17 =>
    ((dp 312 v17 s15).bind fun m18 =>
    (cx_bI cx_th (ca m18 [vr_ v17, vi_ 0, vi_ 0] s15) fun v20 s19 =>
    ((gr 177 (some x0) s19).bind fun v21 =>
    ((dp 313 v21 s19).bind fun m22 =>
    (cx_bV cx_th (ca m22 [vr_ v21, vi_ x4] s19) fun s23 =>
    some (.inl none, s23))))))))))))) := by rfl
set_option maxRecDepth 100000 in
theorem cb_X9_worked (x1 : Option Nat) (x0 : Nat) (s : σ) : cx_B ct_lc gi gr pi pr ai ar wi wr an nw na io dp ct_ft ct_sg 1 [] ct_X9_worked ca jm 1000 ct_X9_worked [some (vr_ (some x0)), some (vr_ x1), none] [] s =
  ((dp 387 (some x0) s).bind fun m1 =>
  (cx_bI cx_th (ca m1 [vr_ (some x0), vr_ x1] s) fun v3 s2 =>
  ((pi 183 (some x0) v3 s2).bind fun s4 =>
  ((gi 183 (some x0) s4).bind fun v5 =>
  (if v5 = 0 then
    some (.inl (some (vi_ 0)), s4)
  else
    ((pi 182 (some x0) 0 s4).bind fun s6 =>
    ((dp 388 (some x0) s6).bind fun m7 =>
    (cx_bI cx_th (ca m7 [vr_ (some x0), vr_ x1] s6) fun v9 s8 =>
    ((gi 182 (some x0) s8).bind fun v10 =>
    (if v10 = 0 then
      ((pi 183 (some x0) 1 s8).bind fun s11 =>
      some (.inl (some (vi_ v9)), s11))
    else
      ((pi 183 (some x0) 0 s8).bind fun s12 =>
      some (.inl (some (vi_ v9)), s12)))))))))))) := by rfl
set_option maxRecDepth 100000 in
theorem cb_X9_isConstant (x1 : Option Nat) (x0 : Nat) (s : σ) : cx_B ct_lc gi gr pi pr ai ar wi wr an nw na io dp ct_ft ct_sg 4 [] ct_X9_isConstant ca jm 1000 ct_X9_isConstant [some (vr_ (some x0)), some (vr_ x1), none, none] [] s =
  ((gr 99 x1 s).bind fun v1 =>
  ((dp 200 v1 s).bind fun m2 =>
  (cx_bI cx_th (ca m2 [vr_ v1] s) fun v4 s3 =>
  (if v4 = Int32.ofInt 0 then
    some (.inl (some (vi_ 1)), s3)
  else
  (if v4 = Int32.ofInt 1 then
    ((gi 100 x1 s3).bind fun v5 =>
    ((dp 375 (some x0) s3).bind fun m6 =>
    (cx_bV cx_th (ca m6 [vr_ (some x0), vi_ v5, vi_ 6] s3) fun s7 =>
    some (.inl (some (vi_ 0)), s7))))
  else
  (if v4 = Int32.ofInt 2 then
    ((gr 103 x1 s3).bind fun v8 =>
    ((dp 380 (some x0) s3).bind fun m9 =>
    (cx_bR cx_th (ca m9 [vr_ (some x0), vr_ v8] s3) fun v11 s10 =>
    (if v11 = none then
      ((gi 100 x1 s10).bind fun v12 =>
      ((dp 375 (some x0) s10).bind fun m13 =>
      (cx_bV cx_th (ca m13 [vr_ (some x0), vi_ v12, vi_ 3] s10) fun s14 =>
      jm 104 [vr_ (some x0), vr_ x1, vr_ v11] [] s14)))
    else
      jm 104 [vr_ (some x0), vr_ x1, vr_ v11] [] s10))))
  else
  (if v4 = Int32.ofInt 3 then
    ((gr 105 x1 s3).bind fun v15 =>
    jm 228 [vr_ (some x0), vr_ x1, vr_ v15] [] s3)
  else
  (if v4 = Int32.ofInt 4 then
    ((gr 105 x1 s3).bind fun v16 =>
    jm 228 [vr_ (some x0), vr_ x1, vr_ v16] [] s3)
  else
  (if v4 = Int32.ofInt 5 then
    ((gr 105 x1 s3).bind fun v17 =>
    jm 228 [vr_ (some x0), vr_ x1, vr_ v17] [] s3)
  else
  (if v4 = Int32.ofInt 6 then
    ((gr 105 x1 s3).bind fun v18 =>
    jm 158 [vr_ (some x0), vi_ 1, vr_ v18] [] s3)
  else
  (if v4 = Int32.ofInt 7 then
    ((gr 105 x1 s3).bind fun v19 =>
    jm 158 [vr_ (some x0), vi_ 1, vr_ v19] [] s3)
  else
  (if v4 = Int32.ofInt 8 then
    ((gr 105 x1 s3).bind fun v20 =>
    jm 158 [vr_ (some x0), vi_ 1, vr_ v20] [] s3)
  else
  (if v4 = Int32.ofInt 9 then
    jm 184 [vr_ (some x0), vi_ 1, vr_ x1] [] s3
  else
  (if v4 = Int32.ofInt 10 then
    ((gr 105 x1 s3).bind fun v21 =>
    jm 158 [vr_ (some x0), vi_ 1, vr_ v21] [] s3)
  else
  (if v4 = Int32.ofInt 11 then
    ((gr 105 x1 s3).bind fun v22 =>
    jm 158 [vr_ (some x0), vi_ 1, vr_ v22] [] s3)
  else
  (if v4 = Int32.ofInt 12 then
    ((gi 100 x1 s3).bind fun v23 =>
    ((dp 375 (some x0) s3).bind fun m24 =>
    (cx_bV cx_th (ca m24 [vr_ (some x0), vi_ v23, vi_ 6] s3) fun s25 =>
    some (.inl (some (vi_ 0)), s25))))
  else
  (if v4 = Int32.ofInt 13 then
    ((gi 100 x1 s3).bind fun v26 =>
    ((dp 375 (some x0) s3).bind fun m27 =>
    (cx_bV cx_th (ca m27 [vr_ (some x0), vi_ v26, vi_ 6] s3) fun s28 =>
    some (.inl (some (vi_ 0)), s28))))
  else
  (if v4 = Int32.ofInt 14 then
    ((gr 105 x1 s3).bind fun v29 =>
    jm 228 [vr_ (some x0), vr_ x1, vr_ v29] [] s3)
  else
  ((gi 100 x1 s3).bind fun v30 =>
    ((dp 375 (some x0) s3).bind fun m31 =>
    (cx_bV cx_th (ca m31 [vr_ (some x0), vi_ v30, vi_ 6] s3) fun s32 =>
    some (.inl (some (vi_ 0)), s32)))))))))))))))))))))) := by rfl
set_option maxRecDepth 100000 in
theorem cb_X9_isConstant_104 (x1 x2 : Option Nat) (x0 : Nat) (s : σ) : cx_B ct_lc gi gr pi pr ai ar wi wr an nw na io dp ct_ft ct_sg 4 [] ct_X9_isConstant ca jm 1000 (pj_at ct_X9_isConstant 104) [some (vr_ (some x0)), some (vr_ x1), some (vr_ x2), none] [] s =
  (if x2 = none then
    jm 130 [vr_ (some x0), vr_ x1, vr_ x2] [vi_ 0] s
  else
    ((gr 154 x2 s).bind fun v1 =>
    (if v1 = (some 1151) then
      ((gi 156 x2 s).bind fun v2 =>
      (if v2 = 0 then
        jm 130 [vr_ (some x0), vr_ x1, vr_ x2] [vi_ 0] s
      else
        jm 130 [vr_ (some x0), vr_ x1, vr_ x2] [vi_ 1] s))
    else
      jm 130 [vr_ (some x0), vr_ x1, vr_ x2] [vi_ 0] s))) := by rfl
set_option maxRecDepth 100000 in
theorem cb_X9_isConstant_130 (y0 : Int32) (x1 x2 : Option Nat) (x0 : Nat) (s : σ) : cx_B ct_lc gi gr pi pr ai ar wi wr an nw na io dp ct_ft ct_sg 4 [] ct_X9_isConstant ca jm 1000 (pj_at ct_X9_isConstant 130) [some (vr_ (some x0)), some (vr_ x1), some (vr_ x2), none] [vi_ y0] s =
  (if x2 = none then
    some (.inl (some (vi_ (y0 &&& 1))), s)
  else
    (if y0 = 0 then
      ((gi 100 x1 s).bind fun v1 =>
      ((dp 375 (some x0) s).bind fun m2 =>
      (cx_bV cx_th (ca m2 [vr_ (some x0), vi_ v1, vi_ 6] s) fun s3 =>
      some (.inl (some (vi_ (y0 &&& 1))), s3))))
    else
      some (.inl (some (vi_ (y0 &&& 1))), s))) := by rfl
set_option maxRecDepth 100000 in
theorem cb_X9_isConstant_158 (x2 : Int32) (x3 : Option Nat) (x0 : Nat) (s : σ) : cx_B ct_lc gi gr pi pr ai ar wi wr an nw na io dp ct_ft ct_sg 4 [] ct_X9_isConstant ca jm 1000 (pj_at ct_X9_isConstant 158) [some (vr_ (some x0)), none, some (vi_ x2), some (vr_ x3)] [] s =
  (if x3 = none then
    some (.inl (some (vi_ (x2 &&& 1))), s)
  else
    ((dp 387 (some x0) s).bind fun m1 =>
    (cx_bI cx_th (ca m1 [vr_ (some x0), vr_ x3] s) fun v3 s2 =>
    ((gr 107 x3 s2).bind fun v4 =>
    jm 158 [vr_ (some x0), vi_ (x2 &&& v3), vr_ v4] [] s2)))) := by rfl
set_option maxRecDepth 100000 in
theorem cb_X9_isConstant_184 (x2 : Int32) (x3 : Option Nat) (x0 : Nat) (s : σ) : cx_B ct_lc gi gr pi pr ai ar wi wr an nw na io dp ct_ft ct_sg 4 [] ct_X9_isConstant ca jm 1000 (pj_at ct_X9_isConstant 184) [some (vr_ (some x0)), none, some (vi_ x2), some (vr_ x3)] [] s =
  ((gr 99 x3 s).bind fun v1 =>
  (if v1 = (some 1091) then
    ((dp 308 x3 s).bind fun m2 =>
    (cx_bR cx_th (ca m2 [vr_ x3, vi_ 1] s) fun v4 s3 =>
    ((dp 387 (some x0) s3).bind fun m5 =>
    (cx_bI cx_th (ca m5 [vr_ (some x0), vr_ v4] s3) fun v7 s6 =>
    ((dp 308 x3 s6).bind fun m8 =>
    (cx_bR cx_th (ca m8 [vr_ x3, vi_ 0] s6) fun v10 s9 =>
    jm 184 [vr_ (some x0), vi_ (x2 &&& v7), vr_ v10] [] s9))))))
  else
    ((dp 387 (some x0) s).bind fun m11 =>
    (cx_bI cx_th (ca m11 [vr_ (some x0), vr_ x3] s) fun v13 s12 =>
    some (.inl (some (vi_ ((x2 &&& v13) &&& 1))), s12))))) := by rfl
set_option maxRecDepth 100000 in
theorem cb_X9_isConstant_228 (x1 x2 : Option Nat) (x0 : Nat) (s : σ) : cx_B ct_lc gi gr pi pr ai ar wi wr an nw na io dp ct_ft ct_sg 4 [] ct_X9_isConstant ca jm 1000 (pj_at ct_X9_isConstant 228) [some (vr_ (some x0)), some (vr_ x1), some (vr_ x2), none] [] s =
  (if x2 = none then
    ((gi 100 x1 s).bind fun v1 =>
    ((dp 375 (some x0) s).bind fun m2 =>
    (cx_bV cx_th (ca m2 [vr_ (some x0), vi_ v1, vi_ 6] s) fun s3 =>
    some (.inl (some (vi_ 0)), s3))))
  else
    ((dp 387 (some x0) s).bind fun m4 =>
    (cx_bI cx_th (ca m4 [vr_ (some x0), vr_ x2] s) fun v6 s5 =>
    ((gr 107 x2 s5).bind fun v7 =>
    jm 228 [vr_ (some x0), vr_ x1, vr_ v7] [] s5)))) := by rfl
set_option maxRecDepth 100000 in
theorem cb_X9_constant (x1 : Option Nat) (x0 : Nat) (s : σ) : cx_B ct_lc gi gr pi pr ai ar wi wr an nw na io dp ct_ft ct_sg 1 [] ct_X9_constant ca jm 1000 ct_X9_constant [some (vr_ (some x0)), some (vr_ x1), none, none, none, none, none, none, none] [] s =
  ((gr 99 x1 s).bind fun v1 =>
  ((dp 200 v1 s).bind fun m2 =>
  (cx_bI cx_th (ca m2 [vr_ v1] s) fun v4 s3 =>
  (if v4 = Int32.ofInt 0 then
    ((gi 104 x1 s3).bind fun v5 =>
    some (.inl (some (vi_ v5)), s3))
  else
  (if v4 = Int32.ofInt 1 then
    (cx_bV cx_th (ca 72 [vr_ (some (nw 36 s3).1)] (nw 36 s3).2) fun s6 =>
    jm 276 [vr_ (some x0), vr_ (some (nw 36 s3).1), vr_ x1] [] s6)
  else
  (if v4 = Int32.ofInt 2 then
    ((gr 103 x1 s3).bind fun v7 =>
    ((dp 380 (some x0) s3).bind fun m8 =>
    (cx_bR cx_th (ca m8 [vr_ (some x0), vr_ v7] s3) fun v10 s9 =>
    ((gi 155 v10 s9).bind fun v11 =>
    some (.inl (some (vi_ v11)), s9)))))
  else
  (if v4 = Int32.ofInt 3 then
    (cx_bV cx_th (ca 72 [vr_ (some (nw 36 s3).1)] (nw 36 s3).2) fun s12 =>
    jm 276 [vr_ (some x0), vr_ (some (nw 36 s3).1), vr_ x1] [] s12)
  else
  (if v4 = Int32.ofInt 4 then
    (cx_bV cx_th (ca 72 [vr_ (some (nw 36 s3).1)] (nw 36 s3).2) fun s13 =>
    jm 276 [vr_ (some x0), vr_ (some (nw 36 s3).1), vr_ x1] [] s13)
  else
  (if v4 = Int32.ofInt 5 then
    (cx_bV cx_th (ca 72 [vr_ (some (nw 36 s3).1)] (nw 36 s3).2) fun s14 =>
    jm 276 [vr_ (some x0), vr_ (some (nw 36 s3).1), vr_ x1] [] s14)
  else
  (if v4 = Int32.ofInt 6 then
    ((dp 308 x1 s3).bind fun m15 =>
    (cx_bR cx_th (ca m15 [vr_ x1, vi_ 0] s3) fun v17 s16 =>
    ((dp 388 (some x0) s16).bind fun m18 =>
    (cx_bI cx_th (ca m18 [vr_ (some x0), vr_ v17] s16) fun v20 s19 =>
    some (.inl (some (vi_ v20)), s19)))))
  else
  (if v4 = Int32.ofInt 7 then
    ((dp 308 x1 s3).bind fun m21 =>
    (cx_bR cx_th (ca m21 [vr_ x1, vi_ 0] s3) fun v23 s22 =>
    ((dp 388 (some x0) s22).bind fun m24 =>
    (cx_bI cx_th (ca m24 [vr_ (some x0), vr_ v23] s22) fun v26 s25 =>
    some (.inl (some (vi_ (-v26))), s25)))))
  else
  (if v4 = Int32.ofInt 8 then
    ((dp 308 x1 s3).bind fun m27 =>
    (cx_bR cx_th (ca m27 [vr_ x1, vi_ 0] s3) fun v29 s28 =>
    ((dp 388 (some x0) s28).bind fun m30 =>
    (cx_bI cx_th (ca m30 [vr_ (some x0), vr_ v29] s28) fun v32 s31 =>
    some (.inl (some (vi_ (v32 ^^^ (-1)))), s31)))))
  else
  (if v4 = Int32.ofInt 9 then
    (cx_bV cx_th (ca 72 [vr_ (some (nw 36 s3).1)] (nw 36 s3).2) fun s33 =>
    jm 276 [vr_ (some x0), vr_ (some (nw 36 s3).1), vr_ x1] [] s33)
  else
  (if v4 = Int32.ofInt 10 then
    ((cx_cst io 5 x1 s3).bind fun _ =>
    ((gr 105 x1 s3).bind fun v34 =>
    ((dp 388 (some x0) s3).bind fun m35 =>
    (cx_bI cx_th (ca m35 [vr_ (some x0), vr_ v34] s3) fun v37 s36 =>
    jm 185 [vr_ (some x0), vr_ x1, vr_ v34, vi_ v37, vi_ 0] [] s36))))
  else
  (if v4 = Int32.ofInt 11 then
    ((dp 308 x1 s3).bind fun m38 =>
    (cx_bR cx_th (ca m38 [vr_ x1, vi_ 0] s3) fun v40 s39 =>
    ((dp 388 (some x0) s39).bind fun m41 =>
    (cx_bI cx_th (ca m41 [vr_ (some x0), vr_ v40] s39) fun v43 s42 =>
    (if v43 = 0 then
      jm 135 [vr_ (some x0), vr_ x1] [vi_ 0] s42
    else
      jm 135 [vr_ (some x0), vr_ x1] [vi_ 1] s42)))))
  else
  (cx_bV cx_th (ca 72 [vr_ (some (nw 36 s3).1)] (nw 36 s3).2) fun s44 =>
    jm 276 [vr_ (some x0), vr_ (some (nw 36 s3).1), vr_ x1] [] s44)))))))))))))))) := by rfl
set_option maxRecDepth 100000 in
theorem cb_X9_constant_135 (y0 : Int32) (x1 : Option Nat) (x0 : Nat) (s : σ) : cx_B ct_lc gi gr pi pr ai ar wi wr an nw na io dp ct_ft ct_sg 1 [] ct_X9_constant ca jm 1000 (pj_at ct_X9_constant 135) [some (vr_ (some x0)), some (vr_ x1), none, none, none, none, none, none, none] [vi_ y0] s =
  ((gi 182 (some x0) s).bind fun v1 =>
  (if v1 = 0 then
    (if y0 = 0 then
      ((dp 308 x1 s).bind fun m2 =>
      (cx_bR cx_th (ca m2 [vr_ x1, vi_ 2] s) fun v4 s3 =>
      ((dp 388 (some x0) s3).bind fun m5 =>
      (cx_bI cx_th (ca m5 [vr_ (some x0), vr_ v4] s3) fun v7 s6 =>
      some (.inl (some (vi_ v7)), s6)))))
    else
      ((dp 308 x1 s).bind fun m8 =>
      (cx_bR cx_th (ca m8 [vr_ x1, vi_ 1] s) fun v10 s9 =>
      ((dp 388 (some x0) s9).bind fun m11 =>
      (cx_bI cx_th (ca m11 [vr_ (some x0), vr_ v10] s9) fun v13 s12 =>
      some (.inl (some (vi_ v13)), s12))))))
  else
    some (.inl (some (vi_ 0)), s))) := by rfl
set_option maxRecDepth 100000 in
theorem cb_X9_constant_185 (x4 x5 : Int32) (x2 x3 : Option Nat) (x0 : Nat) (s : σ) : cx_B ct_lc gi gr pi pr ai ar wi wr an nw na io dp ct_ft ct_sg 1 [] ct_X9_constant ca jm 1000 (pj_at ct_X9_constant 185) [some (vr_ (some x0)), none, some (vr_ x2), some (vr_ x3), some (vi_ x4), some (vi_ x5), none, none, none] [] s =
  ((gr 108 x2 s).bind fun v1 =>
  ((dp 78 v1 s).bind fun m2 =>
  (cx_bI cx_th (ca m2 [vr_ v1] s) fun v4 s3 =>
  (if x5 < v4 then
    ((gr 108 x2 s3).bind fun v5 =>
    ((dp 79 v5 s3).bind fun m6 =>
    (cx_bR cx_th (ca m6 [vr_ v5, vi_ x5] s3) fun v8 s7 =>
    ((cx_cst io 14 v8 s7).bind fun _ =>
    ((gr 107 x3 s7).bind fun v9 =>
    ((dp 388 (some x0) s7).bind fun m10 =>
    (cx_bI cx_th (ca m10 [vr_ (some x0), vr_ v9] s7) fun v12 s11 =>
    ((gi 182 (some x0) s11).bind fun v13 =>
    (if v13 = 0 then
      ((gr 88 v8 s11).bind fun v14 =>
      (cx_bI cx_th (ca 213 [vr_ v14] s11) fun v16 s15 =>
      (cx_bI cx_th (ca 214 [vi_ v16, vi_ x4, vi_ v12] s15) fun v18 s17 =>
      (if v18 = 0 then
        some (.inl (some (vi_ 0)), s17)
      else
        jm 185 [vr_ (some x0), vr_ x2, vr_ v9, vi_ v12, vi_ (x5 + 1)] [] s17))))
    else
      some (.inl (some (vi_ 0)), s11))))))))))
  else
    some (.inl (some (vi_ (-1))), s3))))) := by rfl
set_option maxRecDepth 100000 in
theorem cb_X9_constant_276 (x2 x3 : Option Nat) (x0 : Nat) (s : σ) : cx_B ct_lc gi gr pi pr ai ar wi wr an nw na io dp ct_ft ct_sg 1 [] ct_X9_constant ca jm 1000 (pj_at ct_X9_constant 276) [some (vr_ (some x0)), none, some (vr_ x2), some (vr_ x3), none, none, none, none, none] [] s =
  ((gr 99 x3 s).bind fun v1 =>
  (if v1 = (some 1091) then
    ((dp 73 x2 s).bind fun m2 =>
    (cx_bI cx_th (ca m2 [vr_ x2, vr_ x3] s) fun v4 s3 =>
    ((dp 308 x3 s3).bind fun m5 =>
    (cx_bR cx_th (ca m5 [vr_ x3, vi_ 0] s3) fun v7 s6 =>
    jm 276 [vr_ (some x0), vr_ x2, vr_ v7] [] s6))))
  else
    ((dp 388 (some x0) s).bind fun m8 =>
    (cx_bI cx_th (ca m8 [vr_ (some x0), vr_ x3] s) fun v10 s9 =>
    ((dp 78 x2 s9).bind fun m11 =>
    (cx_bI cx_th (ca m11 [vr_ x2] s9) fun v13 s12 =>
    jm 320 [vr_ (some x0), vr_ x2, vi_ v10, vi_ (v13 - 1)] [] s12)))))) := by rfl
set_option maxRecDepth 100000 in
theorem cb_X9_constant_320 (x4 x5 : Int32) (x2 : Option Nat) (x0 : Nat) (s : σ) : cx_B ct_lc gi gr pi pr ai ar wi wr an nw na io dp ct_ft ct_sg 1 [] ct_X9_constant ca jm 1000 (pj_at ct_X9_constant 320) [some (vr_ (some x0)), none, some (vr_ x2), none, some (vi_ x4), some (vi_ x5), none, none, none] [] s =
  (if x5 < 0 then
    some (.inl (some (vi_ x4)), s)
  else
    ((gi 182 (some x0) s).bind fun v1 =>
    (if v1 = 0 then
      ((dp 79 x2 s).bind fun m2 =>
      (cx_bR cx_th (ca m2 [vr_ x2, vi_ x5] s) fun v4 s3 =>
      ((cx_cst io 9 v4 s3).bind fun _ =>
      ((dp 308 v4 s3).bind fun m5 =>
      (cx_bR cx_th (ca m5 [vr_ v4, vi_ 1] s3) fun v7 s6 =>
      ((dp 388 (some x0) s6).bind fun m8 =>
      (cx_bI cx_th (ca m8 [vr_ (some x0), vr_ v7] s6) fun v10 s9 =>
      ((gi 182 (some x0) s9).bind fun v11 =>
      (if v11 = 0 then
        ((gr 103 v4 s9).bind fun v12 =>
        (cx_bI cx_th (ca 212 [vr_ v12] s9) fun v14 s13 =>
        (if v14 = 3 then
          jm 388 [vr_ (some x0), vr_ x2, vi_ x4, vi_ x5, vr_ v4, vi_ v10, vi_ v14] [] s13
        else
          (if v14 = 4 then
            jm 388 [vr_ (some x0), vr_ x2, vi_ x4, vi_ x5, vr_ v4, vi_ v10, vi_ v14] [] s13
          else
            (cx_bI cx_th (ca 215 [vi_ v14, vi_ x4, vi_ v10] s13) fun v16 s15 =>
            jm 320 [vr_ (some x0), vr_ x2, vi_ v16, vi_ (x5 + (-1))] [] s15)))))
      else
        some (.inl (some (vi_ 0)), s9))))))))))
    else
      some (.inl (some (vi_ x4)), s)))) := by rfl
set_option maxRecDepth 100000 in
theorem cb_X9_constant_388 (x4 x5 x7 x8 : Int32) (x2 x6 : Option Nat) (x0 : Nat) (s : σ) : cx_B ct_lc gi gr pi pr ai ar wi wr an nw na io dp ct_ft ct_sg 1 [] ct_X9_constant ca jm 1000 (pj_at ct_X9_constant 388) [some (vr_ (some x0)), none, some (vr_ x2), none, some (vi_ x4), some (vi_ x5), some (vr_ x6), some (vi_ x7), some (vi_ x8)] [] s =
  (if x7 = 0 then
    ((gi 100 x6 s).bind fun v1 =>
    ((dp 375 (some x0) s).bind fun m2 =>
    (cx_bV cx_th (ca m2 [vr_ (some x0), vi_ v1, vi_ 6] s) fun s3 =>
    ((pi 182 (some x0) 1 s3).bind fun s4 =>
    some (.inl (some (vi_ 0)), s4)))))
  else
    (cx_bI cx_th (ca 215 [vi_ x8, vi_ x4, vi_ x7] s) fun v6 s5 =>
    jm 320 [vr_ (some x0), vr_ x2, vi_ v6, vi_ (x5 + (-1))] [] s5)) := by rfl
set_option maxRecDepth 100000 in
theorem cb_X9_put (x1 x2 : Int32) (x0 : Nat) (s : σ) : cx_B ct_lc gi gr pi pr ai ar wi wr an nw na io dp ct_ft ct_sg 0 [] ct_X9_put ca jm 1000 ct_X9_put [some (vr_ (some x0)), some (vi_ x1), some (vi_ x2)] [] s =
  (if (x1 - 100) < 1500 then
    ((gr 171 (some x0) s).bind fun v1 =>
    ((wi 0 v1 (x1 - 100) x2 s).bind fun s2 =>
    some (.inl none, s2)))
  else
    some (.inl none, s)) := by rfl
set_option maxRecDepth 100000 in
theorem cb_X9_valof (x1 : Option Nat) (x0 : Nat) (s : σ) : cx_B ct_lc gi gr pi pr ai ar wi wr an nw na io dp ct_ft ct_sg 0 [] ct_X9_valof ca jm 1000 ct_X9_valof [some (vr_ (some x0)), some (vr_ x1), none, none, none, none] [] s =
  ((gr 178 (some x0) s).bind fun v1 =>
  ((gr 179 (some x0) s).bind fun v2 =>
  ((gr 180 (some x0) s).bind fun v3 =>
  ((gr 181 (some x0) s).bind fun v4 =>
  ((pr 178 (some x0) none s).bind fun s5 =>
  ((pr 179 (some x0) none s5).bind fun s6 =>
  ((pr 180 (some x0) none s6).bind fun s7 =>
  (cx_bV cx_th (ca 72 [vr_ (some (nw 36 s7).1)] (nw 36 s7).2) fun s8 =>
  ((pr 181 (some x0) (some (nw 36 s7).1) s8).bind fun s9 =>
  ((dp 308 x1 s9).bind fun m10 =>
  (cx_bR cx_th (ca m10 [vr_ x1, vi_ 0] s9) fun v12 s11 =>
  ((dp 391 (some x0) s11).bind fun m13 =>
  (cx_bV cx_th (ca m13 [vr_ (some x0), vr_ v12] s11) fun s14 =>
  ((gr 177 (some x0) s14).bind fun v15 =>
  ((dp 312 v15 s14).bind fun m16 =>
  (cx_bI cx_th (ca m16 [vr_ v15, vi_ 0, vi_ 0] s14) fun v18 s17 =>
  ((gr 181 (some x0) s17).bind fun v19 =>
  ((dp 396 (some x0) s17).bind fun m20 =>
  (cx_bV cx_th (ca m20 [vr_ (some x0), vr_ v19] s17) fun s21 =>
  ((pr 178 (some x0) v1 s21).bind fun s22 =>
  ((pr 179 (some x0) v2 s22).bind fun s23 =>
  ((pr 180 (some x0) v3 s23).bind fun s24 =>
  ((pr 181 (some x0) v4 s24).bind fun s25 =>
  some (.inl none, s25)))))))))))))))))))))))) := by rfl
set_option maxRecDepth 100000 in
theorem cb_X9_command (x1 : Option Nat) (x0 : Nat) (s : σ) : cx_B ct_lc gi gr pi pr ai ar wi wr an nw na io dp ct_ft ct_sg 0 [] ct_X9_command ca jm 1000 ct_X9_command [some (vr_ (some x0)), some (vr_ x1), none, none] [] s =
  ((gr 99 x1 s).bind fun v1 =>
  (if v1 = (some 1123) then
    jm 81 [vr_ (some x0), vr_ x1] [] s
  else
    ((gr 99 x1 s).bind fun v2 =>
    (if v2 = (some 1122) then
      jm 81 [vr_ (some x0), vr_ x1] [] s
    else
      ((gr 99 x1 s).bind fun v3 =>
      (if v3 = (some 1107) then
        jm 81 [vr_ (some x0), vr_ x1] [] s
      else
        ((gr 99 x1 s).bind fun v4 =>
        (if v4 = (some 1104) then
          jm 81 [vr_ (some x0), vr_ x1] [] s
        else
          ((gr 99 x1 s).bind fun v5 =>
          (if v5 = (some 1105) then
            jm 81 [vr_ (some x0), vr_ x1] [] s
          else
            ((gr 99 x1 s).bind fun v6 =>
            (if v6 = (some 1106) then
              jm 81 [vr_ (some x0), vr_ x1] [] s
            else
              ((gr 177 (some x0) s).bind fun v7 =>
              ((dp 312 v7 s).bind fun m8 =>
              (cx_bI cx_th (ca m8 [vr_ v7, vi_ 18, vi_ 0] s) fun v10 s9 =>
              jm 81 [vr_ (some x0), vr_ x1] [] s9))))))))))))))) := by rfl
set_option maxRecDepth 100000 in
theorem cb_X9_command_81 (x1 : Option Nat) (x0 : Nat) (s : σ) : cx_B ct_lc gi gr pi pr ai ar wi wr an nw na io dp ct_ft ct_sg 0 [] ct_X9_command ca jm 1000 (pj_at ct_X9_command 81) [some (vr_ (some x0)), some (vr_ x1), none, none] [] s =
  ((gr 99 x1 s).bind fun v1 =>
  ((dp 200 v1 s).bind fun m2 =>
  (cx_bI cx_th (ca m2 [vr_ v1] s) fun v4 s3 =>
  (if v4 = Int32.ofInt 15 then
    ((gr 105 x1 s3).bind fun v5 =>
    jm 197 [vr_ (some x0), vr_ v5] [] s3)
  else
  (if v4 = Int32.ofInt 16 then
    ((dp 308 x1 s3).bind fun m6 =>
    (cx_bR cx_th (ca m6 [vr_ x1, vi_ 0] s3) fun v8 s7 =>
    ((dp 378 (some x0) s7).bind fun m9 =>
    (cx_bV cx_th (ca m9 [vr_ (some x0), vr_ v8] s7) fun s10 =>
    ((gr 177 (some x0) s10).bind fun v11 =>
    ((dp 312 v11 s10).bind fun m12 =>
    (cx_bI cx_th (ca m12 [vr_ v11, vi_ 19, vi_ 0] s10) fun v14 s13 =>
    some (.inl none, s13))))))))
  else
  (if v4 = Int32.ofInt 17 then
    ((dp 393 (some x0) s3).bind fun m15 =>
    (cx_bV cx_th (ca m15 [vr_ (some x0), vr_ x1] s3) fun s16 =>
    some (.inl none, s16)))
  else
  (if v4 = Int32.ofInt 18 then
    ((dp 393 (some x0) s3).bind fun m17 =>
    (cx_bV cx_th (ca m17 [vr_ (some x0), vr_ x1] s3) fun s18 =>
    some (.inl none, s18)))
  else
  (if v4 = Int32.ofInt 19 then
    ((dp 393 (some x0) s3).bind fun m19 =>
    (cx_bV cx_th (ca m19 [vr_ (some x0), vr_ x1] s3) fun s20 =>
    some (.inl none, s20)))
  else
  (if v4 = Int32.ofInt 20 then
    ((dp 394 (some x0) s3).bind fun m21 =>
    (cx_bV cx_th (ca m21 [vr_ (some x0), vr_ x1] s3) fun s22 =>
    some (.inl none, s22)))
  else
  (if v4 = Int32.ofInt 21 then
    ((dp 394 (some x0) s3).bind fun m23 =>
    (cx_bV cx_th (ca m23 [vr_ (some x0), vr_ x1] s3) fun s24 =>
    some (.inl none, s24)))
  else
  (if v4 = Int32.ofInt 22 then
    ((dp 399 (some x0) s3).bind fun m25 =>
    (cx_bV cx_th (ca m25 [vr_ (some x0), vr_ x1] s3) fun s26 =>
    some (.inl none, s26)))
  else
  (if v4 = Int32.ofInt 23 then
    ((dp 401 (some x0) s3).bind fun m27 =>
    (cx_bV cx_th (ca m27 [vr_ (some x0), vr_ x1] s3) fun s28 =>
    some (.inl none, s28)))
  else
  (if v4 = Int32.ofInt 24 then
    ((gr 178 (some x0) s3).bind fun v29 =>
    ((dp 403 (some x0) s3).bind fun m30 =>
    (cx_bV cx_th (ca m30 [vr_ (some x0), vr_ v29, vr_ x1] s3) fun s31 =>
    some (.inl none, s31))))
  else
  (if v4 = Int32.ofInt 25 then
    ((gr 179 (some x0) s3).bind fun v32 =>
    ((dp 403 (some x0) s3).bind fun m33 =>
    (cx_bV cx_th (ca m33 [vr_ (some x0), vr_ v32, vr_ x1] s3) fun s34 =>
    some (.inl none, s34))))
  else
  (if v4 = Int32.ofInt 26 then
    ((gr 180 (some x0) s3).bind fun v35 =>
    ((dp 403 (some x0) s3).bind fun m36 =>
    (cx_bV cx_th (ca m36 [vr_ (some x0), vr_ v35, vr_ x1] s3) fun s37 =>
    some (.inl none, s37))))
  else
  (if v4 = Int32.ofInt 27 then
    ((gr 177 (some x0) s3).bind fun v38 =>
    ((gi 119 v38 s3).bind fun v39 =>
    (if v39 = 0 then
      ((gr 177 (some x0) s3).bind fun v40 =>
      ((dp 312 v40 s3).bind fun m41 =>
      (cx_bI cx_th (ca m41 [vr_ v40, vi_ 0, vi_ 0] s3) fun v43 s42 =>
      ((gr 177 (some x0) s42).bind fun v44 =>
      ((dp 312 v44 s42).bind fun m45 =>
      (cx_bI cx_th (ca m45 [vr_ v44, vi_ 17, vi_ 0] s42) fun v47 s46 =>
      some (.inl none, s46)))))))
    else
      ((gi 100 x1 s3).bind fun v48 =>
      ((dp 375 (some x0) s3).bind fun m49 =>
      (cx_bV cx_th (ca m49 [vr_ (some x0), vi_ v48, vi_ 6] s3) fun s50 =>
      ((gr 177 (some x0) s50).bind fun v51 =>
      ((dp 312 v51 s50).bind fun m52 =>
      (cx_bI cx_th (ca m52 [vr_ v51, vi_ 0, vi_ 0] s50) fun v54 s53 =>
      ((gr 177 (some x0) s53).bind fun v55 =>
      ((dp 312 v55 s53).bind fun m56 =>
      (cx_bI cx_th (ca m56 [vr_ v55, vi_ 17, vi_ 0] s53) fun v58 s57 =>
      some (.inl none, s57)))))))))))))
  else
  (if v4 = Int32.ofInt 28 then
    ((dp 308 x1 s3).bind fun m59 =>
    (cx_bR cx_th (ca m59 [vr_ x1, vi_ 0] s3) fun v61 s60 =>
    ((dp 378 (some x0) s60).bind fun m62 =>
    (cx_bV cx_th (ca m62 [vr_ (some x0), vr_ v61] s60) fun s63 =>
    ((gr 181 (some x0) s63).bind fun v64 =>
    (if v64 = none then
      ((gi 100 x1 s63).bind fun v65 =>
      ((dp 375 (some x0) s63).bind fun m66 =>
      (cx_bV cx_th (ca m66 [vr_ (some x0), vi_ v65, vi_ 6] s63) fun s67 =>
      some (.inl none, s67))))
    else
      ((gr 181 (some x0) s63).bind fun v68 =>
      ((gr 177 (some x0) s63).bind fun v69 =>
      ((dp 312 v69 s63).bind fun m70 =>
      (cx_bI cx_th (ca m70 [vr_ v69, vi_ 25, vi_ 0] s63) fun v72 s71 =>
      (cx_bR cx_th (ca 28 [vi_ v72] s71) fun v74 s73 =>
      ((dp 73 v68 s73).bind fun m75 =>
      (cx_bI cx_th (ca m75 [vr_ v68, vr_ v74] s73) fun v77 s76 =>
      some (.inl none, s76))))))))))))))
  else
  (if v4 = Int32.ofInt 29 then
    ((gr 177 (some x0) s3).bind fun v78 =>
    ((dp 312 v78 s3).bind fun m79 =>
    (cx_bI cx_th (ca m79 [vr_ v78, vi_ 20, vi_ 0] s3) fun v81 s80 =>
    some (.inl none, s80))))
  else
  (if v4 = Int32.ofInt 30 then
    ((dp 405 (some x0) s3).bind fun m82 =>
    (cx_bV cx_th (ca m82 [vr_ (some x0), vr_ x1] s3) fun s83 =>
    some (.inl none, s83)))
  else
  (if v4 = Int32.ofInt 31 then
    some (.inl none, s3)
  else
  (if v4 = Int32.ofInt 32 then
    ((dp 398 (some x0) s3).bind fun m84 =>
    (cx_bV cx_th (ca m84 [vr_ (some x0), vr_ x1] s3) fun s85 =>
    some (.inl none, s85)))
  else
  (if v4 = Int32.ofInt 33 then
    ((dp 398 (some x0) s3).bind fun m86 =>
    (cx_bV cx_th (ca m86 [vr_ (some x0), vr_ x1] s3) fun s87 =>
    some (.inl none, s87)))
  else
  (if v4 = Int32.ofInt 34 then
    ((dp 398 (some x0) s3).bind fun m88 =>
    (cx_bV cx_th (ca m88 [vr_ (some x0), vr_ x1] s3) fun s89 =>
    some (.inl none, s89)))
  else
  (if v4 = Int32.ofInt 35 then
    ((dp 404 (some x0) s3).bind fun m90 =>
    (cx_bV cx_th (ca m90 [vr_ (some x0), vr_ x1] s3) fun s91 =>
    some (.inl none, s91)))
  else
  (if v4 = Int32.ofInt 36 then
    ((gr 177 (some x0) s3).bind fun v92 =>
    ((gr 169 (some x0) s3).bind fun v93 =>
    ((gr 169 (some x0) s3).bind fun v94 =>
    ((dp 78 v94 s3).bind fun m95 =>
    (cx_bI cx_th (ca m95 [vr_ v94] s3) fun v97 s96 =>
    ((dp 79 v93 s96).bind fun m98 =>
    (cx_bR cx_th (ca m98 [vr_ v93, vi_ (v97 - 1)] s96) fun v100 s99 =>
    ((cx_cst io 56 v100 s99).bind fun _ =>
    ((gr 103 x1 s99).bind fun v101 =>
    ((dp 17 v100 s99).bind fun m102 =>
    (cx_bR cx_th (ca m102 [vr_ v100, vr_ v101] s99) fun v104 s103 =>
    ((cx_cst io 7 v104 s103).bind fun _ =>
    ((gi 155 v104 s103).bind fun v105 =>
    ((dp 312 v92 s103).bind fun m106 =>
    (cx_bI cx_th (ca m106 [vr_ v92, vi_ 22, vi_ v105] s103) fun v108 s107 =>
    some (.inl none, s107))))))))))))))))
  else
  some (.inl none, s3)))))))))))))))))))))))))) := by rfl
set_option maxRecDepth 100000 in
theorem cb_X9_command_197 (x3 : Option Nat) (x0 : Nat) (s : σ) : cx_B ct_lc gi gr pi pr ai ar wi wr an nw na io dp ct_ft ct_sg 0 [] ct_X9_command ca jm 1000 (pj_at ct_X9_command 197) [some (vr_ (some x0)), none, none, some (vr_ x3)] [] s =
  (if x3 = none then
    some (.inl none, s)
  else
    ((gr 107 x3 s).bind fun v1 =>
    ((dp 392 (some x0) s).bind fun m2 =>
    (cx_bV cx_th (ca m2 [vr_ (some x0), vr_ x3, vr_ v1] s) fun s3 =>
    ((gr 107 x3 s3).bind fun v4 =>
    ((gr 107 v4 s3).bind fun v5 =>
    jm 197 [vr_ (some x0), vr_ v5] [] s3)))))) := by rfl
set_option maxRecDepth 100000 in
theorem cb_X9_assign (x1 x2 : Option Nat) (x0 : Nat) (s : σ) : cx_B ct_lc gi gr pi pr ai ar wi wr an nw na io dp ct_ft ct_sg 0 [] ct_X9_assign ca jm 1000 ct_X9_assign [some (vr_ (some x0)), some (vr_ x1), some (vr_ x2), none, none] [] s =
  ((dp 378 (some x0) s).bind fun m1 =>
  (cx_bV cx_th (ca m1 [vr_ (some x0), vr_ x2] s) fun s2 =>
  ((gr 99 x1 s2).bind fun v3 =>
  (if v3 = (some 1096) then
    ((dp 381 (some x0) s2).bind fun m4 =>
    (cx_bV cx_th (ca m4 [vr_ (some x0), vr_ x1] s2) fun s5 =>
    ((gr 177 (some x0) s5).bind fun v6 =>
    ((dp 312 v6 s5).bind fun m7 =>
    (cx_bI cx_th (ca m7 [vr_ v6, vi_ 6, vi_ 0] s5) fun v9 s8 =>
    some (.inl none, s8))))))
  else
    ((gr 99 x1 s2).bind fun v10 =>
    (if v10 = (some 1095) then
      ((dp 308 x1 s2).bind fun m11 =>
      (cx_bR cx_th (ca m11 [vr_ x1, vi_ 0] s2) fun v13 s12 =>
      ((dp 378 (some x0) s12).bind fun m14 =>
      (cx_bV cx_th (ca m14 [vr_ (some x0), vr_ v13] s12) fun s15 =>
      ((dp 308 x1 s15).bind fun m16 =>
      (cx_bR cx_th (ca m16 [vr_ x1, vi_ 1] s15) fun v18 s17 =>
      ((dp 378 (some x0) s17).bind fun m19 =>
      (cx_bV cx_th (ca m19 [vr_ (some x0), vr_ v18] s17) fun s20 =>
      ((gr 177 (some x0) s20).bind fun v21 =>
      ((dp 312 v21 s20).bind fun m22 =>
      (cx_bI cx_th (ca m22 [vr_ v21, vi_ 24, vi_ 0] s20) fun v24 s23 =>
      some (.inl none, s23))))))))))))
    else
      ((gr 99 x1 s2).bind fun v25 =>
      (if v25 = (some 1099) then
        ((dp 379 (some x0) s2).bind fun m26 =>
        (cx_bR cx_th (ca m26 [vr_ (some x0), vr_ x1] s2) fun v28 s27 =>
        jm 91 [vr_ (some x0), vr_ x1] [vr_ v28] s27))
      else
        jm 91 [vr_ (some x0), vr_ x1] [vr_ none] s2)))))))) := by rfl
set_option maxRecDepth 100000 in
theorem cb_X9_assign_91 (x1 y0 : Option Nat) (x0 : Nat) (s : σ) : cx_B ct_lc gi gr pi pr ai ar wi wr an nw na io dp ct_ft ct_sg 0 [] ct_X9_assign ca jm 1000 (pj_at ct_X9_assign 91) [some (vr_ (some x0)), some (vr_ x1), none, none, none] [vr_ y0] s =
  (if y0 = none then
    jm 121 [vr_ (some x0), vr_ x1, vr_ y0] [vi_ 0] s
  else
    ((gr 154 y0 s).bind fun v1 =>
    (if v1 = (some 1149) then
      jm 121 [vr_ (some x0), vr_ x1, vr_ y0] [vi_ 1] s
    else
      ((gr 154 y0 s).bind fun v2 =>
      (if v2 = (some 1148) then
        jm 121 [vr_ (some x0), vr_ x1, vr_ y0] [vi_ 1] s
      else
        jm 121 [vr_ (some x0), vr_ x1, vr_ y0] [vi_ 0] s))))) := by rfl
set_option maxRecDepth 100000 in
theorem cb_X9_assign_121 (y0 : Int32) (x1 x3 : Option Nat) (x0 : Nat) (s : σ) : cx_B ct_lc gi gr pi pr ai ar wi wr an nw na io dp ct_ft ct_sg 0 [] ct_X9_assign ca jm 1000 (pj_at ct_X9_assign 121) [some (vr_ (some x0)), some (vr_ x1), none, some (vr_ x3), none] [vi_ y0] s =
  (if y0 = 0 then
    ((gr 99 x1 s).bind fun v1 =>
    (if v1 = (some 1099) then
      (if x3 = none then
        some (.inl none, s)
      else
        ((dp 383 (some x0) s).bind fun m2 =>
        (cx_bV cx_th (ca m2 [vr_ (some x0), vr_ x1] s) fun s3 =>
        some (.inl none, s3))))
    else
      ((dp 383 (some x0) s).bind fun m4 =>
      (cx_bV cx_th (ca m4 [vr_ (some x0), vr_ x1] s) fun s5 =>
      some (.inl none, s5)))))
  else
    ((gr 177 (some x0) s).bind fun v6 =>
    ((gr 154 x3 s).bind fun v7 =>
    (if v7 = (some 1149) then
      ((gi 155 x3 s).bind fun v8 =>
      ((dp 312 v6 s).bind fun m9 =>
      (cx_bI cx_th (ca m9 [vr_ v6, vi_ 3, vi_ v8] s) fun v11 s10 =>
      some (.inl none, s10))))
    else
      ((gi 155 x3 s).bind fun v12 =>
      ((dp 312 v6 s).bind fun m13 =>
      (cx_bI cx_th (ca m13 [vr_ v6, vi_ 4, vi_ v12] s) fun v15 s14 =>
      some (.inl none, s14)))))))) := by rfl
set_option maxRecDepth 100000 in
theorem cb_X9_branches (x1 : Option Nat) (x0 : Nat) (s : σ) : cx_B ct_lc gi gr pi pr ai ar wi wr an nw na io dp ct_ft ct_sg 0 [] ct_X9_branches ca jm 1000 ct_X9_branches [some (vr_ (some x0)), some (vr_ x1), none, none] [] s =
  ((dp 308 x1 s).bind fun m1 =>
  (cx_bR cx_th (ca m1 [vr_ x1, vi_ 0] s) fun v3 s2 =>
  ((dp 378 (some x0) s2).bind fun m4 =>
  (cx_bV cx_th (ca m4 [vr_ (some x0), vr_ v3] s2) fun s5 =>
  ((gr 177 (some x0) s5).bind fun v6 =>
  ((gr 99 x1 s5).bind fun v7 =>
  (if v7 = (some 1109) then
    jm 30 [vr_ (some x0), vr_ x1] [vi_ 15, vr_ v6] s5
  else
    jm 30 [vr_ (some x0), vr_ x1] [vi_ 14, vr_ v6] s5))))))) := by rfl
set_option maxRecDepth 100000 in
theorem cb_X9_branches_30 (y1 : Int32) (x1 y0 : Option Nat) (x0 : Nat) (s : σ) : cx_B ct_lc gi gr pi pr ai ar wi wr an nw na io dp ct_ft ct_sg 0 [] ct_X9_branches ca jm 1000 (pj_at ct_X9_branches 30) [some (vr_ (some x0)), some (vr_ x1), none, none] [vi_ y1, vr_ y0] s =
  ((dp 312 y0 s).bind fun m1 =>
  (cx_bI cx_th (ca m1 [vr_ y0, vi_ y1, vi_ 0] s) fun v3 s2 =>
  ((dp 308 x1 s2).bind fun m4 =>
  (cx_bR cx_th (ca m4 [vr_ x1, vi_ 1] s2) fun v6 s5 =>
  ((dp 391 (some x0) s5).bind fun m7 =>
  (cx_bV cx_th (ca m7 [vr_ (some x0), vr_ v6] s5) fun s8 =>
  ((gr 99 x1 s8).bind fun v9 =>
  (if v9 = (some 1112) then
    ((gr 177 (some x0) s8).bind fun v10 =>
    ((dp 312 v10 s8).bind fun m11 =>
    (cx_bI cx_th (ca m11 [vr_ v10, vi_ 13, vi_ 0] s8) fun v13 s12 =>
    ((gr 177 (some x0) s12).bind fun v14 =>
    ((dp 313 v14 s12).bind fun m15 =>
    (cx_bV cx_th (ca m15 [vr_ v14, vi_ v3] s12) fun s16 =>
    ((dp 308 x1 s16).bind fun m17 =>
    (cx_bR cx_th (ca m17 [vr_ x1, vi_ 2] s16) fun v19 s18 =>
    ((dp 391 (some x0) s18).bind fun m20 =>
    (cx_bV cx_th (ca m20 [vr_ (some x0), vr_ v19] s18) fun s21 =>
    ((gr 177 (some x0) s21).bind fun v22 =>
    ((dp 313 v22 s21).bind fun m23 =>
    (cx_bV cx_th (ca m23 [vr_ v22, vi_ v13] s21) fun s24 =>
    some (.inl none, s24))))))))))))))
  else
    ((gr 177 (some x0) s8).bind fun v25 =>
    ((dp 313 v25 s8).bind fun m26 =>
    (cx_bV cx_th (ca m26 [vr_ v25, vi_ v3] s8) fun s27 =>
    some (.inl none, s27)))))))))))) := by rfl
set_option maxRecDepth 100000 in
theorem cb_X9_asks (x1 : Option Nat) (x0 : Nat) (s : σ) : cx_B ct_lc gi gr pi pr ai ar wi wr an nw na io dp ct_ft ct_sg 0 [] ct_X9_asks ca jm 1000 ct_X9_asks [some (vr_ (some x0)), some (vr_ x1), none, none] [] s =
  ((gr 177 (some x0) s).bind fun v1 =>
  ((dp 314 v1 s).bind fun m2 =>
  (cx_bI cx_th (ca m2 [vr_ v1] s) fun v4 s3 =>
  ((gr 177 (some x0) s3).bind fun v5 =>
  ((dp 312 v5 s3).bind fun m6 =>
  (cx_bI cx_th (ca m6 [vr_ v5, vi_ 18, vi_ 0] s3) fun v8 s7 =>
  ((dp 308 x1 s7).bind fun m9 =>
  (cx_bR cx_th (ca m9 [vr_ x1, vi_ 0] s7) fun v11 s10 =>
  ((dp 378 (some x0) s10).bind fun m12 =>
  (cx_bV cx_th (ca m12 [vr_ (some x0), vr_ v11] s10) fun s13 =>
  ((gr 177 (some x0) s13).bind fun v14 =>
  ((gr 99 x1 s13).bind fun v15 =>
  (if v15 = (some 1110) then
    jm 49 [vr_ (some x0), vr_ x1, vi_ v4] [vi_ 14, vr_ v14] s13
  else
    jm 49 [vr_ (some x0), vr_ x1, vi_ v4] [vi_ 15, vr_ v14] s13))))))))))))) := by rfl
set_option maxRecDepth 100000 in
theorem cb_X9_asks_49 (x2 y1 : Int32) (x1 y0 : Option Nat) (x0 : Nat) (s : σ) : cx_B ct_lc gi gr pi pr ai ar wi wr an nw na io dp ct_ft ct_sg 0 [] ct_X9_asks ca jm 1000 (pj_at ct_X9_asks 49) [some (vr_ (some x0)), some (vr_ x1), some (vi_ x2), none] [vi_ y1, vr_ y0] s =
  ((dp 312 y0 s).bind fun m1 =>
  (cx_bI cx_th (ca m1 [vr_ y0, vi_ y1, vi_ 0] s) fun v3 s2 =>
  ((dp 395 (some x0) s2).bind fun m4 =>
  (cx_bV cx_th (ca m4 [vr_ (some x0)] s2) fun s5 =>
  ((dp 308 x1 s5).bind fun m6 =>
  (cx_bR cx_th (ca m6 [vr_ x1, vi_ 1] s5) fun v8 s7 =>
  ((dp 391 (some x0) s7).bind fun m9 =>
  (cx_bV cx_th (ca m9 [vr_ (some x0), vr_ v8] s7) fun s10 =>
  ((gr 179 (some x0) s10).bind fun v11 =>
  ((dp 396 (some x0) s10).bind fun m12 =>
  (cx_bV cx_th (ca m12 [vr_ (some x0), vr_ v11] s10) fun s13 =>
  ((gr 177 (some x0) s13).bind fun v14 =>
  ((dp 312 v14 s13).bind fun m15 =>
  (cx_bI cx_th (ca m15 [vr_ v14, vi_ 13, vi_ x2] s13) fun v17 s16 =>
  ((dp 397 (some x0) s16).bind fun m18 =>
  (cx_bV cx_th (ca m18 [vr_ (some x0)] s16) fun s19 =>
  ((gr 177 (some x0) s19).bind fun v20 =>
  ((dp 313 v20 s19).bind fun m21 =>
  (cx_bV cx_th (ca m21 [vr_ v20, vi_ v3] s19) fun s22 =>
  some (.inl none, s22)))))))))))))))))))) := by rfl
set_option maxRecDepth 100000 in
theorem cb_X9_enterLoop (x0 : Nat) (s : σ) : cx_B ct_lc gi gr pi pr ai ar wi wr an nw na io dp ct_ft ct_sg 0 [] ct_X9_enterLoop ca jm 1000 ct_X9_enterLoop [some (vr_ (some x0))] [] s =
  ((gr 184 (some x0) s).bind fun v1 =>
  ((gr 178 (some x0) s).bind fun v2 =>
  ((dp 73 v1 s).bind fun m3 =>
  (cx_bI cx_th (ca m3 [vr_ v1, vr_ v2] s) fun v5 s4 =>
  ((gr 184 (some x0) s4).bind fun v6 =>
  ((gr 179 (some x0) s4).bind fun v7 =>
  ((dp 73 v6 s4).bind fun m8 =>
  (cx_bI cx_th (ca m8 [vr_ v6, vr_ v7] s4) fun v10 s9 =>
  (cx_bV cx_th (ca 72 [vr_ (some (nw 36 s9).1)] (nw 36 s9).2) fun s11 =>
  ((pr 178 (some x0) (some (nw 36 s9).1) s11).bind fun s12 =>
  (cx_bV cx_th (ca 72 [vr_ (some (nw 36 s12).1)] (nw 36 s12).2) fun s13 =>
  ((pr 179 (some x0) (some (nw 36 s12).1) s13).bind fun s14 =>
  some (.inl none, s14))))))))))))) := by rfl
set_option maxRecDepth 100000 in
theorem cb_X9_landAll (x1 : Option Nat) (x0 : Nat) (s : σ) : cx_B ct_lc gi gr pi pr ai ar wi wr an nw na io dp ct_ft ct_sg 0 [] ct_X9_landAll ca jm 1000 ct_X9_landAll [some (vr_ (some x0)), some (vr_ x1), none] [] s =
  jm 2 [vr_ (some x0), vr_ x1, vi_ 0] [] s := by rfl
set_option maxRecDepth 100000 in
theorem cb_X9_landAll_2 (x2 : Int32) (x1 : Option Nat) (x0 : Nat) (s : σ) : cx_B ct_lc gi gr pi pr ai ar wi wr an nw na io dp ct_ft ct_sg 0 [] ct_X9_landAll ca jm 1000 (pj_at ct_X9_landAll 2) [some (vr_ (some x0)), some (vr_ x1), some (vi_ x2)] [] s =
  ((dp 78 x1 s).bind fun m1 =>
  (cx_bI cx_th (ca m1 [vr_ x1] s) fun v3 s2 =>
  (if x2 < v3 then
    ((gr 177 (some x0) s2).bind fun v4 =>
    ((dp 79 x1 s2).bind fun m5 =>
    (cx_bR cx_th (ca m5 [vr_ x1, vi_ x2] s2) fun v7 s6 =>
    ((cx_cst io 20 v7 s6).bind fun _ =>
    ((dp 26 v7 s6).bind fun m8 =>
    (cx_bI cx_th (ca m8 [vr_ v7] s6) fun v10 s9 =>
    ((dp 313 v4 s9).bind fun m11 =>
    (cx_bV cx_th (ca m11 [vr_ v4, vi_ v10] s9) fun s12 =>
    jm 2 [vr_ (some x0), vr_ x1, vi_ (x2 + 1)] [] s12))))))))
  else
    some (.inl none, s2)))) := by rfl
set_option maxRecDepth 100000 in
theorem cb_X9_leaveLoop (x0 : Nat) (s : σ) : cx_B ct_lc gi gr pi pr ai ar wi wr an nw na io dp ct_ft ct_sg 0 [] ct_X9_leaveLoop ca jm 1000 ct_X9_leaveLoop [some (vr_ (some x0))] [] s =
  ((gr 178 (some x0) s).bind fun v1 =>
  ((dp 396 (some x0) s).bind fun m2 =>
  (cx_bV cx_th (ca m2 [vr_ (some x0), vr_ v1] s) fun s3 =>
  ((gr 184 (some x0) s3).bind fun v4 =>
  ((gr 184 (some x0) s3).bind fun v5 =>
  ((dp 78 v5 s3).bind fun m6 =>
  (cx_bI cx_th (ca m6 [vr_ v5] s3) fun v8 s7 =>
  ((dp 81 v4 s7).bind fun m9 =>
  (cx_bR cx_th (ca m9 [vr_ v4, vi_ (v8 - 1)] s7) fun v11 s10 =>
  ((cx_cst io 57 v11 s10).bind fun _ =>
  ((pr 179 (some x0) v11 s10).bind fun s12 =>
  ((gr 184 (some x0) s12).bind fun v13 =>
  ((gr 184 (some x0) s12).bind fun v14 =>
  ((dp 78 v14 s12).bind fun m15 =>
  (cx_bI cx_th (ca m15 [vr_ v14] s12) fun v17 s16 =>
  ((dp 81 v13 s16).bind fun m18 =>
  (cx_bR cx_th (ca m18 [vr_ v13, vi_ (v17 - 1)] s16) fun v20 s19 =>
  ((cx_cst io 57 v20 s19).bind fun _ =>
  ((pr 178 (some x0) v20 s19).bind fun s21 =>
  some (.inl none, s21)))))))))))))))))))) := by rfl
set_option maxRecDepth 100000 in
theorem cb_X9_repeats (x1 : Option Nat) (x0 : Nat) (s : σ) : cx_B ct_lc gi gr pi pr ai ar wi wr an nw na io dp ct_ft ct_sg 0 [] ct_X9_repeats ca jm 1000 ct_X9_repeats [some (vr_ (some x0)), some (vr_ x1), none] [] s =
  ((gr 177 (some x0) s).bind fun v1 =>
  ((dp 314 v1 s).bind fun m2 =>
  (cx_bI cx_th (ca m2 [vr_ v1] s) fun v4 s3 =>
  ((dp 395 (some x0) s3).bind fun m5 =>
  (cx_bV cx_th (ca m5 [vr_ (some x0)] s3) fun s6 =>
  ((dp 308 x1 s6).bind fun m7 =>
  (cx_bR cx_th (ca m7 [vr_ x1, vi_ 0] s6) fun v9 s8 =>
  ((dp 391 (some x0) s8).bind fun m10 =>
  (cx_bV cx_th (ca m10 [vr_ (some x0), vr_ v9] s8) fun s11 =>
  ((gr 179 (some x0) s11).bind fun v12 =>
  ((dp 396 (some x0) s11).bind fun m13 =>
  (cx_bV cx_th (ca m13 [vr_ (some x0), vr_ v12] s11) fun s14 =>
  ((gr 177 (some x0) s14).bind fun v15 =>
  ((dp 312 v15 s14).bind fun m16 =>
  (cx_bI cx_th (ca m16 [vr_ v15, vi_ 18, vi_ 0] s14) fun v18 s17 =>
  ((gr 99 x1 s17).bind fun v19 =>
  (if v19 = (some 1104) then
    ((gr 177 (some x0) s17).bind fun v20 =>
    ((dp 312 v20 s17).bind fun m21 =>
    (cx_bI cx_th (ca m21 [vr_ v20, vi_ 13, vi_ v4] s17) fun v23 s22 =>
    ((dp 397 (some x0) s22).bind fun m24 =>
    (cx_bV cx_th (ca m24 [vr_ (some x0)] s22) fun s25 =>
    some (.inl none, s25))))))
  else
    ((dp 308 x1 s17).bind fun m26 =>
    (cx_bR cx_th (ca m26 [vr_ x1, vi_ 1] s17) fun v28 s27 =>
    ((dp 378 (some x0) s27).bind fun m29 =>
    (cx_bV cx_th (ca m29 [vr_ (some x0), vr_ v28] s27) fun s30 =>
    ((gr 177 (some x0) s30).bind fun v31 =>
    ((gr 99 x1 s30).bind fun v32 =>
    (if v32 = (some 1105) then
      ((dp 312 v31 s30).bind fun m33 =>
      (cx_bI cx_th (ca m33 [vr_ v31, vi_ 15, vi_ v4] s30) fun v35 s34 =>
      ((dp 397 (some x0) s34).bind fun m36 =>
      (cx_bV cx_th (ca m36 [vr_ (some x0)] s34) fun s37 =>
      some (.inl none, s37)))))
    else
      ((dp 312 v31 s30).bind fun m38 =>
      (cx_bI cx_th (ca m38 [vr_ v31, vi_ 14, vi_ v4] s30) fun v40 s39 =>
      ((dp 397 (some x0) s39).bind fun m41 =>
      (cx_bV cx_th (ca m41 [vr_ (some x0)] s39) fun s42 =>
      some (.inl none, s42))))))))))))))))))))))))))))) := by rfl
set_option maxRecDepth 100000 in
theorem cb_X9_counts (x1 : Option Nat) (x0 : Nat) (s : σ) : cx_B ct_lc gi gr pi pr ai ar wi wr an nw na io dp ct_ft ct_sg 0 [] ct_X9_counts ca jm 1000 ct_X9_counts [some (vr_ (some x0)), some (vr_ x1), none, none, none, none] [] s =
  ((dp 308 x1 s).bind fun m1 =>
  (cx_bR cx_th (ca m1 [vr_ x1, vi_ 0] s) fun v3 s2 =>
  ((dp 378 (some x0) s2).bind fun m4 =>
  (cx_bV cx_th (ca m4 [vr_ (some x0), vr_ v3] s2) fun s5 =>
  ((dp 308 x1 s5).bind fun m6 =>
  (cx_bR cx_th (ca m6 [vr_ x1, vi_ 1] s5) fun v8 s7 =>
  ((dp 378 (some x0) s7).bind fun m9 =>
  (cx_bV cx_th (ca m9 [vr_ (some x0), vr_ v8] s7) fun s10 =>
  ((dp 307 x1 s10).bind fun m11 =>
  (cx_bI cx_th (ca m11 [vr_ x1] s10) fun v13 s12 =>
  (if 3 < v13 then
    ((dp 308 x1 s12).bind fun m14 =>
    (cx_bR cx_th (ca m14 [vr_ x1, vi_ 3] s12) fun v16 s15 =>
    ((dp 386 (some x0) s15).bind fun m17 =>
    (cx_bI cx_th (ca m17 [vr_ (some x0), vr_ v16] s15) fun v19 s18 =>
    jm 39 [vr_ (some x0), vr_ x1] [vi_ v19] s18))))
  else
    jm 39 [vr_ (some x0), vr_ x1] [vi_ 1] s12))))))))))) := by rfl
set_option maxRecDepth 100000 in
theorem cb_X9_counts_39 (y0 : Int32) (x1 : Option Nat) (x0 : Nat) (s : σ) : cx_B ct_lc gi gr pi pr ai ar wi wr an nw na io dp ct_ft ct_sg 0 [] ct_X9_counts ca jm 1000 (pj_at ct_X9_counts 39) [some (vr_ (some x0)), some (vr_ x1), none, none, none, none] [vi_ y0] s =
  ((gr 177 (some x0) s).bind fun v1 =>
  ((gi 117 v1 s).bind fun v2 =>
  ((dp 371 (some x0) s).bind fun m3 =>
  (cx_bV cx_th (ca m3 [vr_ (some x0)] s) fun s4 =>
  ((gr 103 x1 s4).bind fun v5 =>
  ((gi 100 x1 s4).bind fun v6 =>
  ((dp 377 (some x0) s4).bind fun m7 =>
  (cx_bR cx_th (ca m7 [vr_ (some x0)] s4) fun v9 s8 =>
  ((dp 374 (some x0) s8).bind fun m10 =>
  (cx_bV cx_th (ca m10 [vr_ (some x0), vr_ v5, vi_ v6, vr_ v9] s8) fun s11 =>
  ((gr 177 (some x0) s11).bind fun v12 =>
  ((dp 311 v12 s11).bind fun m13 =>
  (cx_bV cx_th (ca m13 [vr_ v12, vi_ 1] s11) fun s14 =>
  ((gr 177 (some x0) s14).bind fun v15 =>
  ((dp 312 v15 s14).bind fun m16 =>
  (cx_bI cx_th (ca m16 [vr_ v15, vi_ 3, vi_ (v2 + 1)] s14) fun v18 s17 =>
  ((gr 177 (some x0) s17).bind fun v19 =>
  ((dp 312 v19 s17).bind fun m20 =>
  (cx_bI cx_th (ca m20 [vr_ v19, vi_ 3, vi_ v2] s17) fun v22 s21 =>
  ((gr 177 (some x0) s21).bind fun v23 =>
  ((dp 314 v23 s21).bind fun m24 =>
  (cx_bI cx_th (ca m24 [vr_ v23] s21) fun v26 s25 =>
  ((gr 177 (some x0) s25).bind fun v27 =>
  ((dp 312 v27 s25).bind fun m28 =>
  (cx_bI cx_th (ca m28 [vr_ v27, vi_ 18, vi_ 0] s25) fun v30 s29 =>
  ((gr 177 (some x0) s29).bind fun v31 =>
  ((dp 312 v31 s29).bind fun m32 =>
  (cx_bI cx_th (ca m32 [vr_ v31, vi_ 1, vi_ v2] s29) fun v34 s33 =>
  ((gr 177 (some x0) s33).bind fun v35 =>
  ((dp 312 v35 s33).bind fun m36 =>
  (cx_bI cx_th (ca m36 [vr_ v35, vi_ 1, vi_ (v2 + 1)] s33) fun v38 s37 =>
  ((gr 177 (some x0) s37).bind fun v39 =>
  (if y0 < 0 then
    jm 159 [vr_ (some x0), vr_ x1, vi_ y0, vi_ v2, vi_ v26] [vr_ (some 1023), vi_ 11, vr_ v39] s37
  else
    jm 159 [vr_ (some x0), vr_ x1, vi_ y0, vi_ v2, vi_ v26] [vr_ (some 1025), vi_ 11, vr_ v39] s37))))))))))))))))))))))))))))))))) := by rfl
set_option maxRecDepth 100000 in
theorem cb_X9_counts_159 (x2 x3 x4 y1 : Int32) (x1 y0 y2 : Option Nat) (x0 : Nat) (s : σ) : cx_B ct_lc gi gr pi pr ai ar wi wr an nw na io dp ct_ft ct_sg 0 [] ct_X9_counts ca jm 1000 (pj_at ct_X9_counts 159) [some (vr_ (some x0)), some (vr_ x1), some (vi_ x2), some (vi_ x3), some (vi_ x4), none] [vr_ y2, vi_ y1, vr_ y0] s =
  (cx_bI cx_th (ca 213 [vr_ y2] s) fun v2 s1 =>
  ((dp 312 y0 s1).bind fun m3 =>
  (cx_bI cx_th (ca m3 [vr_ y0, vi_ y1, vi_ v2] s1) fun v5 s4 =>
  ((gr 177 (some x0) s4).bind fun v6 =>
  ((dp 312 v6 s4).bind fun m7 =>
  (cx_bI cx_th (ca m7 [vr_ v6, vi_ 15, vi_ 0] s4) fun v9 s8 =>
  ((dp 395 (some x0) s8).bind fun m10 =>
  (cx_bV cx_th (ca m10 [vr_ (some x0)] s8) fun s11 =>
  ((dp 308 x1 s11).bind fun m12 =>
  (cx_bR cx_th (ca m12 [vr_ x1, vi_ 2] s11) fun v14 s13 =>
  ((dp 391 (some x0) s13).bind fun m15 =>
  (cx_bV cx_th (ca m15 [vr_ (some x0), vr_ v14] s13) fun s16 =>
  ((gr 179 (some x0) s16).bind fun v17 =>
  ((dp 396 (some x0) s16).bind fun m18 =>
  (cx_bV cx_th (ca m18 [vr_ (some x0), vr_ v17] s16) fun s19 =>
  ((gr 177 (some x0) s19).bind fun v20 =>
  ((dp 312 v20 s19).bind fun m21 =>
  (cx_bI cx_th (ca m21 [vr_ v20, vi_ 1, vi_ x3] s19) fun v23 s22 =>
  ((gr 177 (some x0) s22).bind fun v24 =>
  ((dp 312 v24 s22).bind fun m25 =>
  (cx_bI cx_th (ca m25 [vr_ v24, vi_ 0, vi_ x2] s22) fun v27 s26 =>
  ((gr 177 (some x0) s26).bind fun v28 =>
  ((dp 312 v28 s26).bind fun m29 =>
  (cx_bI cx_th (ca m29 [vr_ v28, vi_ 10, vi_ 0] s26) fun v31 s30 =>
  ((gr 177 (some x0) s30).bind fun v32 =>
  ((dp 312 v32 s30).bind fun m33 =>
  (cx_bI cx_th (ca m33 [vr_ v32, vi_ 3, vi_ x3] s30) fun v35 s34 =>
  ((gr 177 (some x0) s34).bind fun v36 =>
  ((dp 312 v36 s34).bind fun m37 =>
  (cx_bI cx_th (ca m37 [vr_ v36, vi_ 13, vi_ x4] s34) fun v39 s38 =>
  ((dp 397 (some x0) s38).bind fun m40 =>
  (cx_bV cx_th (ca m40 [vr_ (some x0)] s38) fun s41 =>
  ((gr 177 (some x0) s41).bind fun v42 =>
  ((dp 313 v42 s41).bind fun m43 =>
  (cx_bV cx_th (ca m43 [vr_ v42, vi_ v9] s41) fun s44 =>
  ((dp 400 (some x0) s44).bind fun m45 =>
  (cx_bV cx_th (ca m45 [vr_ (some x0)] s44) fun s46 =>
  ((gr 177 (some x0) s46).bind fun v47 =>
  ((pi 117 v47 x3 s46).bind fun s48 =>
  some (.inl none, s48)))))))))))))))))))))))))))))))))))))))) := by rfl
set_option maxRecDepth 100000 in
theorem cb_X9_close (x0 : Nat) (s : σ) : cx_B ct_lc gi gr pi pr ai ar wi wr an nw na io dp ct_ft ct_sg 0 [] ct_X9_close ca jm 1000 ct_X9_close [some (vr_ (some x0))] [] s =
  ((gr 169 (some x0) s).bind fun v1 =>
  ((gr 169 (some x0) s).bind fun v2 =>
  ((dp 78 v2 s).bind fun m3 =>
  (cx_bI cx_th (ca m3 [vr_ v2] s) fun v5 s4 =>
  ((dp 81 v1 s4).bind fun m6 =>
  (cx_bR cx_th (ca m6 [vr_ v1, vi_ (v5 - 1)] s4) fun v8 s7 =>
  some (.inl none, s7))))))) := by rfl
set_option maxRecDepth 100000 in
theorem cb_X9_chooses (x1 : Option Nat) (x0 : Nat) (s : σ) : cx_B ct_lc gi gr pi pr ai ar wi wr an nw na io dp ct_ft ct_sg 0 [] ct_X9_chooses ca jm 1000 ct_X9_chooses [some (vr_ (some x0)), some (vr_ x1), none, none, none, none, none, none, none] [] s =
  ((dp 308 x1 s).bind fun m1 =>
  (cx_bR cx_th (ca m1 [vr_ x1, vi_ 0] s) fun v3 s2 =>
  ((dp 378 (some x0) s2).bind fun m4 =>
  (cx_bV cx_th (ca m4 [vr_ (some x0), vr_ v3] s2) fun s5 =>
  ((dp 371 (some x0) s5).bind fun m6 =>
  (cx_bV cx_th (ca m6 [vr_ (some x0)] s5) fun s7 =>
  ((dp 402 (some x0) s7).bind fun m8 =>
  (cx_bV cx_th (ca m8 [vr_ (some x0), vr_ x1] s7) fun s9 =>
  ((gr 180 (some x0) s9).bind fun v10 =>
  (cx_bV cx_th (ca 72 [vr_ (some (nw 36 s9).1)] (nw 36 s9).2) fun s11 =>
  ((pr 180 (some x0) (some (nw 36 s9).1) s11).bind fun s12 =>
  (cx_bV cx_th (ca 130 [vr_ (some (nw 41 s12).1)] (nw 41 s12).2) fun s13 =>
  (cx_bV cx_th (ca 72 [vr_ (some (nw 36 s13).1)] (nw 36 s13).2) fun s14 =>
  ((gr 105 x1 s14).bind fun v15 =>
  ((gr 107 v15 s14).bind fun v16 =>
  jm 63 [vr_ (some x0), vr_ x1, vr_ v10, vr_ (some (nw 41 s12).1), vr_ (some (nw 36 s13).1), vr_ none, vr_ v16] [] s14))))))))))))))) := by rfl
set_option maxRecDepth 100000 in
theorem cb_X9_chooses_63 (x1 x2 x3 x4 x5 x6 : Option Nat) (x0 : Nat) (s : σ) : cx_B ct_lc gi gr pi pr ai ar wi wr an nw na io dp ct_ft ct_sg 0 [] ct_X9_chooses ca jm 1000 (pj_at ct_X9_chooses 63) [some (vr_ (some x0)), some (vr_ x1), some (vr_ x2), some (vr_ x3), some (vr_ x4), some (vr_ x5), some (vr_ x6), none, none] [] s =
  (if x6 = none then
    ((gr 177 (some x0) s).bind fun v1 =>
    ((dp 312 v1 s).bind fun m2 =>
    (cx_bI cx_th (ca m2 [vr_ v1, vi_ 19, vi_ 0] s) fun v4 s3 =>
    ((gr 177 (some x0) s3).bind fun v5 =>
    ((dp 312 v5 s3).bind fun m6 =>
    (cx_bI cx_th (ca m6 [vr_ v5, vi_ 13, vi_ 0] s3) fun v8 s7 =>
    ((gr 105 x1 s7).bind fun v9 =>
    ((gr 107 v9 s7).bind fun v10 =>
    jm 255 [vr_ (some x0), vr_ x2, vr_ x4, vr_ x5, vi_ v8, vi_ 0, vr_ v10] [] s7))))))))
  else
    ((gr 99 x6 s).bind fun v11 =>
    (if v11 = (some 1127) then
      (if x5 = none then
        ((gr 99 x6 s).bind fun v12 =>
        (if v12 = (some 1127) then
          (if x5 = none then
            jm 115 [vr_ (some x0), vr_ x1, vr_ x2, vr_ x3, vr_ x4, vr_ x6, vr_ x6] [] s
          else
            jm 115 [vr_ (some x0), vr_ x1, vr_ x2, vr_ x3, vr_ x4, vr_ x5, vr_ x6] [] s)
        else
          jm 115 [vr_ (some x0), vr_ x1, vr_ x2, vr_ x3, vr_ x4, vr_ x5, vr_ x6] [] s))
      else
        ((gi 100 x6 s).bind fun v13 =>
        ((dp 375 (some x0) s).bind fun m14 =>
        (cx_bV cx_th (ca m14 [vr_ (some x0), vi_ v13, vi_ 6] s) fun s15 =>
        ((gr 99 x6 s15).bind fun v16 =>
        (if v16 = (some 1127) then
          (if x5 = none then
            jm 115 [vr_ (some x0), vr_ x1, vr_ x2, vr_ x3, vr_ x4, vr_ x6, vr_ x6] [] s15
          else
            jm 115 [vr_ (some x0), vr_ x1, vr_ x2, vr_ x3, vr_ x4, vr_ x5, vr_ x6] [] s15)
        else
          jm 115 [vr_ (some x0), vr_ x1, vr_ x2, vr_ x3, vr_ x4, vr_ x5, vr_ x6] [] s15))))))
    else
      ((gr 99 x6 s).bind fun v17 =>
      (if v17 = (some 1127) then
        (if x5 = none then
          jm 115 [vr_ (some x0), vr_ x1, vr_ x2, vr_ x3, vr_ x4, vr_ x6, vr_ x6] [] s
        else
          jm 115 [vr_ (some x0), vr_ x1, vr_ x2, vr_ x3, vr_ x4, vr_ x5, vr_ x6] [] s)
      else
        jm 115 [vr_ (some x0), vr_ x1, vr_ x2, vr_ x3, vr_ x4, vr_ x5, vr_ x6] [] s))))) := by rfl
set_option maxRecDepth 100000 in
theorem cb_X9_chooses_115 (x1 x2 x3 x4 x5 x6 : Option Nat) (x0 : Nat) (s : σ) : cx_B ct_lc gi gr pi pr ai ar wi wr an nw na io dp ct_ft ct_sg 0 [] ct_X9_chooses ca jm 1000 (pj_at ct_X9_chooses 115) [some (vr_ (some x0)), some (vr_ x1), some (vr_ x2), some (vr_ x3), some (vr_ x4), some (vr_ x5), some (vr_ x6), none, none] [] s =
  ((gr 99 x6 s).bind fun v1 =>
  (if v1 = (some 1126) then
    ((dp 308 x6 s).bind fun m2 =>
    (cx_bR cx_th (ca m2 [vr_ x6, vi_ 0] s) fun v4 s3 =>
    ((dp 386 (some x0) s3).bind fun m5 =>
    (cx_bI cx_th (ca m5 [vr_ (some x0), vr_ v4] s3) fun v7 s6 =>
    ((gi 183 (some x0) s6).bind fun v8 =>
    (if v8 = 0 then
      jm 177 [vr_ (some x0), vr_ x1, vr_ x2, vr_ x3, vr_ x4, vr_ x5, vr_ x6, vi_ v7] [] s6
    else
      (cx_bR cx_th (ca 28 [vi_ v7] s6) fun v10 s9 =>
      ((dp 131 x3 s9).bind fun m11 =>
      (cx_bI cx_th (ca m11 [vr_ x3, vr_ v10] s9) fun v13 s12 =>
      (if v13 = 0 then
        ((dp 308 x6 s12).bind fun m14 =>
        (cx_bR cx_th (ca m14 [vr_ x6, vi_ 0] s12) fun v16 s15 =>
        ((gi 101 v16 s15).bind fun v17 =>
        ((dp 375 (some x0) s15).bind fun m18 =>
        (cx_bV cx_th (ca m18 [vr_ (some x0), vi_ v17, vi_ 6] s15) fun s19 =>
        jm 177 [vr_ (some x0), vr_ x1, vr_ x2, vr_ x3, vr_ x4, vr_ x5, vr_ x6, vi_ v7] [] s19)))))
      else
        jm 177 [vr_ (some x0), vr_ x1, vr_ x2, vr_ x3, vr_ x4, vr_ x5, vr_ x6, vi_ v7] [] s12))))))))))
  else
    ((gr 107 x6 s).bind fun v20 =>
    jm 63 [vr_ (some x0), vr_ x1, vr_ x2, vr_ x3, vr_ x4, vr_ x5, vr_ v20] [] s))) := by rfl
set_option maxRecDepth 100000 in
theorem cb_X9_chooses_177 (x7 : Int32) (x1 x2 x3 x4 x5 x6 : Option Nat) (x0 : Nat) (s : σ) : cx_B ct_lc gi gr pi pr ai ar wi wr an nw na io dp ct_ft ct_sg 0 [] ct_X9_chooses ca jm 1000 (pj_at ct_X9_chooses 177) [some (vr_ (some x0)), some (vr_ x1), some (vr_ x2), some (vr_ x3), some (vr_ x4), some (vr_ x5), some (vr_ x6), some (vi_ x7), none] [] s =
  ((gr 177 (some x0) s).bind fun v1 =>
  ((dp 312 v1 s).bind fun m2 =>
  (cx_bI cx_th (ca m2 [vr_ v1, vi_ 21, vi_ x7] s) fun v4 s3 =>
  ((gr 177 (some x0) s3).bind fun v5 =>
  ((dp 312 v5 s3).bind fun m6 =>
  (cx_bI cx_th (ca m6 [vr_ v5, vi_ 15, vi_ 0] s3) fun v8 s7 =>
  (cx_bR cx_th (ca 28 [vi_ v8] s7) fun v10 s9 =>
  ((dp 73 x4 s9).bind fun m11 =>
  (cx_bI cx_th (ca m11 [vr_ x4, vr_ v10] s9) fun v13 s12 =>
  ((gr 107 x6 s12).bind fun v14 =>
  jm 63 [vr_ (some x0), vr_ x1, vr_ x2, vr_ x3, vr_ x4, vr_ x5, vr_ v14] [] s12)))))))))) := by rfl
set_option maxRecDepth 100000 in
theorem cb_X9_chooses_255 (x6 x7 : Int32) (x2 x4 x5 x8 : Option Nat) (x0 : Nat) (s : σ) : cx_B ct_lc gi gr pi pr ai ar wi wr an nw na io dp ct_ft ct_sg 0 [] ct_X9_chooses ca jm 1000 (pj_at ct_X9_chooses 255) [some (vr_ (some x0)), none, some (vr_ x2), none, some (vr_ x4), some (vr_ x5), some (vi_ x6), some (vi_ x7), some (vr_ x8)] [] s =
  (if x8 = none then
    (if x5 = none then
      ((gr 177 (some x0) s).bind fun v1 =>
      ((dp 313 v1 s).bind fun m2 =>
      (cx_bV cx_th (ca m2 [vr_ v1, vi_ x6] s) fun s3 =>
      ((gr 180 (some x0) s3).bind fun v4 =>
      ((dp 396 (some x0) s3).bind fun m5 =>
      (cx_bV cx_th (ca m5 [vr_ (some x0), vr_ v4] s3) fun s6 =>
      ((pr 180 (some x0) x2 s6).bind fun s7 =>
      ((dp 400 (some x0) s7).bind fun m8 =>
      (cx_bV cx_th (ca m8 [vr_ (some x0)] s7) fun s9 =>
      some (.inl none, s9))))))))))
    else
      ((gr 180 (some x0) s).bind fun v10 =>
      ((dp 396 (some x0) s).bind fun m11 =>
      (cx_bV cx_th (ca m11 [vr_ (some x0), vr_ v10] s) fun s12 =>
      ((pr 180 (some x0) x2 s12).bind fun s13 =>
      ((dp 400 (some x0) s13).bind fun m14 =>
      (cx_bV cx_th (ca m14 [vr_ (some x0)] s13) fun s15 =>
      some (.inl none, s15))))))))
  else
    ((gr 99 x8 s).bind fun v16 =>
    (if v16 = (some 1126) then
      ((gr 177 (some x0) s).bind fun v17 =>
      ((dp 79 x4 s).bind fun m18 =>
      (cx_bR cx_th (ca m18 [vr_ x4, vi_ x7] s) fun v20 s19 =>
      ((cx_cst io 20 v20 s19).bind fun _ =>
      ((dp 26 v20 s19).bind fun m21 =>
      (cx_bI cx_th (ca m21 [vr_ v20] s19) fun v23 s22 =>
      ((dp 313 v17 s22).bind fun m24 =>
      (cx_bV cx_th (ca m24 [vr_ v17, vi_ v23] s22) fun s25 =>
      ((gr 107 x8 s25).bind fun v26 =>
      jm 255 [vr_ (some x0), vr_ x2, vr_ x4, vr_ x5, vi_ x6, vi_ (x7 + 1), vr_ v26] [] s25)))))))))
    else
      ((gr 99 x8 s).bind fun v27 =>
      (if v27 = (some 1127) then
        (if x8 = x5 then
          ((gr 177 (some x0) s).bind fun v28 =>
          ((dp 313 v28 s).bind fun m29 =>
          (cx_bV cx_th (ca m29 [vr_ v28, vi_ x6] s) fun s30 =>
          ((gr 107 x8 s30).bind fun v31 =>
          jm 255 [vr_ (some x0), vr_ x2, vr_ x4, vr_ x5, vi_ x6, vi_ x7, vr_ v31] [] s30))))
        else
          ((gr 107 x8 s).bind fun v32 =>
          jm 255 [vr_ (some x0), vr_ x2, vr_ x4, vr_ x5, vi_ x6, vi_ x7, vr_ v32] [] s))
      else
        ((dp 391 (some x0) s).bind fun m33 =>
        (cx_bV cx_th (ca m33 [vr_ (some x0), vr_ x8] s) fun s34 =>
        ((gr 107 x8 s34).bind fun v35 =>
        jm 255 [vr_ (some x0), vr_ x2, vr_ x4, vr_ x5, vi_ x6, vi_ x7, vr_ v35] [] s34)))))))) := by rfl
set_option maxRecDepth 100000 in
theorem cb_X9_labels (x1 : Option Nat) (x0 : Nat) (s : σ) : cx_B ct_lc gi gr pi pr ai ar wi wr an nw na io dp ct_ft ct_sg 0 [] ct_X9_labels ca jm 1000 ct_X9_labels [some (vr_ (some x0)), some (vr_ x1), none, none] [] s =
  ((gr 105 x1 s).bind fun v1 =>
  jm 5 [vr_ (some x0), vr_ v1] [] s) := by rfl
set_option maxRecDepth 100000 in
theorem cb_X9_labels_5 (x2 : Option Nat) (x0 : Nat) (s : σ) : cx_B ct_lc gi gr pi pr ai ar wi wr an nw na io dp ct_ft ct_sg 0 [] ct_X9_labels ca jm 1000 (pj_at ct_X9_labels 5) [some (vr_ (some x0)), none, some (vr_ x2), none] [] s =
  (if x2 = none then
    some (.inl none, s)
  else
    ((gr 99 x2 s).bind fun v1 =>
    (if v1 = (some 1123) then
      ((gr 177 (some x0) (nw 7 s).2).bind fun v2 =>
      ((gi 115 v2 (nw 7 s).2).bind fun v3 =>
      (cx_bV cx_th (ca 361 [vr_ (some (nw 7 s).1), vr_ (some 1150), vi_ v3] (nw 7 s).2) fun s4 =>
      ((gr 177 (some x0) s4).bind fun v5 =>
      ((gi 115 v5 s4).bind fun v6 =>
      ((pi 115 v5 (v6 + 1) s4).bind fun s7 =>
      ((gr 177 (some x0) s7).bind fun v8 =>
      ((pr 160 (some (nw 7 s).1) v8 s7).bind fun s9 =>
      ((gr 181 (some x0) s9).bind fun v10 =>
      ((pr 161 (some (nw 7 s).1) v10 s9).bind fun s11 =>
      ((gr 103 x2 s11).bind fun v12 =>
      ((gi 100 x2 s11).bind fun v13 =>
      ((dp 374 (some x0) s11).bind fun m14 =>
      (cx_bV cx_th (ca m14 [vr_ (some x0), vr_ v12, vi_ v13, vr_ (some (nw 7 s).1)] s11) fun s15 =>
      ((gr 107 x2 s15).bind fun v16 =>
      jm 5 [vr_ (some x0), vr_ v16] [] s15)))))))))))))))
    else
      ((gr 107 x2 s).bind fun v17 =>
      jm 5 [vr_ (some x0), vr_ v17] [] s)))) := by rfl
set_option maxRecDepth 100000 in
theorem cb_X9_goes (x1 x2 : Option Nat) (x0 : Nat) (s : σ) : cx_B ct_lc gi gr pi pr ai ar wi wr an nw na io dp ct_ft ct_sg 0 [] ct_X9_goes ca jm 1000 ct_X9_goes [some (vr_ (some x0)), some (vr_ x1), some (vr_ x2)] [] s =
  (if x1 = none then
    ((gi 100 x2 s).bind fun v1 =>
    ((dp 375 (some x0) s).bind fun m2 =>
    (cx_bV cx_th (ca m2 [vr_ (some x0), vi_ v1, vi_ 6] s) fun s3 =>
    some (.inl none, s3))))
  else
    ((gr 177 (some x0) s).bind fun v4 =>
    ((dp 312 v4 s).bind fun m5 =>
    (cx_bI cx_th (ca m5 [vr_ v4, vi_ 13, vi_ 0] s) fun v7 s6 =>
    (cx_bR cx_th (ca 28 [vi_ v7] s6) fun v9 s8 =>
    ((dp 73 x1 s8).bind fun m10 =>
    (cx_bI cx_th (ca m10 [vr_ x1, vr_ v9] s8) fun v12 s11 =>
    some (.inl none, s11)))))))) := by rfl
set_option maxRecDepth 100000 in
theorem cb_X9_jump (x1 : Option Nat) (x0 : Nat) (s : σ) : cx_B ct_lc gi gr pi pr ai ar wi wr an nw na io dp ct_ft ct_sg 0 [] ct_X9_jump ca jm 1000 ct_X9_jump [some (vr_ (some x0)), some (vr_ x1), none] [] s =
  ((gr 103 x1 s).bind fun v1 =>
  ((dp 380 (some x0) s).bind fun m2 =>
  (cx_bR cx_th (ca m2 [vr_ (some x0), vr_ v1] s) fun v4 s3 =>
  (if v4 = none then
    ((gi 100 x1 s3).bind fun v5 =>
    ((dp 375 (some x0) s3).bind fun m6 =>
    (cx_bV cx_th (ca m6 [vr_ (some x0), vi_ v5, vi_ 3] s3) fun s7 =>
    some (.inl none, s7))))
  else
    ((gr 154 v4 s3).bind fun v8 =>
    (if v8 = (some 1150) then
      ((gr 160 v4 s3).bind fun v9 =>
      ((gr 177 (some x0) s3).bind fun v10 =>
      (if v9 = v10 then
        ((gr 161 v4 s3).bind fun v11 =>
        ((gr 181 (some x0) s3).bind fun v12 =>
        (if v11 = v12 then
          ((gr 177 (some x0) s3).bind fun v13 =>
          ((gi 155 v4 s3).bind fun v14 =>
          ((dp 312 v13 s3).bind fun m15 =>
          (cx_bI cx_th (ca m15 [vr_ v13, vi_ 13, vi_ v14] s3) fun v17 s16 =>
          some (.inl none, s16)))))
        else
          ((gi 100 x1 s3).bind fun v18 =>
          ((dp 375 (some x0) s3).bind fun m19 =>
          (cx_bV cx_th (ca m19 [vr_ (some x0), vi_ v18, vi_ 6] s3) fun s20 =>
          some (.inl none, s20)))))))
      else
        ((gi 100 x1 s3).bind fun v21 =>
        ((dp 375 (some x0) s3).bind fun m22 =>
        (cx_bV cx_th (ca m22 [vr_ (some x0), vi_ v21, vi_ 6] s3) fun s23 =>
        some (.inl none, s23)))))))
    else
      ((gi 100 x1 s3).bind fun v24 =>
      ((dp 375 (some x0) s3).bind fun m25 =>
      (cx_bV cx_th (ca m25 [vr_ (some x0), vi_ v24, vi_ 6] s3) fun s26 =>
      some (.inl none, s26)))))))))) := by rfl
set_option maxRecDepth 100000 in
theorem cb_X9_block (x1 : Option Nat) (x0 : Nat) (s : σ) : cx_B ct_lc gi gr pi pr ai ar wi wr an nw na io dp ct_ft ct_sg 0 [] ct_X9_block ca jm 1000 ct_X9_block [some (vr_ (some x0)), some (vr_ x1), none, none, none] [] s =
  ((gr 177 (some x0) s).bind fun v1 =>
  ((gi 117 v1 s).bind fun v2 =>
  ((dp 371 (some x0) s).bind fun m3 =>
  (cx_bV cx_th (ca m3 [vr_ (some x0)] s) fun s4 =>
  ((dp 402 (some x0) s4).bind fun m5 =>
  (cx_bV cx_th (ca m5 [vr_ (some x0), vr_ x1] s4) fun s6 =>
  ((gr 105 x1 s6).bind fun v7 =>
  jm 22 [vr_ (some x0), vi_ v2, vr_ v7] [] s6))))))) := by rfl
set_option maxRecDepth 100000 in
theorem cb_X9_block_22 (x2 : Int32) (x3 : Option Nat) (x0 : Nat) (s : σ) : cx_B ct_lc gi gr pi pr ai ar wi wr an nw na io dp ct_ft ct_sg 0 [] ct_X9_block ca jm 1000 (pj_at ct_X9_block 22) [some (vr_ (some x0)), none, some (vi_ x2), some (vr_ x3), none] [] s =
  (if x3 = none then
    ((dp 400 (some x0) s).bind fun m1 =>
    (cx_bV cx_th (ca m1 [vr_ (some x0)] s) fun s2 =>
    ((gr 177 (some x0) s2).bind fun v3 =>
    ((pi 117 v3 x2 s2).bind fun s4 =>
    some (.inl none, s4)))))
  else
    ((gr 99 x3 s).bind fun v5 =>
    (if v5 = (some 1089) then
      jm 81 [vr_ (some x0), vi_ x2, vr_ x3] [vi_ 1] s
    else
      ((gr 99 x3 s).bind fun v6 =>
      (if v6 = (some 1088) then
        jm 81 [vr_ (some x0), vi_ x2, vr_ x3] [vi_ 1] s
      else
        ((gr 99 x3 s).bind fun v7 =>
        (if v7 = (some 1085) then
          jm 81 [vr_ (some x0), vi_ x2, vr_ x3] [vi_ 1] s
        else
          ((gr 99 x3 s).bind fun v8 =>
          (if v8 = (some 1086) then
            jm 81 [vr_ (some x0), vi_ x2, vr_ x3] [vi_ 1] s
          else
            ((gr 99 x3 s).bind fun v9 =>
            (if v9 = (some 1087) then
              jm 81 [vr_ (some x0), vi_ x2, vr_ x3] [vi_ 1] s
            else
              jm 81 [vr_ (some x0), vi_ x2, vr_ x3] [vi_ 0] s))))))))))) := by rfl
set_option maxRecDepth 100000 in
theorem cb_X9_block_81 (x2 y0 : Int32) (x3 : Option Nat) (x0 : Nat) (s : σ) : cx_B ct_lc gi gr pi pr ai ar wi wr an nw na io dp ct_ft ct_sg 0 [] ct_X9_block ca jm 1000 (pj_at ct_X9_block 81) [some (vr_ (some x0)), none, some (vi_ x2), some (vr_ x3), none] [vi_ y0] s =
  (if y0 = 0 then
    ((dp 391 (some x0) s).bind fun m1 =>
    (cx_bV cx_th (ca m1 [vr_ (some x0), vr_ x3] s) fun s2 =>
    ((gr 107 x3 s2).bind fun v3 =>
    jm 22 [vr_ (some x0), vi_ x2, vr_ v3] [] s2)))
  else
    ((dp 372 (some x0) s).bind fun m4 =>
    (cx_bV cx_th (ca m4 [vr_ (some x0), vr_ x3] s) fun s5 =>
    ((gr 107 x3 s5).bind fun v6 =>
    jm 22 [vr_ (some x0), vi_ x2, vr_ v6] [] s5)))) := by rfl
set_option maxRecDepth 100000 in
theorem cb_X9_variables (x1 : Option Nat) (x0 : Nat) (s : σ) : cx_B ct_lc gi gr pi pr ai ar wi wr an nw na io dp ct_ft ct_sg 0 [] ct_X9_variables ca jm 1000 ct_X9_variables [some (vr_ (some x0)), some (vr_ x1), none, none, none, none, none] [] s =
  ((gr 177 (some x0) s).bind fun v1 =>
  ((dp 312 v1 s).bind fun m2 =>
  (cx_bI cx_th (ca m2 [vr_ v1, vi_ 18, vi_ 0] s) fun v4 s3 =>
  ((dp 307 x1 s3).bind fun m5 =>
  (cx_bI cx_th (ca m5 [vr_ x1] s3) fun v7 s6 =>
  ((na 200 v7 s6).bind fun q8 =>
  jm 23 [vr_ (some x0), vr_ x1, vr_ (some q8.1), vr_ none, vi_ 0] [] q8.2)))))) := by rfl
set_option maxRecDepth 100000 in
theorem cb_X9_variables_23 (x4 : Int32) (x1 x2 x3 : Option Nat) (x0 : Nat) (s : σ) : cx_B ct_lc gi gr pi pr ai ar wi wr an nw na io dp ct_ft ct_sg 0 [] ct_X9_variables ca jm 1000 (pj_at ct_X9_variables 23) [some (vr_ (some x0)), some (vr_ x1), some (vr_ x2), some (vr_ x3), some (vi_ x4), none, none] [] s =
  ((an x2 s).bind fun v1 =>
  (if x4 < v1 then
    (if x4 = 0 then
      ((gr 105 x1 s).bind fun v2 =>
      jm 46 [vr_ (some x0), vr_ x1, vr_ x2, vi_ x4] [vr_ v2] s)
    else
      ((gr 107 x3 s).bind fun v3 =>
      jm 46 [vr_ (some x0), vr_ x1, vr_ x2, vi_ x4] [vr_ v3] s))
  else
    ((gr 177 (some x0) s).bind fun v4 =>
    ((gi 117 v4 s).bind fun v5 =>
    jm 160 [vr_ (some x0), vr_ x1, vr_ x2, vi_ v5, vi_ 0] [] s)))) := by rfl
set_option maxRecDepth 100000 in
theorem cb_X9_variables_46 (x4 : Int32) (x1 x2 y0 : Option Nat) (x0 : Nat) (s : σ) : cx_B ct_lc gi gr pi pr ai ar wi wr an nw na io dp ct_ft ct_sg 0 [] ct_X9_variables ca jm 1000 (pj_at ct_X9_variables 46) [some (vr_ (some x0)), some (vr_ x1), some (vr_ x2), none, some (vi_ x4), none, none] [vr_ y0] s =
  ((gr 99 y0 s).bind fun v1 =>
  (if v1 = (some 1130) then
    ((dp 308 y0 s).bind fun m2 =>
    (cx_bR cx_th (ca m2 [vr_ y0, vi_ 0] s) fun v4 s3 =>
    ((dp 386 (some x0) s3).bind fun m5 =>
    (cx_bI cx_th (ca m5 [vr_ (some x0), vr_ v4] s3) fun v7 s6 =>
    ((gi 183 (some x0) s6).bind fun v8 =>
    (if v8 = 0 then
      jm 110 [vr_ (some x0), vr_ x1, vr_ x2, vr_ y0, vi_ x4, vi_ v7] [] s6
    else
      (if v7 < 0 then
        ((dp 308 y0 s6).bind fun m9 =>
        (cx_bR cx_th (ca m9 [vr_ y0, vi_ 0] s6) fun v11 s10 =>
        ((gi 101 v11 s10).bind fun v12 =>
        ((dp 375 (some x0) s10).bind fun m13 =>
        (cx_bV cx_th (ca m13 [vr_ (some x0), vi_ v12, vi_ 6] s10) fun s14 =>
        jm 110 [vr_ (some x0), vr_ x1, vr_ x2, vr_ y0, vi_ x4, vi_ v7] [] s14)))))
      else
        (if 30000 < v7 then
          ((dp 308 y0 s6).bind fun m15 =>
          (cx_bR cx_th (ca m15 [vr_ y0, vi_ 0] s6) fun v17 s16 =>
          ((gi 101 v17 s16).bind fun v18 =>
          ((dp 375 (some x0) s16).bind fun m19 =>
          (cx_bV cx_th (ca m19 [vr_ (some x0), vi_ v18, vi_ 6] s16) fun s20 =>
          jm 110 [vr_ (some x0), vr_ x1, vr_ x2, vr_ y0, vi_ x4, vi_ v7] [] s20)))))
        else
          jm 110 [vr_ (some x0), vr_ x1, vr_ x2, vr_ y0, vi_ x4, vi_ v7] [] s6))))))))
  else
    ((dp 378 (some x0) s).bind fun m21 =>
    (cx_bV cx_th (ca m21 [vr_ (some x0), vr_ y0] s) fun s22 =>
    jm 23 [vr_ (some x0), vr_ x1, vr_ x2, vr_ y0, vi_ (x4 + 1)] [] s22)))) := by rfl
set_option maxRecDepth 100000 in
theorem cb_X9_variables_110 (x4 x5 : Int32) (x1 x2 x3 : Option Nat) (x0 : Nat) (s : σ) : cx_B ct_lc gi gr pi pr ai ar wi wr an nw na io dp ct_ft ct_sg 0 [] ct_X9_variables ca jm 1000 (pj_at ct_X9_variables 110) [some (vr_ (some x0)), some (vr_ x1), some (vr_ x2), some (vr_ x3), some (vi_ x4), some (vi_ x5), none] [] s =
  ((gi 183 (some x0) s).bind fun v1 =>
  (if v1 = 0 then
    ((wi 0 x2 x4 (1 + 0) s).bind fun s2 =>
    jm 23 [vr_ (some x0), vr_ x1, vr_ x2, vr_ x3, vi_ (x4 + 1)] [] s2)
  else
    (if x5 < 0 then
      ((wi 0 x2 x4 (1 + 0) s).bind fun s3 =>
      jm 23 [vr_ (some x0), vr_ x1, vr_ x2, vr_ x3, vi_ (x4 + 1)] [] s3)
    else
      (if 30000 < x5 then
        ((wi 0 x2 x4 (1 + 0) s).bind fun s4 =>
        jm 23 [vr_ (some x0), vr_ x1, vr_ x2, vr_ x3, vi_ (x4 + 1)] [] s4)
      else
        ((wi 0 x2 x4 (1 + x5) s).bind fun s5 =>
        jm 23 [vr_ (some x0), vr_ x1, vr_ x2, vr_ x3, vi_ (x4 + 1)] [] s5))))) := by rfl
set_option maxRecDepth 100000 in
theorem cb_X9_variables_160 (x4 x5 : Int32) (x1 x2 : Option Nat) (x0 : Nat) (s : σ) : cx_B ct_lc gi gr pi pr ai ar wi wr an nw na io dp ct_ft ct_sg 0 [] ct_X9_variables ca jm 1000 (pj_at ct_X9_variables 160) [some (vr_ (some x0)), some (vr_ x1), some (vr_ x2), none, some (vi_ x4), some (vi_ x5), none] [] s =
  ((gr 108 x1 s).bind fun v1 =>
  ((dp 78 v1 s).bind fun m2 =>
  (cx_bI cx_th (ca m2 [vr_ v1] s) fun v4 s3 =>
  (if x5 < v4 then
    ((gr 108 x1 s3).bind fun v5 =>
    ((dp 79 v5 s3).bind fun m6 =>
    (cx_bR cx_th (ca m6 [vr_ v5, vi_ x5] s3) fun v8 s7 =>
    ((cx_cst io 14 v8 s7).bind fun _ =>
    ((gr 88 v8 s7).bind fun v9 =>
    ((gi 85 v8 s7).bind fun v10 =>
    ((dp 377 (some x0) s7).bind fun m11 =>
    (cx_bR cx_th (ca m11 [vr_ (some x0)] s7) fun v13 s12 =>
    ((dp 374 (some x0) s12).bind fun m14 =>
    (cx_bV cx_th (ca m14 [vr_ (some x0), vr_ v9, vi_ v10, vr_ v13] s12) fun s15 =>
    jm 160 [vr_ (some x0), vr_ x1, vr_ x2, vi_ x4, vi_ (x5 + 1)] [] s15))))))))))
  else
    ((an x2 s3).bind fun v16 =>
    jm 220 [vr_ (some x0), vr_ x2, vi_ x4, vi_ (v16 - 1)] [] s3))))) := by rfl
set_option maxRecDepth 100000 in
theorem cb_X9_variables_220 (x4 x5 : Int32) (x2 : Option Nat) (x0 : Nat) (s : σ) : cx_B ct_lc gi gr pi pr ai ar wi wr an nw na io dp ct_ft ct_sg 0 [] ct_X9_variables ca jm 1000 (pj_at ct_X9_variables 220) [some (vr_ (some x0)), none, some (vr_ x2), none, some (vi_ x4), some (vi_ x5), none] [] s =
  (if x5 < 0 then
    jm 255 [vr_ (some x0), vr_ x2, vi_ x4, vi_ 0] [] s
  else
    ((ai 0 x2 x5 s).bind fun v1 =>
    (if v1 = 0 then
      ((gr 177 (some x0) s).bind fun v2 =>
      ((dp 312 v2 s).bind fun m3 =>
      (cx_bI cx_th (ca m3 [vr_ v2, vi_ 3, vi_ (x4 + x5)] s) fun v5 s4 =>
      jm 220 [vr_ (some x0), vr_ x2, vi_ x4, vi_ (x5 + (-1))] [] s4)))
    else
      jm 220 [vr_ (some x0), vr_ x2, vi_ x4, vi_ (x5 + (-1))] [] s))) := by rfl
set_option maxRecDepth 100000 in
theorem cb_X9_variables_255 (x4 x5 : Int32) (x2 : Option Nat) (x0 : Nat) (s : σ) : cx_B ct_lc gi gr pi pr ai ar wi wr an nw na io dp ct_ft ct_sg 0 [] ct_X9_variables ca jm 1000 (pj_at ct_X9_variables 255) [some (vr_ (some x0)), none, some (vr_ x2), none, some (vi_ x4), some (vi_ x5), none] [] s =
  ((an x2 s).bind fun v1 =>
  (if x5 < v1 then
    ((ai 0 x2 x5 s).bind fun v2 =>
    (if v2 = 0 then
      jm 255 [vr_ (some x0), vr_ x2, vi_ x4, vi_ (x5 + 1)] [] s
    else
      ((gr 177 (some x0) s).bind fun v3 =>
      ((gr 177 (some x0) s).bind fun v4 =>
      ((gi 117 v4 s).bind fun v5 =>
      ((dp 312 v3 s).bind fun m6 =>
      (cx_bI cx_th (ca m6 [vr_ v3, vi_ 7, vi_ v5] s) fun v8 s7 =>
      ((gr 177 (some x0) s7).bind fun v9 =>
      ((dp 312 v9 s7).bind fun m10 =>
      (cx_bI cx_th (ca m10 [vr_ v9, vi_ 3, vi_ (x4 + x5)] s7) fun v12 s11 =>
      ((gr 177 (some x0) s11).bind fun v13 =>
      ((ai 0 x2 x5 s11).bind fun v14 =>
      ((dp 311 v13 s11).bind fun m15 =>
      (cx_bV cx_th (ca m15 [vr_ v13, vi_ v14] s11) fun s16 =>
      jm 255 [vr_ (some x0), vr_ x2, vi_ x4, vi_ (x5 + 1)] [] s16))))))))))))))
  else
    some (.inl none, s))) := by rfl
set_option maxRecDepth 100000 in
theorem cb_X9_constants (x1 : Option Nat) (x0 : Nat) (s : σ) : cx_B ct_lc gi gr pi pr ai ar wi wr an nw na io dp ct_ft ct_sg 0 [] ct_X9_constants ca jm 1000 ct_X9_constants [some (vr_ (some x0)), some (vr_ x1), none, none, none, none, none, none] [] s =
  (cx_bV cx_th (ca 72 [vr_ (some (nw 36 s).1)] (nw 36 s).2) fun s1 =>
  ((gr 105 x1 s1).bind fun v2 =>
  jm 13 [vr_ (some x0), vr_ x1, vr_ (some (nw 36 s).1), vr_ v2] [] s1)) := by rfl
set_option maxRecDepth 100000 in
theorem cb_X9_constants_13 (x1 x2 x3 : Option Nat) (x0 : Nat) (s : σ) : cx_B ct_lc gi gr pi pr ai ar wi wr an nw na io dp ct_ft ct_sg 0 [] ct_X9_constants ca jm 1000 (pj_at ct_X9_constants 13) [some (vr_ (some x0)), some (vr_ x1), some (vr_ x2), some (vr_ x3), none, none, none, none] [] s =
  (if x3 = none then
    ((gr 105 x1 s).bind fun v1 =>
    jm 144 [vr_ (some x0), vr_ x1, vr_ x2, vr_ v1, vi_ 0] [] s)
  else
    ((gr 99 x1 (nw 7 s).2).bind fun v2 =>
    (if v2 = (some 1086) then
      (cx_bV cx_th (ca 361 [vr_ (some (nw 7 s).1), vr_ (some 1151), vi_ 0] (nw 7 s).2) fun s3 =>
      ((gr 99 x1 s3).bind fun v4 =>
      (if v4 = (some 1085) then
        jm 63 [vr_ (some x0), vr_ x1, vr_ x2, vr_ x3, vr_ (some (nw 7 s).1)] [vi_ 1, vr_ (some (nw 7 s).1)] s3
      else
        jm 63 [vr_ (some x0), vr_ x1, vr_ x2, vr_ x3, vr_ (some (nw 7 s).1)] [vi_ 0, vr_ (some (nw 7 s).1)] s3)))
    else
      (cx_bV cx_th (ca 361 [vr_ (some (nw 7 s).1), vr_ (some 1148), vi_ 0] (nw 7 s).2) fun s5 =>
      ((gr 99 x1 s5).bind fun v6 =>
      (if v6 = (some 1085) then
        jm 63 [vr_ (some x0), vr_ x1, vr_ x2, vr_ x3, vr_ (some (nw 7 s).1)] [vi_ 1, vr_ (some (nw 7 s).1)] s5
      else
        jm 63 [vr_ (some x0), vr_ x1, vr_ x2, vr_ x3, vr_ (some (nw 7 s).1)] [vi_ 0, vr_ (some (nw 7 s).1)] s5)))))) := by rfl
set_option maxRecDepth 100000 in
theorem cb_X9_constants_63 (y1 : Int32) (x1 x2 x3 x4 y0 : Option Nat) (x0 : Nat) (s : σ) : cx_B ct_lc gi gr pi pr ai ar wi wr an nw na io dp ct_ft ct_sg 0 [] ct_X9_constants ca jm 1000 (pj_at ct_X9_constants 63) [some (vr_ (some x0)), some (vr_ x1), some (vr_ x2), some (vr_ x3), some (vr_ x4), none, none, none] [vi_ y1, vr_ y0] s =
  ((pi 158 y0 y1 s).bind fun s1 =>
  ((gr 99 x1 s1).bind fun v2 =>
  (if v2 = (some 1086) then
    ((pi 156 x4 0 s1).bind fun s3 =>
    ((gr 99 x1 s3).bind fun v4 =>
    (if v4 = (some 1087) then
      ((gi 104 x3 s3).bind fun v5 =>
      ((pi 155 x4 v5 s3).bind fun s6 =>
      jm 105 [vr_ (some x0), vr_ x1, vr_ x2, vr_ x3, vr_ x4] [] s6))
    else
      jm 105 [vr_ (some x0), vr_ x1, vr_ x2, vr_ x3, vr_ x4] [] s3)))
  else
    ((pi 156 x4 1 s1).bind fun s7 =>
    ((gr 99 x1 s7).bind fun v8 =>
    (if v8 = (some 1087) then
      ((gi 104 x3 s7).bind fun v9 =>
      ((pi 155 x4 v9 s7).bind fun s10 =>
      jm 105 [vr_ (some x0), vr_ x1, vr_ x2, vr_ x3, vr_ x4] [] s10))
    else
      jm 105 [vr_ (some x0), vr_ x1, vr_ x2, vr_ x3, vr_ x4] [] s7)))))) := by rfl
set_option maxRecDepth 100000 in
theorem cb_X9_constants_105 (x1 x2 x3 x4 : Option Nat) (x0 : Nat) (s : σ) : cx_B ct_lc gi gr pi pr ai ar wi wr an nw na io dp ct_ft ct_sg 0 [] ct_X9_constants ca jm 1000 (pj_at ct_X9_constants 105) [some (vr_ (some x0)), some (vr_ x1), some (vr_ x2), some (vr_ x3), some (vr_ x4), none, none, none] [] s =
  ((gr 103 x3 s).bind fun v1 =>
  ((gi 100 x3 s).bind fun v2 =>
  ((dp 374 (some x0) s).bind fun m3 =>
  (cx_bV cx_th (ca m3 [vr_ (some x0), vr_ v1, vi_ v2, vr_ x4] s) fun s4 =>
  ((dp 73 x2 s4).bind fun m5 =>
  (cx_bI cx_th (ca m5 [vr_ x2, vr_ x4] s4) fun v7 s6 =>
  ((gr 107 x3 s6).bind fun v8 =>
  jm 13 [vr_ (some x0), vr_ x1, vr_ x2, vr_ v8] [] s6))))))) := by rfl
set_option maxRecDepth 100000 in
theorem cb_X9_constants_144 (x4 : Int32) (x1 x2 x3 : Option Nat) (x0 : Nat) (s : σ) : cx_B ct_lc gi gr pi pr ai ar wi wr an nw na io dp ct_ft ct_sg 0 [] ct_X9_constants ca jm 1000 (pj_at ct_X9_constants 144) [some (vr_ (some x0)), some (vr_ x1), some (vr_ x2), some (vr_ x3), some (vi_ x4), none, none, none] [] s =
  ((dp 78 x2 s).bind fun m1 =>
  (cx_bI cx_th (ca m1 [vr_ x2] s) fun v3 s2 =>
  (if x4 < v3 then
    ((dp 79 x2 s2).bind fun m4 =>
    (cx_bR cx_th (ca m4 [vr_ x2, vi_ x4] s2) fun v6 s5 =>
    ((cx_cst io 7 v6 s5).bind fun _ =>
    ((gr 105 x3 s5).bind fun v7 =>
    ((gr 107 x3 s5).bind fun v8 =>
    ((dp 386 (some x0) s5).bind fun m9 =>
    (cx_bI cx_th (ca m9 [vr_ (some x0), vr_ v7] s5) fun v11 s10 =>
    ((gr 99 x1 s10).bind fun v12 =>
    (if v12 = (some 1087) then
      ((gi 155 v6 s10).bind fun v13 =>
      ((dp 389 (some x0) s10).bind fun m14 =>
      (cx_bV cx_th (ca m14 [vr_ (some x0), vi_ v13, vi_ v11] s10) fun s15 =>
      jm 144 [vr_ (some x0), vr_ x1, vr_ x2, vr_ v8, vi_ (x4 + 1)] [] s15)))
    else
      ((gr 99 x1 s10).bind fun v16 =>
      (if v16 = (some 1086) then
        ((pi 155 v6 v11 s10).bind fun s17 =>
        ((pi 156 v6 1 s17).bind fun s18 =>
        jm 144 [vr_ (some x0), vr_ x1, vr_ x2, vr_ v8, vi_ (x4 + 1)] [] s18))
      else
        ((gi 183 (some x0) s10).bind fun v19 =>
        (if v19 = 0 then
          jm 267 [vr_ (some x0), vr_ x1, vr_ x2, vr_ v8, vi_ x4, vr_ v6, vi_ v11] [] s10
        else
          (if v11 < 0 then
            ((gi 101 v7 s10).bind fun v20 =>
            ((dp 375 (some x0) s10).bind fun m21 =>
            (cx_bV cx_th (ca m21 [vr_ (some x0), vi_ v20, vi_ 6] s10) fun s22 =>
            jm 267 [vr_ (some x0), vr_ x1, vr_ x2, vr_ v8, vi_ x4, vr_ v6, vi_ v11] [] s22)))
          else
            (if v11 < 100 then
              jm 267 [vr_ (some x0), vr_ x1, vr_ x2, vr_ v8, vi_ x4, vr_ v6, vi_ v11] [] s10
            else
              ((gi 101 v7 s10).bind fun v23 =>
              ((dp 375 (some x0) s10).bind fun m24 =>
              (cx_bV cx_th (ca m24 [vr_ (some x0), vi_ v23, vi_ 6] s10) fun s25 =>
              jm 267 [vr_ (some x0), vr_ x1, vr_ x2, vr_ v8, vi_ x4, vr_ v6, vi_ v11] [] s25))))))))))))))))))
  else
    some (.inl none, s2)))) := by rfl
set_option maxRecDepth 100000 in
theorem cb_X9_constants_267 (x4 x7 : Int32) (x1 x2 x3 x5 : Option Nat) (x0 : Nat) (s : σ) : cx_B ct_lc gi gr pi pr ai ar wi wr an nw na io dp ct_ft ct_sg 0 [] ct_X9_constants ca jm 1000 (pj_at ct_X9_constants 267) [some (vr_ (some x0)), some (vr_ x1), some (vr_ x2), some (vr_ x3), some (vi_ x4), some (vr_ x5), none, some (vi_ x7)] [] s =
  ((gi 183 (some x0) s).bind fun v1 =>
  (if v1 = 0 then
    ((pi 155 x5 0 s).bind fun s2 =>
    jm 144 [vr_ (some x0), vr_ x1, vr_ x2, vr_ x3, vi_ (x4 + 1)] [] s2)
  else
    (if x7 < 0 then
      ((pi 155 x5 0 s).bind fun s3 =>
      jm 144 [vr_ (some x0), vr_ x1, vr_ x2, vr_ x3, vi_ (x4 + 1)] [] s3)
    else
      (if x7 < 100 then
        ((pi 155 x5 x7 s).bind fun s4 =>
        jm 144 [vr_ (some x0), vr_ x1, vr_ x2, vr_ x3, vi_ (x4 + 1)] [] s4)
      else
        ((pi 155 x5 0 s).bind fun s5 =>
        jm 144 [vr_ (some x0), vr_ x1, vr_ x2, vr_ x3, vi_ (x4 + 1)] [] s5))))) := by rfl
end cbq
