/-! block equations of WordTongueModel: by gen/memit.py -/
section mbq
variable (ca : Nat → List pj_V → mm_S → mm_O) (jm : Nat → List pj_V → List pj_V → mm_S → mm_O)
set_option maxRecDepth 100000 in
theorem mb_thrown (s : mm_S) : mm_B mt_lc mt_ln mt_ty mt_sg mt_st 1 mt_thrown ca jm 1000 mt_thrown [some (vr_ (some 0))] [] s =
  some (some (vi_ (s 0 0)), s) := by rfl
set_option maxRecDepth 100000 in
theorem mb_nameOf (x1 x2 : Int32) (s : mm_S) : mm_B mt_lc mt_ln mt_ty mt_sg mt_st 1 mt_nameOf ca jm 1000 mt_nameOf [some (vr_ (some 0)), some (vi_ x1), some (vi_ x2), none, none, none] [] s =
  jm 2 [vr_ (some 0), vi_ x1, vi_ x2, vi_ 0] [] s := by rfl
set_option maxRecDepth 100000 in
theorem mb_nameOf_2 (x1 x2 x3 : Int32) (s : mm_S) : mm_B mt_lc mt_ln mt_ty mt_sg mt_st 1 mt_nameOf ca jm 1000 (pj_at mt_nameOf 2) [some (vr_ (some 0)), some (vi_ x1), some (vi_ x2), some (vi_ x3), none, none] [] s =
  (if x3 < (s 0 5) then
    ((mm_a 3100 7 x3 s).bind fun v1 =>
    (if v1 = x2 then
      jm 30 [vr_ (some 0), vi_ x1, vi_ x2, vi_ x3, vi_ 1, vi_ 0] [] s
    else
      jm 30 [vr_ (some 0), vi_ x1, vi_ x2, vi_ x3, vi_ 0, vi_ 0] [] s))
  else
    ((mm_w 3100 6 (s 0 5) x1 s).bind fun s2 =>
    ((mm_w 3100 7 (s2 0 5) x2 s2).bind fun s3 =>
    some (some (vi_ (((s3 0 5) + 1) - 1)), (mm_u s3 0 5 ((s3 0 5) + 1)))))) := by rfl
set_option maxRecDepth 100000 in
theorem mb_nameOf_30 (x1 x2 x3 x4 x5 : Int32) (s : mm_S) : mm_B mt_lc mt_ln mt_ty mt_sg mt_st 1 mt_nameOf ca jm 1000 (pj_at mt_nameOf 30) [some (vr_ (some 0)), some (vi_ x1), some (vi_ x2), some (vi_ x3), some (vi_ x4), some (vi_ x5)] [] s =
  (if x5 < x2 then
    (if x4 = 0 then
      (if x4 = 0 then
        jm 2 [vr_ (some 0), vi_ x1, vi_ x2, vi_ (x3 + 1)] [] s
      else
        some (some (vi_ x3), s))
    else
      ((mm_a 3100 6 x3 s).bind fun v1 =>
      ((mm_a 6000 3 (v1 + x5) s).bind fun v2 =>
      ((mm_a 6000 3 (x1 + x5) s).bind fun v3 =>
      (if v2 = v3 then
        jm 30 [vr_ (some 0), vi_ x1, vi_ x2, vi_ x3, vi_ 1, vi_ (x5 + 1)] [] s
      else
        jm 30 [vr_ (some 0), vi_ x1, vi_ x2, vi_ x3, vi_ 0, vi_ (x5 + 1)] [] s)))))
  else
    (if x4 = 0 then
      jm 2 [vr_ (some 0), vi_ x1, vi_ x2, vi_ (x3 + 1)] [] s
    else
      some (some (vi_ x3), s))) := by rfl
set_option maxRecDepth 100000 in
theorem mb_isText (x1 x2 : Int32) (x3 x5 : Int64) (s : mm_S) : mm_B mt_lc mt_ln mt_ty mt_sg mt_st 4 mt_isText ca jm 1000 mt_isText [some (vr_ (some 0)), some (vi_ x1), some (vi_ x2), some (vl_ x3), none, some (vl_ x5), none, none, none, none, none, none] [] s =
  jm 7 [vr_ (some 0), vi_ x1, vi_ x2, vl_ x3, vl_ x5, vi_ 0, vi_ 120] [] s := by rfl
set_option maxRecDepth 100000 in
theorem mb_isText_7 (x1 x2 x7 x8 : Int32) (x3 x5 : Int64) (s : mm_S) : mm_B mt_lc mt_ln mt_ty mt_sg mt_st 4 mt_isText ca jm 1000 (pj_at mt_isText 7) [some (vr_ (some 0)), some (vi_ x1), some (vi_ x2), some (vl_ x3), none, some (vl_ x5), none, some (vi_ x7), some (vi_ x8), none, none, none] [] s =
  (if x8 < 0 then
    (if x7 = x2 then
      some (some (vi_ 1), s)
    else
      some (some (vi_ 0), s))
  else
    (if x8 < 64 then
      jm 34 [vr_ (some 0), vi_ x1, vi_ x2, vl_ x3, vl_ x5, vi_ x7, vi_ x8] [vl_ (x5 >>> ((x8 : Int32).toInt64 &&& 63))] s
    else
      jm 34 [vr_ (some 0), vi_ x1, vi_ x2, vl_ x3, vl_ x5, vi_ x7, vi_ x8] [vl_ (x3 >>> (((x8 - 64) : Int32).toInt64 &&& 63))] s)) := by rfl
set_option maxRecDepth 100000 in
theorem mb_isText_34 (x1 x2 x7 x8 : Int32) (x3 x5 y0 : Int64) (s : mm_S) : mm_B mt_lc mt_ln mt_ty mt_sg mt_st 4 mt_isText ca jm 1000 (pj_at mt_isText 34) [some (vr_ (some 0)), some (vi_ x1), some (vi_ x2), some (vl_ x3), none, some (vl_ x5), none, some (vi_ x7), some (vi_ x8), none, none, none] [vl_ y0] s =
  (if ((y0 : Int64).toInt32 &&& 255) = 0 then
    jm 7 [vr_ (some 0), vi_ x1, vi_ x2, vl_ x3, vl_ x5, vi_ x7, vi_ (x8 + (-8))] [] s
  else
    (if x7 < x2 then
      ((mm_a 6000 3 (x1 + x7) s).bind fun v1 =>
      (if v1 = ((y0 : Int64).toInt32 &&& 255) then
        jm 7 [vr_ (some 0), vi_ x1, vi_ x2, vl_ x3, vl_ x5, vi_ (x7 + 1), vi_ (x8 + (-8))] [] s
      else
        some (some (vi_ 0), s)))
    else
      some (some (vi_ 0), s))) := by rfl
set_option maxRecDepth 100000 in
theorem mb_keyword (x1 x2 : Int32) (s : mm_S) : mm_B mt_lc mt_ln mt_ty mt_sg mt_st 1 mt_keyword ca jm 1000 mt_keyword [some (vr_ (some 0)), some (vi_ x1), some (vi_ x2)] [] s =
  (mm_bI (ca 3 [vr_ (some 0), vi_ x1, vi_ x2, vl_ 78393072828748, vl_ 0] s) fun v2 s1 =>
  (if v2 = 0 then
    (mm_bI (ca 3 [vr_ (some 0), vi_ x1, vi_ x2, vl_ 5566816691025171284, vl_ 0] s1) fun v4 s3 =>
    (if v4 = 0 then
      (mm_bI (ca 3 [vr_ (some 0), vi_ x1, vi_ x2, vl_ 91621338401091, vl_ 0] s3) fun v6 s5 =>
      (if v6 = 0 then
        (mm_bI (ca 3 [vr_ (some 0), vi_ x1, vi_ x2, vl_ 4998484, vl_ 0] s5) fun v8 s7 =>
        (if v8 = 0 then
          (mm_bI (ca 3 [vr_ (some 0), vi_ x1, vi_ x2, vl_ 4279876, vl_ 0] s7) fun v10 s9 =>
          (if v10 = 0 then
            (mm_bI (ca 3 [vr_ (some 0), vi_ x1, vi_ x2, vl_ 16965, vl_ 0] s9) fun v12 s11 =>
            (if v12 = 0 then
              (mm_bI (ca 3 [vr_ (some 0), vi_ x1, vi_ x2, vl_ 5653827, vl_ 0] s11) fun v14 s13 =>
              (if v14 = 0 then
                (mm_bI (ca 3 [vr_ (some 0), vi_ x1, vi_ x2, vl_ 18758, vl_ 0] s13) fun v16 s15 =>
                (if v16 = 0 then
                  (mm_bI (ca 3 [vr_ (some 0), vi_ x1, vi_ x2, vl_ 17487, vl_ 0] s15) fun v18 s17 =>
                  (if v18 = 0 then
                    (mm_bI (ca 3 [vr_ (some 0), vi_ x1, vi_ x2, vl_ 93794775421779, vl_ 0] s17) fun v20 s19 =>
                    (if v20 = 0 then
                      (mm_bI (ca 3 [vr_ (some 0), vi_ x1, vi_ x2, vl_ 1413829460, vl_ 0] s19) fun v22 s21 =>
                      (if v22 = 0 then
                        (mm_bI (ca 3 [vr_ (some 0), vi_ x1, vi_ x2, vl_ 20306, vl_ 0] s21) fun v24 s23 =>
                        (if v24 = 0 then
                          (mm_bI (ca 3 [vr_ (some 0), vi_ x1, vi_ x2, vl_ 374874917957, vl_ 0] s23) fun v26 s25 =>
                          (if v26 = 0 then
                            (mm_bI (ca 3 [vr_ (some 0), vi_ x1, vi_ x2, vl_ 366386366796, vl_ 0] s25) fun v28 s27 =>
                            (if v28 = 0 then
                              (mm_bI (ca 3 [vr_ (some 0), vi_ x1, vi_ x2, vl_ 4607826, vl_ 0] s27) fun v30 s29 =>
                              (if v30 = 0 then
                                (mm_bI (ca 3 [vr_ (some 0), vi_ x1, vi_ x2, vl_ 21583, vl_ 0] s29) fun v32 s31 =>
                                (if v32 = 0 then
                                  (mm_bI (ca 3 [vr_ (some 0), vi_ x1, vi_ x2, vl_ 16985, vl_ 0] s31) fun v34 s33 =>
                                  (if v34 = 0 then
                                    (mm_bI (ca 3 [vr_ (some 0), vi_ x1, vi_ x2, vl_ 6005349254376738638, vl_ 0] s33) fun v36 s35 =>
                                    (if v36 = 0 then
                                      (mm_bI (ca 3 [vr_ (some 0), vi_ x1, vi_ x2, vl_ 1229870159, vl_ 0] s35) fun v38 s37 =>
                                      (if v38 = 0 then
                                        (mm_bI (ca 3 [vr_ (some 0), vi_ x1, vi_ x2, vl_ 1128354629, vl_ 0] s37) fun v40 s39 =>
                                        (if v40 = 0 then
                                          (mm_bI (ca 3 [vr_ (some 0), vi_ x1, vi_ x2, vl_ 19216466462461012, vl_ 0] s39) fun v42 s41 =>
                                          (if v42 = 0 then
                                            (mm_bI (ca 3 [vr_ (some 0), vi_ x1, vi_ x2, vl_ 284848111947, vl_ 0] s41) fun v44 s43 =>
                                            (if v44 = 0 then
                                              (mm_bI (ca 3 [vr_ (some 0), vi_ x1, vi_ x2, vl_ 1280266064, vl_ 0] s43) fun v46 s45 =>
                                              (if v46 = 0 then
                                                (mm_bI (ca 3 [vr_ (some 0), vi_ x1, vi_ x2, vl_ 19507828486132549, vl_ 0] s45) fun v48 s47 =>
                                                (if v48 = 0 then
                                                  (mm_bI (ca 3 [vr_ (some 0), vi_ x1, vi_ x2, vl_ 90457721098830, vl_ 0] s47) fun v50 s49 =>
                                                  (if v50 = 0 then
                                                    (mm_bI (ca 3 [vr_ (some 0), vi_ x1, vi_ x2, vl_ 5928236110321043795, vl_ 0] s49) fun v52 s51 =>
                                                    (if v52 = 0 then
                                                      (mm_bI (ca 3 [vr_ (some 0), vi_ x1, vi_ x2, vl_ 77280659985224, vl_ 0] s51) fun v54 s53 =>
                                                      (if v54 = 0 then
                                                        (mm_bI (ca 3 [vr_ (some 0), vi_ x1, vi_ x2, vl_ 1196381263, vl_ 0] s53) fun v56 s55 =>
                                                        (if v56 = 0 then
                                                          (mm_bI (ca 3 [vr_ (some 0), vi_ x1, vi_ x2, vl_ 90457652937044, vl_ 0] s55) fun v58 s57 =>
                                                          (if v58 = 0 then
                                                            (mm_bI (ca 3 [vr_ (some 0), vi_ x1, vi_ x2, vl_ 5928232742882137928, vl_ 4803653] s57) fun v60 s59 =>
                                                            (if v60 = 0 then
                                                              (mm_bI (ca 3 [vr_ (some 0), vi_ x1, vi_ x2, vl_ 5928232742882137422, vl_ 5523788] s59) fun v62 s61 =>
                                                              (if v62 = 0 then
                                                                (mm_bI (ca 3 [vr_ (some 0), vi_ x1, vi_ x2, vl_ 4542806, vl_ 0] s61) fun v64 s63 =>
                                                                (if v64 = 0 then
                                                                  (mm_bI (ca 3 [vr_ (some 0), vi_ x1, vi_ x2, vl_ 1313165654, vl_ 0] s63) fun v66 s65 =>
                                                                  (if v66 = 0 then
                                                                    (mm_bI (ca 3 [vr_ (some 0), vi_ x1, vi_ x2, vl_ 5391693, vl_ 0] s65) fun v68 s67 =>
                                                                    (if v68 = 0 then
                                                                      (mm_bI (ca 3 [vr_ (some 0), vi_ x1, vi_ x2, vl_ 1414681925, vl_ 0] s67) fun v70 s69 =>
                                                                      (if v70 = 0 then
                                                                        (mm_bI (ca 3 [vr_ (some 0), vi_ x1, vi_ x2, vl_ 301743231813, vl_ 0] s69) fun v72 s71 =>
                                                                        (if v72 = 0 then
                                                                          (mm_bI (ca 3 [vr_ (some 0), vi_ x1, vi_ x2, vl_ 370462707526, vl_ 0] s71) fun v74 s73 =>
                                                                          (if v74 = 0 then
                                                                            (mm_bI (ca 3 [vr_ (some 0), vi_ x1, vi_ x2, vl_ 361872116805, vl_ 0] s73) fun v76 s75 =>
                                                                            (if v76 = 0 then
                                                                              (mm_bI (ca 3 [vr_ (some 0), vi_ x1, vi_ x2, vl_ 4670804, vl_ 0] s75) fun v78 s77 =>
                                                                              (if v78 = 0 then
                                                                                (mm_bI (ca 3 [vr_ (some 0), vi_ x1, vi_ x2, vl_ 1414022478, vl_ 0] s77) fun v80 s79 =>
                                                                                (if v80 = 0 then
                                                                                  (mm_bI (ca 3 [vr_ (some 0), vi_ x1, vi_ x2, vl_ 1162629957, vl_ 0] s79) fun v82 s81 =>
                                                                                  (if v82 = 0 then
                                                                                    (mm_bI (ca 3 [vr_ (some 0), vi_ x1, vi_ x2, vl_ 5132116, vl_ 0] s81) fun v84 s83 =>
                                                                                    (if v84 = 0 then
                                                                                      some (some (vi_ 1), s83)
                                                                                    else
                                                                                      some (some (vi_ 33), s83)))
                                                                                  else
                                                                                    some (some (vi_ 51), s81)))
                                                                                else
                                                                                  some (some (vi_ 48), s79)))
                                                                              else
                                                                                some (some (vi_ 78), s77)))
                                                                            else
                                                                              some (some (vi_ 77), s75)))
                                                                          else
                                                                            some (some (vi_ 76), s73)))
                                                                        else
                                                                          some (some (vi_ 75), s71)))
                                                                      else
                                                                        some (some (vi_ 74), s69)))
                                                                    else
                                                                      some (some (vi_ 73), s67)))
                                                                  else
                                                                    some (some (vi_ 72), s65)))
                                                                else
                                                                  some (some (vi_ 71), s63)))
                                                              else
                                                                some (some (vi_ 70), s61)))
                                                            else
                                                              some (some (vi_ 69), s59)))
                                                          else
                                                            some (some (vi_ 68), s57)))
                                                        else
                                                          some (some (vi_ 67), s55)))
                                                      else
                                                        some (some (vi_ 66), s53)))
                                                    else
                                                      some (some (vi_ 65), s51)))
                                                  else
                                                    some (some (vi_ 64), s49)))
                                                else
                                                  some (some (vi_ 63), s47)))
                                              else
                                                some (some (vi_ 62), s45)))
                                            else
                                              some (some (vi_ 61), s43)))
                                          else
                                            some (some (vi_ 60), s41)))
                                        else
                                          some (some (vi_ 59), s39)))
                                      else
                                        some (some (vi_ 58), s37)))
                                    else
                                      some (some (vi_ 57), s35)))
                                  else
                                    some (some (vi_ 56), s33)))
                                else
                                  some (some (vi_ 55), s31)))
                              else
                                some (some (vi_ 54), s29)))
                            else
                              some (some (vi_ 53), s27)))
                          else
                            some (some (vi_ 52), s25)))
                        else
                          some (some (vi_ 51), s23)))
                      else
                        some (some (vi_ 50), s21)))
                    else
                      some (some (vi_ 49), s19)))
                  else
                    some (some (vi_ 48), s17)))
                else
                  some (some (vi_ 47), s15)))
              else
                some (some (vi_ 46), s13)))
            else
              some (some (vi_ 45), s11)))
          else
            some (some (vi_ 44), s9)))
        else
          some (some (vi_ 43), s7)))
      else
        some (some (vi_ 42), s5)))
    else
      some (some (vi_ 41), s3)))
  else
    some (some (vi_ 40), s1))) := by rfl
set_option maxRecDepth 100000 in
theorem mb_isLetter (x0 : Int32) (s : mm_S) : mm_B mt_lc mt_ln mt_ty mt_sg mt_st 4 mt_isLetter ca jm 1000 mt_isLetter [some (vi_ x0)] [] s =
  (if x0 < 97 then
    (if x0 < 65 then
      some (some (vi_ 0), s)
    else
      (if 90 < x0 then
        some (some (vi_ 0), s)
      else
        some (some (vi_ 1), s)))
  else
    (if 122 < x0 then
      (if x0 < 65 then
        some (some (vi_ 0), s)
      else
        (if 90 < x0 then
          some (some (vi_ 0), s)
        else
          some (some (vi_ 1), s)))
    else
      some (some (vi_ 1), s))) := by rfl
set_option maxRecDepth 100000 in
theorem mb_isDigit (x0 : Int32) (s : mm_S) : mm_B mt_lc mt_ln mt_ty mt_sg mt_st 4 mt_isDigit ca jm 1000 mt_isDigit [some (vi_ x0)] [] s =
  (if x0 < 48 then
    some (some (vi_ 0), s)
  else
    (if 57 < x0 then
      some (some (vi_ 0), s)
    else
      some (some (vi_ 1), s))) := by rfl
set_option maxRecDepth 100000 in
theorem mb_isRest (x0 : Int32) (s : mm_S) : mm_B mt_lc mt_ln mt_ty mt_sg mt_st 4 mt_isRest ca jm 1000 mt_isRest [some (vi_ x0)] [] s =
  (mm_bI (ca 5 [vi_ x0] s) fun v2 s1 =>
  (if v2 = 0 then
    (mm_bI (ca 6 [vi_ x0] s1) fun v4 s3 =>
    (if v4 = 0 then
      (if x0 = 46 then
        some (some (vi_ 1), s3)
      else
        (if x0 = 95 then
          some (some (vi_ 1), s3)
        else
          some (some (vi_ 0), s3)))
    else
      some (some (vi_ 1), s3)))
  else
    some (some (vi_ 1), s1))) := by rfl
set_option maxRecDepth 100000 in
theorem mb_look (x1 : Int32) (s : mm_S) : mm_B mt_lc mt_ln mt_ty mt_sg mt_st 1 mt_look ca jm 1000 mt_look [some (vr_ (some 0)), some (vi_ x1)] [] s =
  (if x1 < (s 0 4) then
    ((mm_a 6000 3 x1 s).bind fun v1 =>
    some (some (vi_ (v1 &&& 255)), s))
  else
    some (some (vi_ 0), s)) := by rfl
set_option maxRecDepth 100000 in
theorem mb_endsLine (x0 : Int32) (s : mm_S) : mm_B mt_lc mt_ln mt_ty mt_sg mt_st 4 mt_endsLine ca jm 1000 mt_endsLine [some (vi_ x0)] [] s =
  (if x0 = 1 then
    some (some (vi_ 1), s)
  else
    (if x0 = 2 then
      some (some (vi_ 1), s)
    else
      (if x0 = 4 then
        some (some (vi_ 1), s)
      else
        (if x0 = 11 then
          some (some (vi_ 1), s)
        else
          (if x0 = 13 then
            some (some (vi_ 1), s)
          else
            (if x0 = 74 then
              some (some (vi_ 1), s)
            else
              (if x0 = 75 then
                some (some (vi_ 1), s)
              else
                (if x0 = 61 then
                  some (some (vi_ 1), s)
                else
                  (if x0 = 62 then
                    some (some (vi_ 1), s)
                  else
                    (if x0 = 63 then
                      some (some (vi_ 1), s)
                    else
                      (if x0 = 64 then
                        some (some (vi_ 1), s)
                      else
                        (if x0 = 66 then
                          some (some (vi_ 1), s)
                        else
                          some (some (vi_ 0), s))))))))))))) := by rfl
set_option maxRecDepth 100000 in
theorem mb_isBeginning (x0 : Int32) (s : mm_S) : mm_B mt_lc mt_ln mt_ty mt_sg mt_st 4 mt_isBeginning ca jm 1000 mt_isBeginning [some (vi_ x0)] [] s =
  (if x0 = 1 then
    some (some (vi_ 1), s)
  else
    (if x0 = 2 then
      some (some (vi_ 1), s)
    else
      (if x0 = 4 then
        some (some (vi_ 1), s)
      else
        (if x0 = 12 then
          some (some (vi_ 1), s)
        else
          (if x0 = 18 then
            some (some (vi_ 1), s)
          else
            (if x0 = 20 then
              some (some (vi_ 1), s)
            else
              (if x0 = 10 then
                some (some (vi_ 1), s)
              else
                (if x0 = 74 then
                  some (some (vi_ 1), s)
                else
                  (if x0 = 75 then
                    some (some (vi_ 1), s)
                  else
                    (if x0 = 76 then
                      some (some (vi_ 1), s)
                    else
                      (if x0 = 77 then
                        some (some (vi_ 1), s)
                      else
                        (if x0 = 59 then
                          some (some (vi_ 1), s)
                        else
                          (if x0 = 60 then
                            some (some (vi_ 1), s)
                          else
                            (mm_bI (ca 11 [vi_ x0] s) fun v2 s1 =>
                            (if v2 = 0 then
                              jm 92 [vi_ x0] [] s1
                            else
                              (if x0 = 10 then
                                jm 92 [vi_ x0] [] s1
                              else
                                some (some (vi_ 1), s1))))))))))))))))) := by rfl
set_option maxRecDepth 100000 in
theorem mb_isBeginning_92 (x0 : Int32) (s : mm_S) : mm_B mt_lc mt_ln mt_ty mt_sg mt_st 4 mt_isBeginning ca jm 1000 (pj_at mt_isBeginning 92) [some (vi_ x0)] [] s =
  (if x0 = 43 then
    some (some (vi_ 1), s)
  else
    (if x0 = 40 then
      some (some (vi_ 1), s)
    else
      (if x0 = 41 then
        some (some (vi_ 1), s)
      else
        (if x0 = 42 then
          some (some (vi_ 1), s)
        else
          some (some (vi_ 0), s))))) := by rfl
set_option maxRecDepth 100000 in
theorem mb_isDoless (x0 : Int32) (s : mm_S) : mm_B mt_lc mt_ln mt_ty mt_sg mt_st 4 mt_isDoless ca jm 1000 mt_isDoless [some (vi_ x0)] [] s =
  (if x0 = 10 then
    some (some (vi_ 1), s)
  else
    (if x0 = 47 then
      some (some (vi_ 1), s)
    else
      (if x0 = 49 then
        some (some (vi_ 1), s)
      else
        (if x0 = 50 then
          some (some (vi_ 1), s)
        else
          (if x0 = 52 then
            some (some (vi_ 1), s)
          else
            (if x0 = 53 then
              some (some (vi_ 1), s)
            else
              (if x0 = 54 then
                some (some (vi_ 1), s)
              else
                (if x0 = 57 then
                  some (some (vi_ 1), s)
                else
                  (if x0 = 61 then
                    some (some (vi_ 1), s)
                  else
                    (if x0 = 62 then
                      some (some (vi_ 1), s)
                    else
                      (if x0 = 63 then
                        some (some (vi_ 1), s)
                      else
                        (if x0 = 64 then
                          some (some (vi_ 1), s)
                        else
                          (if x0 = 65 then
                            some (some (vi_ 1), s)
                          else
                            (if x0 = 66 then
                              some (some (vi_ 1), s)
                            else
                              (if x0 = 67 then
                                some (some (vi_ 1), s)
                              else
                                some (some (vi_ 0), s)))))))))))))))) := by rfl
set_option maxRecDepth 100000 in
theorem mb_token (x1 x2 x3 : Int32) (s : mm_S) : mm_B mt_lc mt_ln mt_ty mt_sg mt_st 0 mt_token ca jm 1000 mt_token [some (vr_ (some 0)), some (vi_ x1), some (vi_ x2), some (vi_ x3)] [] s =
  (if 0 < (s 0 8) then
    (if (s 0 20) < (s 0 19) then
      ((mm_a 12100 9 ((s 0 8) - 1) s).bind fun v1 =>
      (mm_bI (ca 9 [vi_ v1] s) fun v3 s2 =>
      (if v3 = 0 then
        jm 73 [vr_ (some 0), vi_ x1, vi_ x2, vi_ x3] [] s2
      else
        (mm_bI (ca 10 [vi_ x1] s2) fun v5 s4 =>
        (if v5 = 0 then
          jm 73 [vr_ (some 0), vi_ x1, vi_ x2, vi_ x3] [] s4
        else
          ((mm_w 12100 9 (s4 0 8) 15 s4).bind fun s6 =>
          ((mm_w 12100 10 (s6 0 8) x2 s6).bind fun s7 =>
          jm 73 [vr_ (some 0), vi_ x1, vi_ x2, vi_ x3] [] (mm_u s7 0 8 ((s7 0 8) + 1)))))))))
    else
      jm 73 [vr_ (some 0), vi_ x1, vi_ x2, vi_ x3] [] s)
  else
    jm 73 [vr_ (some 0), vi_ x1, vi_ x2, vi_ x3] [] s) := by rfl
set_option maxRecDepth 100000 in
theorem mb_token_73 (x1 x2 x3 : Int32) (s : mm_S) : mm_B mt_lc mt_ln mt_ty mt_sg mt_st 0 mt_token ca jm 1000 (pj_at mt_token 73) [some (vr_ (some 0)), some (vi_ x1), some (vi_ x2), some (vi_ x3)] [] s =
  ((mm_w 12100 9 (s 0 8) x1 s).bind fun s1 =>
  ((mm_w 12100 10 (s1 0 8) x2 s1).bind fun s2 =>
  ((mm_w 12100 11 (s2 0 8) x3 s2).bind fun s3 =>
  some (none, (mm_u (mm_u s3 0 8 ((s3 0 8) + 1)) 0 20 (s3 0 19)))))) := by rfl
set_option maxRecDepth 100000 in
theorem mb_oneC (x1 x2 : Int32) (s : mm_S) : mm_B mt_lc mt_ln mt_ty mt_sg mt_st 1 mt_oneC ca jm 1000 mt_oneC [some (vr_ (some 0)), some (vi_ x1), some (vi_ x2), none, none] [] s =
  (mm_bI (ca 8 [vr_ (some 0), vi_ x1] s) fun v2 s1 =>
  (if v2 < 32 then
    some (some (vi_ (-1)), s1)
  else
    (if 126 < v2 then
      some (some (vi_ (-1)), s1)
    else
      (if v2 = x2 then
        some (some (vi_ (-1)), s1)
      else
        (if v2 = 42 then
          (mm_bI (ca 8 [vr_ (some 0), vi_ (x1 + 1)] (mm_u s1 0 21 v2)) fun v4 s3 =>
          (if v4 = 78 then
            some (some (vi_ (x1 + 2)), (mm_u s3 0 21 10))
          else
            (if v4 = 83 then
              some (some (vi_ (x1 + 2)), (mm_u s3 0 21 32))
            else
              (if v4 = 84 then
                some (some (vi_ (x1 + 2)), (mm_u s3 0 21 9))
              else
                (if v4 = 39 then
                  some (some (vi_ (x1 + 2)), (mm_u s3 0 21 v4))
                else
                  (if v4 = 34 then
                    some (some (vi_ (x1 + 2)), (mm_u s3 0 21 v4))
                  else
                    (if v4 = 42 then
                      some (some (vi_ (x1 + 2)), (mm_u s3 0 21 v4))
                    else
                      some (some (vi_ (-1)), s3))))))))
        else
          some (some (vi_ (x1 + 1)), (mm_u s1 0 21 v2))))))) := by rfl
set_option maxRecDepth 100000 in
theorem mb_stringAt (x1 : Int32) (s : mm_S) : mm_B mt_lc mt_ln mt_ty mt_sg mt_st 1 mt_stringAt ca jm 1000 mt_stringAt [some (vr_ (some 0)), some (vi_ x1), none, none, none] [] s =
  jm 12 [vr_ (some 0), vi_ (x1 + 1), vi_ (s 0 15), vi_ 0] [] s := by rfl
set_option maxRecDepth 100000 in
theorem mb_stringAt_12 (x2 x3 x4 : Int32) (s : mm_S) : mm_B mt_lc mt_ln mt_ty mt_sg mt_st 1 mt_stringAt ca jm 1000 (pj_at mt_stringAt 12) [some (vr_ (some 0)), none, some (vi_ x2), some (vi_ x3), some (vi_ x4)] [] s =
  (mm_bI (ca 8 [vr_ (some 0), vi_ x2] s) fun v2 s1 =>
  (if v2 = 34 then
    ((mm_w 3100 16 (s1 0 18) x3 s1).bind fun s3 =>
    ((mm_w 3100 17 (s3 0 18) x4 s3).bind fun s4 =>
    some (some (vi_ (x2 + 1)), (mm_u (mm_u s4 0 15 ((s4 0 15) + x4)) 0 18 ((s4 0 18) + 1)))))
  else
    (mm_bI (ca 13 [vr_ (some 0), vi_ x2, vi_ 34] s1) fun v6 s5 =>
    (if v6 < 0 then
      some (some (vi_ (-1)), s5)
    else
      (if x4 = 200 then
        some (some (vi_ (-1)), s5)
      else
        ((mm_w 6000 14 (x3 + x4) (((s5 0 21) : Int32).toInt8.toInt32).toInt8.toInt32 s5).bind fun s7 =>
        jm 12 [vr_ (some 0), vi_ v6, vi_ x3, vi_ (x4 + 1)] [] s7)))))) := by rfl
set_option maxRecDepth 100000 in
theorem mb_digits (x1 x2 : Int32) (s : mm_S) : mm_B mt_lc mt_ln mt_ty mt_sg mt_st 1 mt_digits ca jm 1000 mt_digits [some (vr_ (some 0)), some (vi_ x1), some (vi_ x2), none, none, none, none, none, none] [] s =
  jm 8 [vr_ (some 0), vi_ x1, vi_ x2, vi_ x1, vl_ 0, vi_ 1] [] s := by rfl
set_option maxRecDepth 100000 in
theorem mb_digits_8 (x1 x2 x3 x6 : Int32) (x4 : Int64) (s : mm_S) : mm_B mt_lc mt_ln mt_ty mt_sg mt_st 1 mt_digits ca jm 1000 (pj_at mt_digits 8) [some (vr_ (some 0)), some (vi_ x1), some (vi_ x2), some (vi_ x3), some (vl_ x4), none, some (vi_ x6), none, none] [] s =
  (if x6 = 0 then
    (if x3 = x1 then
      some (some (vi_ (-1)), (mm_u s 0 22 (x4 : Int64).toInt32))
    else
      (if (lg_cmp x4 4294967296) < 0 then
        some (some (vi_ x3), (mm_u s 0 22 (x4 : Int64).toInt32))
      else
        some (some (vi_ (-1)), (mm_u s 0 22 (x4 : Int64).toInt32))))
  else
    (mm_bI (ca 8 [vr_ (some 0), vi_ x3] s) fun v2 s1 =>
    (mm_bI (ca 6 [vi_ v2] s1) fun v4 s3 =>
    (if v4 = 0 then
      (if v2 < 65 then
        (if 99 < x2 then
          jm 76 [vr_ (some 0), vi_ x1, vi_ x2, vi_ x3, vl_ x4, vi_ 99] [vi_ 1] s3
        else
          jm 76 [vr_ (some 0), vi_ x1, vi_ x2, vi_ x3, vl_ x4, vi_ 99] [vi_ 0] s3)
      else
        (if 70 < v2 then
          (if 99 < x2 then
            jm 76 [vr_ (some 0), vi_ x1, vi_ x2, vi_ x3, vl_ x4, vi_ 99] [vi_ 1] s3
          else
            jm 76 [vr_ (some 0), vi_ x1, vi_ x2, vi_ x3, vl_ x4, vi_ 99] [vi_ 0] s3)
        else
          (if ((v2 - 65) + 10) < x2 then
            jm 76 [vr_ (some 0), vi_ x1, vi_ x2, vi_ x3, vl_ x4, vi_ ((v2 - 65) + 10)] [vi_ 1] s3
          else
            jm 76 [vr_ (some 0), vi_ x1, vi_ x2, vi_ x3, vl_ x4, vi_ ((v2 - 65) + 10)] [vi_ 0] s3)))
    else
      (if (v2 - 48) < x2 then
        jm 76 [vr_ (some 0), vi_ x1, vi_ x2, vi_ x3, vl_ x4, vi_ (v2 - 48)] [vi_ 1] s3
      else
        jm 76 [vr_ (some 0), vi_ x1, vi_ x2, vi_ x3, vl_ x4, vi_ (v2 - 48)] [vi_ 0] s3))))) := by rfl
set_option maxRecDepth 100000 in
theorem mb_digits_76 (x1 x2 x3 x8 y0 : Int32) (x4 : Int64) (s : mm_S) : mm_B mt_lc mt_ln mt_ty mt_sg mt_st 1 mt_digits ca jm 1000 (pj_at mt_digits 76) [some (vr_ (some 0)), some (vi_ x1), some (vi_ x2), some (vi_ x3), some (vl_ x4), none, none, none, some (vi_ x8)] [vi_ y0] s =
  (if y0 = 0 then
    jm 8 [vr_ (some 0), vi_ x1, vi_ x2, vi_ x3, vl_ x4, vi_ y0] [] s
  else
    (if (lg_cmp x4 4294967296) < 0 then
      jm 8 [vr_ (some 0), vi_ x1, vi_ x2, vi_ (x3 + 1), vl_ ((x4 * (x2 : Int32).toInt64) + (x8 : Int32).toInt64), vi_ y0] [] s
    else
      jm 8 [vr_ (some 0), vi_ x1, vi_ x2, vi_ (x3 + 1), vl_ x4, vi_ y0] [] s)) := by rfl
set_option maxRecDepth 100000 in
theorem mb_isPair (x1 x2 x3 : Int32) (s : mm_S) : mm_B mt_lc mt_ln mt_ty mt_sg mt_st 4 mt_isPair ca jm 1000 mt_isPair [some (vr_ (some 0)), some (vi_ x1), some (vi_ x2), some (vi_ x3)] [] s =
  (mm_bI (ca 8 [vr_ (some 0), vi_ x1] s) fun v2 s1 =>
  (if v2 = x2 then
    (mm_bI (ca 8 [vr_ (some 0), vi_ (x1 + 1)] s1) fun v4 s3 =>
    (if v4 = x3 then
      some (some (vi_ 1), s3)
    else
      some (some (vi_ 0), s3)))
  else
    some (some (vi_ 0), s1))) := by rfl
set_option maxRecDepth 100000 in
theorem mb_signAt (x1 : Int32) (s : mm_S) : mm_B mt_lc mt_ln mt_ty mt_sg mt_st 1 mt_signAt ca jm 1000 mt_signAt [some (vr_ (some 0)), some (vi_ x1), none] [] s =
  (mm_bI (ca 16 [vr_ (some 0), vi_ x1, vi_ 36, vi_ 40] (mm_u s 0 23 2)) fun v2 s1 =>
  (if v2 = 0 then
    (mm_bI (ca 16 [vr_ (some 0), vi_ x1, vi_ 36, vi_ 41] s1) fun v4 s3 =>
    (if v4 = 0 then
      (mm_bI (ca 16 [vr_ (some 0), vi_ x1, vi_ 58, vi_ 61] s3) fun v6 s5 =>
      (if v6 = 0 then
        (mm_bI (ca 16 [vr_ (some 0), vi_ x1, vi_ 126, vi_ 61] s5) fun v8 s7 =>
        (if v8 = 0 then
          (mm_bI (ca 16 [vr_ (some 0), vi_ x1, vi_ 60, vi_ 61] s7) fun v10 s9 =>
          (if v10 = 0 then
            (mm_bI (ca 16 [vr_ (some 0), vi_ x1, vi_ 62, vi_ 61] s9) fun v12 s11 =>
            (if v12 = 0 then
              (mm_bI (ca 16 [vr_ (some 0), vi_ x1, vi_ 60, vi_ 60] s11) fun v14 s13 =>
              (if v14 = 0 then
                (mm_bI (ca 16 [vr_ (some 0), vi_ x1, vi_ 62, vi_ 62] s13) fun v16 s15 =>
                (if v16 = 0 then
                  (mm_bI (ca 16 [vr_ (some 0), vi_ x1, vi_ 45, vi_ 62] s15) fun v18 s17 =>
                  (if v18 = 0 then
                    (mm_bI (ca 8 [vr_ (some 0), vi_ x1] (mm_u s17 0 23 1)) fun v20 s19 =>
                    (if v20 = 40 then
                      some (some (vi_ 12), s19)
                    else
                      (if v20 = 41 then
                        some (some (vi_ 13), s19)
                      else
                        (if v20 = 44 then
                          some (some (vi_ 14), s19)
                        else
                          (if v20 = 59 then
                            some (some (vi_ 15), s19)
                          else
                            (if v20 = 58 then
                              some (some (vi_ 17), s19)
                            else
                              (if v20 = 33 then
                                some (some (vi_ 18), s19)
                              else
                                (if v20 = 37 then
                                  some (some (vi_ 19), s19)
                                else
                                  (if v20 = 64 then
                                    some (some (vi_ 20), s19)
                                  else
                                    (if v20 = 43 then
                                      some (some (vi_ 21), s19)
                                    else
                                      (if v20 = 45 then
                                        some (some (vi_ 22), s19)
                                      else
                                        (if v20 = 42 then
                                          some (some (vi_ 23), s19)
                                        else
                                          (if v20 = 47 then
                                            some (some (vi_ 24), s19)
                                          else
                                            (if v20 = 61 then
                                              some (some (vi_ 25), s19)
                                            else
                                              (if v20 = 60 then
                                                some (some (vi_ 27), s19)
                                              else
                                                (if v20 = 62 then
                                                  some (some (vi_ 29), s19)
                                                else
                                                  (if v20 = 126 then
                                                    some (some (vi_ 33), s19)
                                                  else
                                                    (if v20 = 38 then
                                                      some (some (vi_ 34), s19)
                                                    else
                                                      (if v20 = 124 then
                                                        some (some (vi_ 35), s19)
                                                      else
                                                        some (some (vi_ (-1)), s19))))))))))))))))))))
                  else
                    some (some (vi_ 36), s17)))
                else
                  some (some (vi_ 32), s15)))
              else
                some (some (vi_ 31), s13)))
            else
              some (some (vi_ 30), s11)))
          else
            some (some (vi_ 28), s9)))
        else
          some (some (vi_ 26), s7)))
      else
        some (some (vi_ 16), s5)))
    else
      some (some (vi_ 11), s3)))
  else
    some (some (vi_ 10), s1))) := by rfl
set_option maxRecDepth 100000 in
theorem mb_scan (s : mm_S) : mm_B mt_lc mt_ln mt_ty mt_sg mt_st 1 mt_scan ca jm 1000 mt_scan [some (vr_ (some 0)), none, none] [] s =
  jm 32 [vr_ (some 0), vi_ 0] [] (mm_u (mm_u (mm_u (mm_u (mm_u (mm_u s 0 8 0) 0 5 0) 0 18 0) 0 15 0) 0 19 0) 0 20 0) := by rfl
set_option maxRecDepth 100000 in
theorem mb_scan_32 (x1 : Int32) (s : mm_S) : mm_B mt_lc mt_ln mt_ty mt_sg mt_st 1 mt_scan ca jm 1000 (pj_at mt_scan 32) [some (vr_ (some 0)), some (vi_ x1), none] [] s =
  (if x1 < (s 0 4) then
    (mm_bI (ca 8 [vr_ (some 0), vi_ x1] s) fun v2 s1 =>
    (if v2 = 10 then
      jm 32 [vr_ (some 0), vi_ (x1 + 1)] [] (mm_u s1 0 19 ((s1 0 19) + 1))
    else
      (if v2 = 9 then
        jm 32 [vr_ (some 0), vi_ (x1 + 1)] [] s1
      else
        (if v2 = 13 then
          jm 32 [vr_ (some 0), vi_ (x1 + 1)] [] s1
        else
          (if v2 = 32 then
            jm 32 [vr_ (some 0), vi_ (x1 + 1)] [] s1
          else
            (mm_bI (ca 16 [vr_ (some 0), vi_ x1, vi_ 47, vi_ 47] s1) fun v4 s3 =>
            (if v4 = 0 then
              (mm_bI (ca 19 [vr_ (some 0), vi_ x1, vi_ v2] s3) fun v6 s5 =>
              (if v6 < 0 then
                some (some (vi_ ((-1) - v6)), s5)
              else
                jm 32 [vr_ (some 0), vi_ v6] [] s5))
            else
              jm 104 [vr_ (some 0), vi_ x1] [] s3)))))))
  else
    some (some (vi_ (-1)), s)) := by rfl
set_option maxRecDepth 100000 in
theorem mb_scan_104 (x1 : Int32) (s : mm_S) : mm_B mt_lc mt_ln mt_ty mt_sg mt_st 1 mt_scan ca jm 1000 (pj_at mt_scan 104) [some (vr_ (some 0)), some (vi_ x1), none] [] s =
  (if x1 < (s 0 4) then
    (mm_bI (ca 8 [vr_ (some 0), vi_ x1] s) fun v2 s1 =>
    (if v2 = 10 then
      jm 32 [vr_ (some 0), vi_ x1] [] s1
    else
      jm 104 [vr_ (some 0), vi_ (x1 + 1)] [] s1))
  else
    jm 32 [vr_ (some 0), vi_ x1] [] s) := by rfl
set_option maxRecDepth 100000 in
theorem mb_one (x1 x2 : Int32) (s : mm_S) : mm_B mt_lc mt_ln mt_ty mt_sg mt_st 1 mt_one ca jm 1000 mt_one [some (vr_ (some 0)), some (vi_ x1), some (vi_ x2), none, none, none] [] s =
  (mm_bI (ca 5 [vi_ x2] s) fun v2 s1 =>
  (if v2 = 0 then
    (mm_bI (ca 6 [vi_ x2] s1) fun v4 s3 =>
    (if v4 = 0 then
      (if x2 = 35 then
        jm 96 [vr_ (some 0), vi_ x1, vi_ x2] [] s3
      else
        (if x2 = 39 then
          (mm_bI (ca 13 [vr_ (some 0), vi_ (x1 + 1), vi_ 39] s3) fun v6 s5 =>
          (if v6 < 0 then
            some (some (vi_ ((-1) - x1)), s5)
          else
            (mm_bI (ca 8 [vr_ (some 0), vi_ v6] s5) fun v8 s7 =>
            (if v8 = 39 then
              (mm_bV (ca 12 [vr_ (some 0), vi_ 2, vi_ x1, vi_ (s7 0 21)] s7) fun s9 =>
              some (some (vi_ (v6 + 1)), s9))
            else
              some (some (vi_ ((-1) - x1)), s7)))))
        else
          (if x2 = 34 then
            (mm_bI (ca 14 [vr_ (some 0), vi_ x1] s3) fun v11 s10 =>
            (if v11 < 0 then
              some (some (vi_ ((-1) - x1)), s10)
            else
              (mm_bV (ca 12 [vr_ (some 0), vi_ 4, vi_ x1, vi_ ((s10 0 18) - 1)] s10) fun s12 =>
              some (some (vi_ v11), s12))))
          else
            (mm_bI (ca 17 [vr_ (some 0), vi_ x1] s3) fun v14 s13 =>
            (if v14 < 0 then
              some (some (vi_ ((-1) - x1)), s13)
            else
              (if v14 = 10 then
                jm 289 [vr_ (some 0), vi_ x1, vi_ (x1 + (s13 0 23)), vi_ v14, vi_ (-1)] [] s13
              else
                (if v14 = 11 then
                  jm 289 [vr_ (some 0), vi_ x1, vi_ (x1 + (s13 0 23)), vi_ v14, vi_ (-1)] [] s13
                else
                  (mm_bV (ca 12 [vr_ (some 0), vi_ v14, vi_ x1, vi_ (-1)] s13) fun s15 =>
                  some (some (vi_ (x1 + (s13 0 23))), s15)))))))))
    else
      jm 96 [vr_ (some 0), vi_ x1, vi_ x2] [] s3))
  else
    jm 9 [vr_ (some 0), vi_ x1, vi_ x1] [] s1)) := by rfl
set_option maxRecDepth 100000 in
theorem mb_one_9 (x1 x3 : Int32) (s : mm_S) : mm_B mt_lc mt_ln mt_ty mt_sg mt_st 1 mt_one ca jm 1000 (pj_at mt_one 9) [some (vr_ (some 0)), some (vi_ x1), none, some (vi_ x3), none, none] [] s =
  (mm_bI (ca 8 [vr_ (some 0), vi_ x3] s) fun v2 s1 =>
  (mm_bI (ca 7 [vi_ v2] s1) fun v4 s3 =>
  (if v4 = 0 then
    jm 34 [vr_ (some 0), vi_ x1, vi_ x3] [] s3
  else
    (if x3 < (s3 0 4) then
      jm 9 [vr_ (some 0), vi_ x1, vi_ (x3 + 1)] [] s3
    else
      jm 34 [vr_ (some 0), vi_ x1, vi_ x3] [] s3)))) := by rfl
set_option maxRecDepth 100000 in
theorem mb_one_34 (x1 x3 : Int32) (s : mm_S) : mm_B mt_lc mt_ln mt_ty mt_sg mt_st 1 mt_one ca jm 1000 (pj_at mt_one 34) [some (vr_ (some 0)), some (vi_ x1), none, some (vi_ x3), none, none] [] s =
  (if 40 < (x3 - x1) then
    some (some (vi_ ((-1) - x1)), s)
  else
    (mm_bI (ca 4 [vr_ (some 0), vi_ x1, vi_ (x3 - x1)] s) fun v2 s1 =>
    (if v2 = 1 then
      (mm_bI (ca 2 [vr_ (some 0), vi_ x1, vi_ (x3 - x1)] s1) fun v4 s3 =>
      (mm_bV (ca 12 [vr_ (some 0), vi_ v2, vi_ x1, vi_ v4] s3) fun s5 =>
      some (some (vi_ x3), s5)))
    else
      (mm_bV (ca 12 [vr_ (some 0), vi_ v2, vi_ x1, vi_ 0] s1) fun s6 =>
      some (some (vi_ x3), s6))))) := by rfl
set_option maxRecDepth 100000 in
theorem mb_one_96 (x1 x2 : Int32) (s : mm_S) : mm_B mt_lc mt_ln mt_ty mt_sg mt_st 1 mt_one ca jm 1000 (pj_at mt_one 96) [some (vr_ (some 0)), some (vi_ x1), some (vi_ x2), none, none, none] [] s =
  (mm_bI (ca 6 [vi_ x2] s) fun v2 s1 =>
  (if v2 = 0 then
    (mm_bI (ca 8 [vr_ (some 0), vi_ (x1 + 1)] s1) fun v4 s3 =>
    (if v4 = 88 then
      (mm_bI (ca 15 [vr_ (some 0), vi_ (x1 + 2), vi_ 16] s3) fun v6 s5 =>
      jm 146 [vr_ (some 0), vi_ x1] [vi_ v6] s5)
    else
      (mm_bI (ca 15 [vr_ (some 0), vi_ (x1 + 1), vi_ 8] s3) fun v8 s7 =>
      jm 146 [vr_ (some 0), vi_ x1] [vi_ v8] s7)))
  else
    (mm_bI (ca 15 [vr_ (some 0), vi_ x1, vi_ 10] s1) fun v10 s9 =>
    jm 146 [vr_ (some 0), vi_ x1] [vi_ v10] s9))) := by rfl
set_option maxRecDepth 100000 in
theorem mb_one_146 (x1 y0 : Int32) (s : mm_S) : mm_B mt_lc mt_ln mt_ty mt_sg mt_st 1 mt_one ca jm 1000 (pj_at mt_one 146) [some (vr_ (some 0)), some (vi_ x1), none, none, none, none] [vi_ y0] s =
  (if y0 < 0 then
    some (some (vi_ ((-1) - x1)), s)
  else
    (mm_bV (ca 12 [vr_ (some 0), vi_ 2, vi_ x1, vi_ (s 0 22)] s) fun s1 =>
    some (some (vi_ y0), s1))) := by rfl
set_option maxRecDepth 100000 in
theorem mb_one_289 (x1 x3 x4 x5 : Int32) (s : mm_S) : mm_B mt_lc mt_ln mt_ty mt_sg mt_st 1 mt_one ca jm 1000 (pj_at mt_one 289) [some (vr_ (some 0)), some (vi_ x1), none, some (vi_ x3), some (vi_ x4), some (vi_ x5)] [] s =
  (mm_bI (ca 8 [vr_ (some 0), vi_ x3] s) fun v2 s1 =>
  (mm_bI (ca 7 [vi_ v2] s1) fun v4 s3 =>
  (if v4 = 0 then
    jm 314 [vr_ (some 0), vi_ x1, vi_ x3, vi_ x4, vi_ x5] [] s3
  else
    (if x3 < (s3 0 4) then
      jm 289 [vr_ (some 0), vi_ x1, vi_ (x3 + 1), vi_ x4, vi_ x5] [] s3
    else
      jm 314 [vr_ (some 0), vi_ x1, vi_ x3, vi_ x4, vi_ x5] [] s3)))) := by rfl
set_option maxRecDepth 100000 in
theorem mb_one_314 (x1 x3 x4 x5 : Int32) (s : mm_S) : mm_B mt_lc mt_ln mt_ty mt_sg mt_st 1 mt_one ca jm 1000 (pj_at mt_one 314) [some (vr_ (some 0)), some (vi_ x1), none, some (vi_ x3), some (vi_ x4), some (vi_ x5)] [] s =
  (if 40 < ((x3 - x1) - 2) then
    some (some (vi_ ((-1) - x1)), s)
  else
    (if (x1 + 2) < x3 then
      (mm_bI (ca 2 [vr_ (some 0), vi_ (x1 + 2), vi_ ((x3 - x1) - 2)] s) fun v2 s1 =>
      (mm_bV (ca 12 [vr_ (some 0), vi_ x4, vi_ x1, vi_ v2] s1) fun s3 =>
      some (some (vi_ x3), s3)))
    else
      (mm_bV (ca 12 [vr_ (some 0), vi_ x4, vi_ x1, vi_ x5] s) fun s4 =>
      some (some (vi_ x3), s4)))) := by rfl
set_option maxRecDepth 100000 in
theorem mb_node (x1 x2 x3 : Int32) (s : mm_S) : mm_B mt_lc mt_ln mt_ty mt_sg mt_st 1 mt_node ca jm 1000 mt_node [some (vr_ (some 0)), some (vi_ x1), some (vi_ x2), some (vi_ x3), none] [] s =
  ((mm_w 26000 25 (s 0 24) ((x1 : Int32).toInt8.toInt32).toInt8.toInt32 (mm_u s 0 24 ((s 0 24) + 1))).bind fun s1 =>
  ((mm_w 26000 26 (s 0 24) x2 s1).bind fun s2 =>
  ((mm_w 26000 27 (s 0 24) (-1) s2).bind fun s3 =>
  ((mm_w 26000 28 (s 0 24) (-1) s3).bind fun s4 =>
  ((mm_w 26000 29 (s 0 24) x3 s4).bind fun s5 =>
  ((mm_w 26000 30 (s 0 24) 0 s5).bind fun s6 =>
  ((mm_w 26000 31 (s 0 24) 0 s6).bind fun s7 =>
  ((mm_w 26000 33 (s 0 24) 0 s7).bind fun s8 =>
  ((mm_w 26000 34 (s 0 24) x2 s8).bind fun s9 =>
  ((mm_w 26000 35 (s 0 24) 0 s9).bind fun s10 =>
  some (some (vi_ (s 0 24)), s10))))))))))) := by rfl
set_option maxRecDepth 100000 in
theorem mb_leaf (x1 x2 x3 : Int32) (s : mm_S) : mm_B mt_lc mt_ln mt_ty mt_sg mt_st 0 mt_leaf ca jm 1000 mt_leaf [some (vr_ (some 0)), some (vi_ x1), some (vi_ x2), some (vi_ x3)] [] s =
  (mm_bI (ca 20 [vr_ (some 0), vi_ x1, vi_ x2, vi_ x3] s) fun v2 s1 =>
  ((mm_w 26000 36 (s 0 37) v2 s1).bind fun s3 =>
  some (none, (mm_u s3 0 37 ((s3 0 37) + 1))))) := by rfl
set_option maxRecDepth 100000 in
theorem mb_shut (x1 x2 x3 x4 : Int32) (s : mm_S) : mm_B mt_lc mt_ln mt_ty mt_sg mt_st 1 mt_shut ca jm 1000 mt_shut [some (vr_ (some 0)), some (vi_ x1), some (vi_ x2), some (vi_ x3), some (vi_ x4), none, none] [] s =
  (mm_bI (ca 20 [vr_ (some 0), vi_ x1, vi_ x2, vi_ x4] s) fun v2 s1 =>
  jm 13 [vr_ (some 0), vi_ x3, vi_ v2, vi_ x3] [] s1) := by rfl
set_option maxRecDepth 100000 in
theorem mb_shut_13 (x3 x5 x6 : Int32) (s : mm_S) : mm_B mt_lc mt_ln mt_ty mt_sg mt_st 1 mt_shut ca jm 1000 (pj_at mt_shut 13) [some (vr_ (some 0)), none, none, some (vi_ x3), none, some (vi_ x5), some (vi_ x6)] [] s =
  (if x6 < (s 0 37) then
    (if x6 = x3 then
      ((mm_a 26000 36 x6 s).bind fun v1 =>
      ((mm_w 26000 27 x5 v1 s).bind fun s2 =>
      jm 66 [vr_ (some 0), vi_ x3, vi_ x5, vi_ x6] [] s2))
    else
      ((mm_a 26000 36 (x6 - 1) s).bind fun v3 =>
      ((mm_a 26000 36 x6 s).bind fun v4 =>
      ((mm_w 26000 28 v3 v4 s).bind fun s5 =>
      jm 66 [vr_ (some 0), vi_ x3, vi_ x5, vi_ x6] [] s5))))
  else
    ((mm_w 26000 36 x3 x5 (mm_u s 0 37 x3)).bind fun s6 =>
    some (some (vi_ x5), (mm_u s6 0 37 ((s6 0 37) + 1))))) := by rfl
set_option maxRecDepth 100000 in
theorem mb_shut_66 (x3 x5 x6 : Int32) (s : mm_S) : mm_B mt_lc mt_ln mt_ty mt_sg mt_st 1 mt_shut ca jm 1000 (pj_at mt_shut 66) [some (vr_ (some 0)), none, none, some (vi_ x3), none, some (vi_ x5), some (vi_ x6)] [] s =
  ((mm_a 26000 36 x6 s).bind fun v1 =>
  ((mm_a 26000 34 v1 s).bind fun v2 =>
  ((mm_a 26000 34 x5 s).bind fun v3 =>
  (if v2 < v3 then
    ((mm_a 26000 36 x6 s).bind fun v4 =>
    ((mm_a 26000 34 v4 s).bind fun v5 =>
    ((mm_w 26000 34 x5 v5 s).bind fun s6 =>
    jm 13 [vr_ (some 0), vi_ x3, vi_ x5, vi_ (x6 + 1)] [] s6)))
  else
    jm 13 [vr_ (some 0), vi_ x3, vi_ x5, vi_ (x6 + 1)] [] s)))) := by rfl
set_option maxRecDepth 100000 in
theorem mb_pairs (x1 : Int32) (s : mm_S) : mm_B mt_lc mt_ln mt_ty mt_sg mt_st 0 mt_pairs ca jm 1000 mt_pairs [some (vr_ (some 0)), some (vi_ x1), none, none, none] [] s =
  ((mm_a 26000 27 x1 s).bind fun v1 =>
  jm 9 [vr_ (some 0), vi_ x1, vi_ v1, vi_ 0] [] s) := by rfl
set_option maxRecDepth 100000 in
theorem mb_pairs_9 (x1 x2 x3 : Int32) (s : mm_S) : mm_B mt_lc mt_ln mt_ty mt_sg mt_st 0 mt_pairs ca jm 1000 (pj_at mt_pairs 9) [some (vr_ (some 0)), some (vi_ x1), some (vi_ x2), some (vi_ x3), none] [] s =
  ((mm_a 26000 29 x1 s).bind fun v1 =>
  (if x3 < v1 then
    ((mm_a 26000 28 x2 s).bind fun v2 =>
    jm 9 [vr_ (some 0), vi_ x1, vi_ v2, vi_ (x3 + 1)] [] s)
  else
    ((mm_a 26000 27 x1 s).bind fun v3 =>
    jm 42 [vr_ (some 0), vi_ x1, vi_ x2, vi_ v3, vi_ 0] [] s))) := by rfl
set_option maxRecDepth 100000 in
theorem mb_pairs_42 (x1 x2 x3 x4 : Int32) (s : mm_S) : mm_B mt_lc mt_ln mt_ty mt_sg mt_st 0 mt_pairs ca jm 1000 (pj_at mt_pairs 42) [some (vr_ (some 0)), some (vi_ x1), some (vi_ x2), some (vi_ x3), some (vi_ x4)] [] s =
  ((mm_a 26000 29 x1 s).bind fun v1 =>
  (if x4 < v1 then
    ((mm_w 26000 32 x3 x2 s).bind fun s2 =>
    ((mm_a 26000 28 x3 s2).bind fun v3 =>
    ((mm_a 26000 28 x2 s2).bind fun v4 =>
    jm 42 [vr_ (some 0), vi_ x1, vi_ v4, vi_ v3, vi_ (x4 + 1)] [] s2)))
  else
    some (none, s))) := by rfl
set_option maxRecDepth 100000 in
theorem mb_goal (x1 x2 x3 x4 : Int32) (s : mm_S) : mm_B mt_lc mt_ln mt_ty mt_sg mt_st 0 mt_goal ca jm 1000 mt_goal [some (vr_ (some 0)), some (vi_ x1), some (vi_ x2), some (vi_ x3), some (vi_ x4)] [] s =
  ((mm_w 9000 39 (s 0 38) x1 s).bind fun s1 =>
  ((mm_w 9000 40 (s1 0 38) x2 s1).bind fun s2 =>
  ((mm_w 9000 41 (s2 0 38) x3 s2).bind fun s3 =>
  ((mm_w 9000 42 (s3 0 38) x4 s3).bind fun s4 =>
  some (none, (mm_u s4 0 38 ((s4 0 38) + 1))))))) := by rfl
set_option maxRecDepth 100000 in
theorem mb_tk (s : mm_S) : mm_B mt_lc mt_ln mt_ty mt_sg mt_st 1 mt_tk ca jm 1000 mt_tk [some (vr_ (some 0))] [] s =
  (if (s 0 43) < (s 0 8) then
    ((mm_a 12100 9 (s 0 43) s).bind fun v1 =>
    some (some (vi_ v1), s))
  else
    some (some (vi_ 0), s)) := by rfl
set_option maxRecDepth 100000 in
theorem mb_tkNext (s : mm_S) : mm_B mt_lc mt_ln mt_ty mt_sg mt_st 1 mt_tkNext ca jm 1000 mt_tkNext [some (vr_ (some 0))] [] s =
  (if ((s 0 43) + 1) < (s 0 8) then
    ((mm_a 12100 9 ((s 0 43) + 1) s).bind fun v1 =>
    some (some (vi_ v1), s))
  else
    some (some (vi_ 0), s)) := by rfl
set_option maxRecDepth 100000 in
theorem mb_take (x1 : Int32) (s : mm_S) : mm_B mt_lc mt_ln mt_ty mt_sg mt_st 4 mt_take ca jm 1000 mt_take [some (vr_ (some 0)), some (vi_ x1)] [] s =
  (mm_bI (ca 25 [vr_ (some 0)] s) fun v2 s1 =>
  (if v2 = x1 then
    some (some (vi_ 1), (mm_u s1 0 43 ((s1 0 43) + 1)))
  else
    some (some (vi_ 0), s1))) := by rfl
set_option maxRecDepth 100000 in
theorem mb_deeper (s : mm_S) : mm_B mt_lc mt_ln mt_ty mt_sg mt_st 4 mt_deeper ca jm 1000 mt_deeper [some (vr_ (some 0))] [] s =
  (if (s 0 44) = 60 then
    some (some (vi_ 0), s)
  else
    some (some (vi_ 1), (mm_u s 0 44 ((s 0 44) + 1)))) := by rfl
set_option maxRecDepth 100000 in
theorem mb_isD (x0 : Int32) (s : mm_S) : mm_B mt_lc mt_ln mt_ty mt_sg mt_st 4 mt_isD ca jm 1000 mt_isD [some (vi_ x0)] [] s =
  (if x0 = 40 then
    some (some (vi_ 1), s)
  else
    (if x0 = 41 then
      some (some (vi_ 1), s)
    else
      (if x0 = 42 then
        some (some (vi_ 1), s)
      else
        (if x0 = 43 then
          some (some (vi_ 1), s)
        else
          some (some (vi_ 0), s))))) := by rfl
set_option maxRecDepth 100000 in
theorem mb_openSection (s : mm_S) : mm_B mt_lc mt_ln mt_ty mt_sg mt_st 4 mt_openSection ca jm 1000 mt_openSection [some (vr_ (some 0)), none] [] s =
  (mm_bI (ca 25 [vr_ (some 0)] s) fun v2 s1 =>
  (if v2 = 10 then
    (mm_bI (ca 28 [vr_ (some 0)] s1) fun v4 s3 =>
    (if v4 = 0 then
      some (some (vi_ 0), s3)
    else
      ((mm_a 12100 11 (s3 0 43) s3).bind fun v5 =>
      ((mm_w 70 46 (s3 0 45) v5 s3).bind fun s6 =>
      ((mm_w 70 47 (s6 0 45) (s1 0 44) s6).bind fun s7 =>
      some (some (vi_ 1), (mm_u (mm_u s7 0 45 ((s7 0 45) + 1)) 0 43 ((s7 0 43) + 1))))))))
  else
    some (some (vi_ 0), s1))) := by rfl
set_option maxRecDepth 100000 in
theorem mb_shutSection (s : mm_S) : mm_B mt_lc mt_ln mt_ty mt_sg mt_st 4 mt_shutSection ca jm 1000 mt_shutSection [some (vr_ (some 0)), none, none, none, none] [] s =
  (mm_bI (ca 25 [vr_ (some 0)] s) fun v2 s1 =>
  (if v2 = 11 then
    ((mm_a 12100 11 (s1 0 43) s1).bind fun v3 =>
    (if v3 < 0 then
      jm 51 [vr_ (some 0), vi_ v3, vi_ 1, vi_ 0, vi_ 0] [] s1
    else
      ((mm_a 70 46 ((s1 0 45) - 1) s1).bind fun v4 =>
      (if v4 = v3 then
        jm 51 [vr_ (some 0), vi_ v3, vi_ 1, vi_ 0, vi_ 0] [] s1
      else
        jm 51 [vr_ (some 0), vi_ v3, vi_ 0, vi_ 0, vi_ 0] [] s1))))
  else
    some (some (vi_ 0), s1))) := by rfl
set_option maxRecDepth 100000 in
theorem mb_shutSection_51 (x1 x2 x3 x4 : Int32) (s : mm_S) : mm_B mt_lc mt_ln mt_ty mt_sg mt_st 4 mt_shutSection ca jm 1000 (pj_at mt_shutSection 51) [some (vr_ (some 0)), some (vi_ x1), some (vi_ x2), some (vi_ x3), some (vi_ x4)] [] s =
  (if x4 < (s 0 45) then
    (if x3 = 0 then
      ((mm_a 70 46 x4 s).bind fun v1 =>
      (if v1 = x1 then
        jm 51 [vr_ (some 0), vi_ x1, vi_ x2, vi_ 1, vi_ (x4 + 1)] [] s
      else
        jm 51 [vr_ (some 0), vi_ x1, vi_ x2, vi_ 0, vi_ (x4 + 1)] [] s))
    else
      jm 51 [vr_ (some 0), vi_ x1, vi_ x2, vi_ 1, vi_ (x4 + 1)] [] s)
  else
    (if x2 = 0 then
      (if x3 = 0 then
        some (some (vi_ 0), s)
      else
        (if x2 = 0 then
          jm 111 [vr_ (some 0)] [] s
        else
          jm 111 [vr_ (some 0)] [] (mm_u s 0 43 ((s 0 43) + 1))))
    else
      (if x2 = 0 then
        jm 111 [vr_ (some 0)] [] s
      else
        jm 111 [vr_ (some 0)] [] (mm_u s 0 43 ((s 0 43) + 1))))) := by rfl
set_option maxRecDepth 100000 in
theorem mb_shutSection_111 (s : mm_S) : mm_B mt_lc mt_ln mt_ty mt_sg mt_st 4 mt_shutSection ca jm 1000 (pj_at mt_shutSection 111) [some (vr_ (some 0)), none, none, none, none] [] s =
  ((mm_a 70 47 ((s 0 45) - 1) (mm_u s 0 45 ((s 0 45) - 1))).bind fun v1 =>
  some (some (vi_ 1), (mm_u (mm_u s 0 45 ((s 0 45) - 1)) 0 44 v1))) := by rfl
set_option maxRecDepth 100000 in
theorem mb_parse (s : mm_S) : mm_B mt_lc mt_ln mt_ty mt_sg mt_st 4 mt_parse ca jm 1000 mt_parse [some (vr_ (some 0))] [] s =
  (mm_bV (ca 24 [vr_ (some 0), vi_ 1, vi_ 0, vi_ 0, vi_ 0] (mm_u (mm_u (mm_u (mm_u (mm_u (mm_u s 0 38 0) 0 37 0) 0 24 0) 0 43 0) 0 44 0) 0 45 0)) fun s1 =>
  jm 38 [vr_ (some 0)] [] s1) := by rfl
set_option maxRecDepth 100000 in
theorem mb_parse_38 (s : mm_S) : mm_B mt_lc mt_ln mt_ty mt_sg mt_st 4 mt_parse ca jm 1000 (pj_at mt_parse 38) [some (vr_ (some 0))] [] s =
  (if 0 < (s 0 38) then
    ((mm_a 9000 39 ((s 0 38) - 1) (mm_u s 0 38 ((s 0 38) - 1))).bind fun v1 =>
    ((mm_a 9000 40 ((s 0 38) - 1) (mm_u s 0 38 ((s 0 38) - 1))).bind fun v2 =>
    ((mm_a 9000 41 ((s 0 38) - 1) (mm_u s 0 38 ((s 0 38) - 1))).bind fun v3 =>
    ((mm_a 9000 42 ((s 0 38) - 1) (mm_u s 0 38 ((s 0 38) - 1))).bind fun v4 =>
    (mm_bI (ca 33 [vr_ (some 0), vi_ v1, vi_ v2, vi_ v3, vi_ v4] (mm_u s 0 38 ((s 0 38) - 1))) fun v6 s5 =>
    (if v6 = 0 then
      some (some (vi_ 0), s5)
    else
      jm 38 [vr_ (some 0)] [] s5))))))
  else
    (mm_bI (ca 22 [vr_ (some 0), vi_ 60, vi_ 0, vi_ 0, vi_ 0] s) fun v8 s7 =>
    some (some (vi_ 1), s7))) := by rfl
set_option maxRecDepth 100000 in
theorem mb_reach (x1 x2 x3 x4 : Int32) (s : mm_S) : mm_B mt_lc mt_ln mt_ty mt_sg mt_st 4 mt_reach ca jm 1000 mt_reach [some (vr_ (some 0)), some (vi_ x1), some (vi_ x2), some (vi_ x3), some (vi_ x4), none] [] s =
  (if x1 < 28 then
    jm 22 [vr_ (some 0), vi_ x1, vi_ x2, vi_ x3, vi_ x4] [] s
  else
    (if 40 < x1 then
      jm 22 [vr_ (some 0), vi_ x1, vi_ x2, vi_ x3, vi_ x4] [] s
    else
      (mm_bI (ca 41 [vr_ (some 0), vi_ x1, vi_ x2, vi_ x3, vi_ x4] s) fun v2 s1 =>
      some (some (vi_ (v2 &&& 1)), s1)))) := by rfl
set_option maxRecDepth 100000 in
theorem mb_reach_22 (x1 x2 x3 x4 : Int32) (s : mm_S) : mm_B mt_lc mt_ln mt_ty mt_sg mt_st 4 mt_reach ca jm 1000 (pj_at mt_reach 22) [some (vr_ (some 0)), some (vi_ x1), some (vi_ x2), some (vi_ x3), some (vi_ x4), none] [] s =
  (if x1 = 1 then
    (mm_bV (ca 24 [vr_ (some 0), vi_ 2, vi_ 0, vi_ 0, vi_ 0] s) fun s1 =>
    (mm_bV (ca 24 [vr_ (some 0), vi_ 3, vi_ 1, vi_ 0, vi_ 0] s1) fun s2 =>
    some (some (vi_ 1), s2)))
  else
    (if x1 = 2 then
      (if (s 0 43) = (s 0 8) then
        (if (s 0 48) < 0 then
          some (some (vi_ 1), s)
        else
          some (some (vi_ 0), s))
      else
        (mm_bI (ca 27 [vr_ (some 0), vi_ 15] s) fun v4 s3 =>
        (if v4 = 0 then
          some (some (vi_ 0), s3)
        else
          (if (s3 0 43) = (s3 0 8) then
            (if (s3 0 48) < 0 then
              some (some (vi_ 1), s3)
            else
              some (some (vi_ 0), s3))
          else
            (mm_bV (ca 24 [vr_ (some 0), vi_ 1, vi_ 0, vi_ 0, vi_ 0] s3) fun s5 =>
            some (some (vi_ 1), s5))))))
    else
      (if x1 = 6 then
        (mm_bI (ca 22 [vr_ (some 0), vi_ x2, vi_ x3, vi_ x4, vi_ 0] s) fun v7 s6 =>
        (if x2 = 4 then
          ((mm_w 26000 30 v7 0 s6).bind fun s8 =>
          some (some (vi_ 1), s8))
        else
          some (some (vi_ 1), s6)))
      else
        (if x1 = 15 then
          some (some (vi_ 1), (mm_u s 0 44 x2))
        else
          (if x1 = 16 then
            (mm_bI (ca 27 [vr_ (some 0), vi_ x2] s) fun v10 s9 =>
            some (some (vi_ (v10 &&& 1)), s9))
          else
            (if x1 = 17 then
              (mm_bI (ca 30 [vr_ (some 0)] s) fun v12 s11 =>
              some (some (vi_ (v12 &&& 1)), s11))
            else
              (if x1 = 13 then
                (mm_bI (ca 27 [vr_ (some 0), vi_ 48] s) fun v14 s13 =>
                (if v14 = 0 then
                  (mm_bI (ca 25 [vr_ (some 0)] s13) fun v16 s15 =>
                  (mm_bI (ca 11 [vi_ v16] s15) fun v18 s17 =>
                  (if v18 = 0 then
                    some (some (vi_ 0), s17)
                  else
                    some (some (vi_ 1), s17))))
                else
                  some (some (vi_ 1), s13)))
              else
                (if x1 = 14 then
                  (mm_bV (ca 24 [vr_ (some 0), vi_ 15, vi_ (s 0 44), vi_ 0, vi_ 0] s) fun s19 =>
                  (mm_bV (ca 24 [vr_ (some 0), vi_ 11, vi_ 0, vi_ 0, vi_ 0] s19) fun s20 =>
                  (mm_bI (ca 28 [vr_ (some 0)] s20) fun v22 s21 =>
                  some (some (vi_ (v22 &&& 1)), s21))))
                else
                  (if 10 < x1 then
                    (mm_bI (ca 37 [vr_ (some 0), vi_ x1, vi_ x2, vi_ x3, vi_ x4] s) fun v24 s23 =>
                    some (some (vi_ (v24 &&& 1)), s23))
                  else
                    (mm_bI (ca 34 [vr_ (some 0), vi_ x1, vi_ x2, vi_ x3, vi_ x4] s) fun v26 s25 =>
                    some (some (vi_ (v26 &&& 1)), s25))))))))))) := by rfl
set_option maxRecDepth 100000 in
theorem mb_reachD (x1 x2 x3 x4 : Int32) (s : mm_S) : mm_B mt_lc mt_ln mt_ty mt_sg mt_st 4 mt_reachD ca jm 1000 mt_reachD [some (vr_ (some 0)), some (vi_ x1), some (vi_ x2), some (vi_ x3), some (vi_ x4), none, none, none, none] [] s =
  (mm_bI (ca 25 [vr_ (some 0)] s) fun v2 s1 =>
  (if x1 = 3 then
    (mm_bI (ca 29 [vi_ v2] s1) fun v4 s3 =>
    (if v4 = 0 then
      some (some (vi_ 0), s3)
    else
      (if v2 = 43 then
        (mm_bV (ca 24 [vr_ (some 0), vi_ 8, vi_ x2, vi_ (s1 0 43), vi_ (s1 0 37)] (mm_u s3 0 43 ((s3 0 43) + 1))) fun s5 =>
        (mm_bV (ca 24 [vr_ (some 0), vi_ 7, vi_ x2, vi_ 0, vi_ 0] s5) fun s6 =>
        some (some (vi_ 1), s6)))
      else
        (if v2 = 40 then
          jm 98 [vr_ (some 0), vi_ (s1 0 37), vi_ (s1 0 43)] [vi_ 50] (mm_u s3 0 43 ((s3 0 43) + 1))
        else
          (if v2 = 41 then
            jm 98 [vr_ (some 0), vi_ (s1 0 37), vi_ (s1 0 43)] [vi_ 51] (mm_u s3 0 43 ((s3 0 43) + 1))
          else
            jm 98 [vr_ (some 0), vi_ (s1 0 37), vi_ (s1 0 43)] [vi_ 52] (mm_u s3 0 43 ((s3 0 43) + 1)))))))
  else
    (if x1 = 4 then
      (mm_bI (ca 27 [vr_ (some 0), vi_ 1] s1) fun v8 s7 =>
      (if v8 = 0 then
        some (some (vi_ 0), s7)
      else
        (mm_bV (ca 24 [vr_ (some 0), vi_ 6, vi_ 56, vi_ (s1 0 43), vi_ (s7 0 37)] s7) fun s9 =>
        (mm_bV (ca 24 [vr_ (some 0), vi_ 28, vi_ 0, vi_ 0, vi_ 0] s9) fun s10 =>
        (if x2 = 50 then
          (mm_bV (ca 24 [vr_ (some 0), vi_ 16, vi_ 17, vi_ 0, vi_ 0] s10) fun s11 =>
          some (some (vi_ 1), s11))
        else
          (mm_bV (ca 24 [vr_ (some 0), vi_ 16, vi_ 25, vi_ 0, vi_ 0] s10) fun s12 =>
          some (some (vi_ 1), s12)))))))
    else
      (if x1 = 5 then
        (mm_bI (ca 27 [vr_ (some 0), vi_ 15] s1) fun v14 s13 =>
        (if v14 = 0 then
          (mm_bI (ca 31 [vr_ (some 0)] s13) fun v16 s15 =>
          (if v16 = 0 then
            some (some (vi_ 0), s15)
          else
            (mm_bI (ca 22 [vr_ (some 0), vi_ x2, vi_ x3, vi_ x4, vi_ 0] s15) fun v18 s17 =>
            some (some (vi_ 1), s17))))
        else
          (mm_bV (ca 24 [vr_ (some 0), vi_ 5, vi_ x2, vi_ x3, vi_ x4] s13) fun s19 =>
          (mm_bV (ca 24 [vr_ (some 0), vi_ 4, vi_ x2, vi_ 0, vi_ 0] s19) fun s20 =>
          some (some (vi_ 1), s20)))))
      else
        (if x1 = 8 then
          ((mm_a 26000 36 ((s1 0 37) - 1) s1).bind fun v21 =>
          ((mm_a 26000 25 v21 s1).bind fun v22 =>
          (if v22 = 54 then
            (mm_bI (ca 27 [vr_ (some 0), vi_ 44] s1) fun v24 s23 =>
            (if v24 = 0 then
              (mm_bI (ca 22 [vr_ (some 0), vi_ 53, vi_ x3, vi_ x4, vi_ 0] s23) fun v26 s25 =>
              some (some (vi_ 1), s25))
            else
              (mm_bV (ca 24 [vr_ (some 0), vi_ 8, vi_ x2, vi_ x3, vi_ x4] s23) fun s27 =>
              (mm_bV (ca 24 [vr_ (some 0), vi_ 7, vi_ 1, vi_ 0, vi_ 0] s27) fun s28 =>
              some (some (vi_ 1), s28)))))
          else
            (mm_bI (ca 22 [vr_ (some 0), vi_ 53, vi_ x3, vi_ x4, vi_ 0] s1) fun v30 s29 =>
            some (some (vi_ 1), s29)))))
        else
          (if x1 = 7 then
            (mm_bI (ca 35 [vr_ (some 0), vi_ x2] s1) fun v32 s31 =>
            some (some (vi_ (v32 &&& 1)), s31))
          else
            (if x1 = 9 then
              (mm_bV (ca 24 [vr_ (some 0), vi_ 10, vi_ x2, vi_ 0, vi_ 0] s1) fun s33 =>
              (if v2 = 46 then
                (mm_bV (ca 24 [vr_ (some 0), vi_ 6, vi_ 59, vi_ (s33 0 43), vi_ (s33 0 37)] s33) fun s34 =>
                (mm_bV (ca 24 [vr_ (some 0), vi_ 28, vi_ 0, vi_ 0, vi_ 0] (mm_u s34 0 43 ((s34 0 43) + 1))) fun s35 =>
                some (some (vi_ 1), s35)))
              else
                (mm_bV (ca 24 [vr_ (some 0), vi_ 28, vi_ 0, vi_ 0, vi_ 0] s33) fun s36 =>
                some (some (vi_ 1), s36))))
            else
              (if x2 = 1 then
                some (some (vi_ 1), s1)
              else
                (mm_bI (ca 27 [vr_ (some 0), vi_ 14] s1) fun v38 s37 =>
                (if v38 = 0 then
                  some (some (vi_ 0), s37)
                else
                  (mm_bV (ca 24 [vr_ (some 0), vi_ 9, vi_ (x2 - 1), vi_ 0, vi_ 0] s37) fun s39 =>
                  some (some (vi_ 1), s39)))))))))))) := by rfl
set_option maxRecDepth 100000 in
theorem mb_reachD_98 (x6 x7 y0 : Int32) (s : mm_S) : mm_B mt_lc mt_ln mt_ty mt_sg mt_st 4 mt_reachD ca jm 1000 (pj_at mt_reachD 98) [some (vr_ (some 0)), none, none, none, none, none, some (vi_ x6), some (vi_ x7), none] [vi_ y0] s =
  (mm_bI (ca 30 [vr_ (some 0)] s) fun v2 s1 =>
  (if v2 = 0 then
    some (some (vi_ 0), s1)
  else
    (mm_bV (ca 24 [vr_ (some 0), vi_ 5, vi_ y0, vi_ x7, vi_ x6] s1) fun s3 =>
    (mm_bV (ca 24 [vr_ (some 0), vi_ 4, vi_ y0, vi_ 0, vi_ 0] s3) fun s4 =>
    some (some (vi_ 1), s4))))) := by rfl
set_option maxRecDepth 100000 in
theorem mb_reachP (x1 : Int32) (s : mm_S) : mm_B mt_lc mt_ln mt_ty mt_sg mt_st 4 mt_reachP ca jm 1000 mt_reachP [some (vr_ (some 0)), some (vi_ x1), none, none, none, none] [] s =
  (mm_bI (ca 27 [vr_ (some 0), vi_ 1] s) fun v2 s1 =>
  (if v2 = 0 then
    some (some (vi_ 0), s1)
  else
    (mm_bI (ca 25 [vr_ (some 0)] s1) fun v4 s3 =>
    (if v4 = 12 then
      jm 42 [vr_ (some 0), vi_ (s 0 43), vi_ (s 0 37), vi_ 0] [] (mm_u s3 0 43 ((s3 0 43) + 1))
    else
      (if x1 = 1 then
        some (some (vi_ 0), s3)
      else
        ((mm_a 12100 11 (s 0 43) s3).bind fun v5 =>
        (mm_bV (ca 21 [vr_ (some 0), vi_ 58, vi_ (s 0 43), vi_ v5] s3) fun s6 =>
        jm 246 [vr_ (some 0), vi_ (s 0 43), vi_ (s 0 37), vi_ 1] [] s6))))))) := by rfl
set_option maxRecDepth 100000 in
theorem mb_reachP_42 (x2 x3 x4 : Int32) (s : mm_S) : mm_B mt_lc mt_ln mt_ty mt_sg mt_st 4 mt_reachP ca jm 1000 (pj_at mt_reachP 42) [some (vr_ (some 0)), none, some (vi_ x2), some (vi_ x3), some (vi_ x4), none] [] s =
  (mm_bI (ca 25 [vr_ (some 0)] s) fun v2 s1 =>
  (if v2 = 1 then
    (if x4 < 20 then
      ((mm_a 12100 11 (s1 0 43) s1).bind fun v3 =>
      (mm_bV (ca 21 [vr_ (some 0), vi_ 57, vi_ (s1 0 43), vi_ v3] s1) fun s4 =>
      (mm_bI (ca 25 [vr_ (some 0)] (mm_u s4 0 43 ((s4 0 43) + 1))) fun v6 s5 =>
      (if v6 = 13 then
        jm 42 [vr_ (some 0), vi_ x2, vi_ x3, vi_ (x4 + 1)] [] s5
      else
        (mm_bI (ca 25 [vr_ (some 0)] s5) fun v8 s7 =>
        (if v8 = 14 then
          (if (x4 + 1) = 20 then
            some (some (vi_ 0), s7)
          else
            (mm_bI (ca 25 [vr_ (some 0)] (mm_u s7 0 43 ((s7 0 43) + 1))) fun v10 s9 =>
            (if v10 = 1 then
              jm 42 [vr_ (some 0), vi_ x2, vi_ x3, vi_ (x4 + 1)] [] s9
            else
              some (some (vi_ 0), s9))))
        else
          some (some (vi_ 0), s7)))))))
    else
      jm 139 [vr_ (some 0), vi_ x2, vi_ x3] [] s1)
  else
    jm 139 [vr_ (some 0), vi_ x2, vi_ x3] [] s1)) := by rfl
set_option maxRecDepth 100000 in
theorem mb_reachP_139 (x2 x3 : Int32) (s : mm_S) : mm_B mt_lc mt_ln mt_ty mt_sg mt_st 4 mt_reachP ca jm 1000 (pj_at mt_reachP 139) [some (vr_ (some 0)), none, some (vi_ x2), some (vi_ x3), none, none] [] s =
  (mm_bI (ca 27 [vr_ (some 0), vi_ 13] s) fun v2 s1 =>
  (if v2 = 0 then
    some (some (vi_ 0), s1)
  else
    (mm_bI (ca 25 [vr_ (some 0)] s1) fun v4 s3 =>
    (if v4 = 25 then
      (if (1 : Int32) = 0 then
        (mm_bI (ca 25 [vr_ (some 0)] s3) fun v6 s5 =>
        (if v6 = 45 then
          jm 182 [vr_ (some 0), vi_ x2, vi_ x3, vi_ 1] [] s5
        else
          some (some (vi_ 0), s5)))
      else
        jm 182 [vr_ (some 0), vi_ x2, vi_ x3, vi_ 1] [] s3)
    else
      (if (0 : Int32) = 0 then
        (mm_bI (ca 25 [vr_ (some 0)] s3) fun v8 s7 =>
        (if v8 = 45 then
          jm 182 [vr_ (some 0), vi_ x2, vi_ x3, vi_ 0] [] s7
        else
          some (some (vi_ 0), s7)))
      else
        jm 182 [vr_ (some 0), vi_ x2, vi_ x3, vi_ 0] [] s3))))) := by rfl
set_option maxRecDepth 100000 in
theorem mb_reachP_182 (x2 x3 x5 : Int32) (s : mm_S) : mm_B mt_lc mt_ln mt_ty mt_sg mt_st 4 mt_reachP ca jm 1000 (pj_at mt_reachP 182) [some (vr_ (some 0)), none, some (vi_ x2), some (vi_ x3), none, some (vi_ x5)] [] s =
  (mm_bV (ca 24 [vr_ (some 0), vi_ 6, vi_ 54, vi_ x2, vi_ x3] (mm_u s 0 43 ((s 0 43) + 1))) fun s1 =>
  (if x5 = 0 then
    (mm_bV (ca 24 [vr_ (some 0), vi_ 11, vi_ 0, vi_ 0, vi_ 0] s1) fun s2 =>
    some (some (vi_ 1), s2))
  else
    (mm_bV (ca 24 [vr_ (some 0), vi_ 28, vi_ 0, vi_ 0, vi_ 0] s1) fun s3 =>
    some (some (vi_ 1), s3)))) := by rfl
set_option maxRecDepth 100000 in
theorem mb_reachP_246 (x2 x3 x4 : Int32) (s : mm_S) : mm_B mt_lc mt_ln mt_ty mt_sg mt_st 4 mt_reachP ca jm 1000 (pj_at mt_reachP 246) [some (vr_ (some 0)), none, some (vi_ x2), some (vi_ x3), some (vi_ x4), none] [] s =
  (mm_bI (ca 27 [vr_ (some 0), vi_ 14] s) fun v2 s1 =>
  (if v2 = 0 then
    (mm_bI (ca 27 [vr_ (some 0), vi_ 25] s1) fun v4 s3 =>
    (if v4 = 0 then
      some (some (vi_ 0), s3)
    else
      (mm_bV (ca 24 [vr_ (some 0), vi_ 6, vi_ 55, vi_ x2, vi_ x3] s3) fun s5 =>
      (mm_bV (ca 24 [vr_ (some 0), vi_ 9, vi_ x4, vi_ 0, vi_ 0] s5) fun s6 =>
      some (some (vi_ 1), s6)))))
  else
    (mm_bI (ca 25 [vr_ (some 0)] s1) fun v8 s7 =>
    (if v8 = 1 then
      ((mm_a 12100 11 (s7 0 43) s7).bind fun v9 =>
      (mm_bV (ca 21 [vr_ (some 0), vi_ 58, vi_ (s7 0 43), vi_ v9] s7) fun s10 =>
      jm 246 [vr_ (some 0), vi_ x2, vi_ x3, vi_ (x4 + 1)] [] (mm_u s10 0 43 ((s10 0 43) + 1))))
    else
      some (some (vi_ 0), s7))))) := by rfl
set_option maxRecDepth 100000 in
theorem mb_beginsE (x0 : Int32) (s : mm_S) : mm_B mt_lc mt_ln mt_ty mt_sg mt_st 4 mt_beginsE ca jm 1000 mt_beginsE [some (vi_ x0)] [] s =
  (if x0 = 1 then
    some (some (vi_ 1), s)
  else
    (if x0 = 2 then
      some (some (vi_ 1), s)
    else
      (if x0 = 4 then
        some (some (vi_ 1), s)
      else
        (if x0 = 74 then
          some (some (vi_ 1), s)
        else
          (if x0 = 75 then
            some (some (vi_ 1), s)
          else
            (if x0 = 76 then
              some (some (vi_ 1), s)
            else
              (if x0 = 77 then
                some (some (vi_ 1), s)
              else
                (if x0 = 12 then
                  some (some (vi_ 1), s)
                else
                  (if x0 = 21 then
                    some (some (vi_ 1), s)
                  else
                    (if x0 = 22 then
                      some (some (vi_ 1), s)
                    else
                      (if x0 = 33 then
                        some (some (vi_ 1), s)
                      else
                        (if x0 = 18 then
                          some (some (vi_ 1), s)
                        else
                          (if x0 = 20 then
                            some (some (vi_ 1), s)
                          else
                            some (some (vi_ 0), s)))))))))))))) := by rfl
set_option maxRecDepth 100000 in
theorem mb_reachC (x1 x2 x3 x4 : Int32) (s : mm_S) : mm_B mt_lc mt_ln mt_ty mt_sg mt_st 4 mt_reachC ca jm 1000 mt_reachC [some (vr_ (some 0)), some (vi_ x1), some (vi_ x2), some (vi_ x3), some (vi_ x4), none, none, none, none] [] s =
  (mm_bI (ca 25 [vr_ (some 0)] s) fun v2 s1 =>
  (if x1 = 11 then
    (mm_bV (ca 24 [vr_ (some 0), vi_ 12, vi_ (s1 0 44), vi_ 0, vi_ (s1 0 37)] s1) fun s3 =>
    (mm_bI (ca 39 [vr_ (some 0), vi_ v2, vi_ (s1 0 43), vi_ (s1 0 37)] s3) fun v5 s4 =>
    some (some (vi_ (v5 &&& 1)), s4)))
  else
    (if x1 = 12 then
      (if v2 = 68 then
        jm 82 [vr_ (some 0), vi_ x2, vi_ x4, vi_ v2, vi_ (s1 0 43)] [] s1
      else
        (if v2 = 69 then
          jm 82 [vr_ (some 0), vi_ x2, vi_ x4, vi_ v2, vi_ (s1 0 43)] [] s1
        else
          (if v2 = 70 then
            jm 82 [vr_ (some 0), vi_ x2, vi_ x4, vi_ v2, vi_ (s1 0 43)] [] s1
          else
            some (some (vi_ 1), (mm_u s1 0 44 x2)))))
    else
      (if x1 = 41 then
        (mm_bI (ca 27 [vr_ (some 0), vi_ 56] s1) fun v7 s6 =>
        (if v7 = 0 then
          some (some (vi_ 1), s6)
        else
          (mm_bV (ca 24 [vr_ (some 0), vi_ 28, vi_ 0, vi_ 0, vi_ 0] s6) fun s8 =>
          some (some (vi_ 1), s8))))
      else
        (if x1 = 18 then
          (mm_bV (ca 24 [vr_ (some 0), vi_ 19, vi_ x2, vi_ x3, vi_ x4] s1) fun s9 =>
          (mm_bV (ca 24 [vr_ (some 0), vi_ 3, vi_ 0, vi_ 0, vi_ 0] s9) fun s10 =>
          some (some (vi_ 1), s10)))
        else
          (if x1 = 19 then
            (mm_bI (ca 27 [vr_ (some 0), vi_ 15] s1) fun v12 s11 =>
            (if v12 = 0 then
              (mm_bI (ca 31 [vr_ (some 0)] s11) fun v14 s13 =>
              (if v14 = 0 then
                some (some (vi_ 0), s13)
              else
                (mm_bI (ca 22 [vr_ (some 0), vi_ 36, vi_ x3, vi_ x4, vi_ 0] s13) fun v16 s15 =>
                some (some (vi_ 1), s15))))
            else
              (mm_bI (ca 25 [vr_ (some 0)] s11) fun v18 s17 =>
              (mm_bI (ca 29 [vi_ v18] s17) fun v20 s19 =>
              (if v20 = 0 then
                (mm_bV (ca 24 [vr_ (some 0), vi_ 20, vi_ x2, vi_ x3, vi_ x4] s19) fun s21 =>
                some (some (vi_ 1), s21))
              else
                (mm_bV (ca 24 [vr_ (some 0), vi_ 18, vi_ x2, vi_ x3, vi_ x4] s19) fun s22 =>
                some (some (vi_ 1), s22)))))))
          else
            (if x1 = 20 then
              (mm_bV (ca 24 [vr_ (some 0), vi_ 21, vi_ x2, vi_ x3, vi_ x4] s1) fun s23 =>
              (mm_bV (ca 38 [vr_ (some 0), vi_ (s1 0 37)] s23) fun s24 =>
              (mm_bV (ca 24 [vr_ (some 0), vi_ 6, vi_ 41, vi_ (s1 0 43), vi_ (s1 0 37)] s24) fun s25 =>
              (mm_bV (ca 24 [vr_ (some 0), vi_ 11, vi_ 0, vi_ 0, vi_ 0] s25) fun s26 =>
              some (some (vi_ 1), s26)))))
            else
              (if x1 = 21 then
                jm 342 [vr_ (some 0), vi_ x1, vi_ x2, vi_ x3, vi_ x4] [] s1
              else
                (if x1 = 24 then
                  jm 342 [vr_ (some 0), vi_ x1, vi_ x2, vi_ x3, vi_ x4] [] s1
                else
                  (if x1 = 22 then
                    (mm_bV (ca 24 [vr_ (some 0), vi_ 24, vi_ x2, vi_ x3, vi_ x4] s1) fun s27 =>
                    (mm_bV (ca 24 [vr_ (some 0), vi_ 23, vi_ (s1 0 43), vi_ 0, vi_ (s1 0 37)] s27) fun s28 =>
                    some (some (vi_ 1), s28)))
                  else
                    (if x1 = 23 then
                      (if v2 = 59 then
                        (mm_bV (ca 24 [vr_ (some 0), vi_ 23, vi_ x2, vi_ 0, vi_ x4] (mm_u s1 0 43 ((s1 0 43) + 1))) fun s29 =>
                        (mm_bV (ca 24 [vr_ (some 0), vi_ 16, vi_ 17, vi_ 0, vi_ 0] s29) fun s30 =>
                        (mm_bV (ca 24 [vr_ (some 0), vi_ 6, vi_ 43, vi_ (s1 0 43), vi_ (s1 0 37)] s30) fun s31 =>
                        (mm_bV (ca 24 [vr_ (some 0), vi_ 28, vi_ 0, vi_ 0, vi_ 0] s31) fun s32 =>
                        some (some (vi_ 1), s32)))))
                      else
                        (if v2 = 60 then
                          (mm_bV (ca 21 [vr_ (some 0), vi_ 44, vi_ (s1 0 43), vi_ 0] (mm_u s1 0 43 ((s1 0 43) + 1))) fun s33 =>
                          (mm_bV (ca 24 [vr_ (some 0), vi_ 23, vi_ x2, vi_ 0, vi_ x4] s33) fun s34 =>
                          (mm_bI (ca 27 [vr_ (some 0), vi_ 17] s34) fun v36 s35 =>
                          some (some (vi_ (v36 &&& 1)), s35))))
                        else
                          (mm_bV (ca 38 [vr_ (some 0), vi_ (s1 0 37)] s1) fun s37 =>
                          (mm_bV (ca 24 [vr_ (some 0), vi_ 6, vi_ 41, vi_ x2, vi_ x4] s37) fun s38 =>
                          (mm_bV (ca 24 [vr_ (some 0), vi_ 11, vi_ 0, vi_ 0, vi_ 0] s38) fun s39 =>
                          some (some (vi_ 1), s39))))))
                    else
                      (if x1 = 25 then
                        (if v2 = 14 then
                          (mm_bV (ca 24 [vr_ (some 0), vi_ 26, vi_ 1, vi_ x3, vi_ x4] s1) fun s40 =>
                          some (some (vi_ 1), s40))
                        else
                          (if v2 = 16 then
                            (mm_bV (ca 24 [vr_ (some 0), vi_ 26, vi_ 1, vi_ x3, vi_ x4] s1) fun s41 =>
                            some (some (vi_ 1), s41))
                          else
                            ((mm_a 26000 36 ((s1 0 37) - 1) s1).bind fun v42 =>
                            ((mm_a 26000 25 v42 s1).bind fun v43 =>
                            (if v43 = 6 then
                              ((mm_a 26000 35 v42 s1).bind fun v44 =>
                              (if v44 = 0 then
                                (mm_bI (ca 22 [vr_ (some 0), vi_ 21, vi_ x3, vi_ x4, vi_ 0] s1) fun v46 s45 =>
                                some (some (vi_ 1), s45))
                              else
                                some (some (vi_ 0), s1)))
                            else
                              some (some (vi_ 0), s1))))))
                      else
                        (if x1 = 26 then
                          (mm_bI (ca 27 [vr_ (some 0), vi_ 14] s1) fun v48 s47 =>
                          (if v48 = 0 then
                            (mm_bI (ca 27 [vr_ (some 0), vi_ 16] s47) fun v50 s49 =>
                            (if v50 = 0 then
                              some (some (vi_ 0), s49)
                            else
                              (mm_bV (ca 24 [vr_ (some 0), vi_ 27, vi_ ((8192 * x2) + 1), vi_ x3, vi_ x4] s49) fun s51 =>
                              (mm_bV (ca 24 [vr_ (some 0), vi_ 28, vi_ 0, vi_ 0, vi_ 0] s51) fun s52 =>
                              some (some (vi_ 1), s52)))))
                          else
                            (mm_bV (ca 24 [vr_ (some 0), vi_ 26, vi_ (x2 + 1), vi_ x3, vi_ x4] s47) fun s53 =>
                            (mm_bV (ca 24 [vr_ (some 0), vi_ 28, vi_ 0, vi_ 0, vi_ 0] s53) fun s54 =>
                            some (some (vi_ 1), s54)))))
                        else
                          (if x1 = 27 then
                            ((pj_rem x2 8192).bind fun v55 =>
                            ((pj_div x2 8192).bind fun v56 =>
                            (if v55 = v56 then
                              ((pj_div x2 8192).bind fun v57 =>
                              (mm_bI (ca 22 [vr_ (some 0), vi_ 20, vi_ x3, vi_ x4, vi_ v57] s1) fun v59 s58 =>
                              (mm_bV (ca 23 [vr_ (some 0), vi_ v59] s58) fun s60 =>
                              some (some (vi_ 1), s60))))
                            else
                              (mm_bI (ca 27 [vr_ (some 0), vi_ 14] s1) fun v62 s61 =>
                              (if v62 = 0 then
                                some (some (vi_ 0), s61)
                              else
                                (mm_bV (ca 24 [vr_ (some 0), vi_ 27, vi_ (x2 + 1), vi_ x3, vi_ x4] s61) fun s63 =>
                                (mm_bV (ca 24 [vr_ (some 0), vi_ 28, vi_ 0, vi_ 0, vi_ 0] s63) fun s64 =>
                                some (some (vi_ 1), s64))))))))
                          else
                            some (some (vi_ 0), s1))))))))))))))) := by rfl
set_option maxRecDepth 100000 in
theorem mb_reachC_82 (x2 x4 x5 x7 : Int32) (s : mm_S) : mm_B mt_lc mt_ln mt_ty mt_sg mt_st 4 mt_reachC ca jm 1000 (pj_at mt_reachC 82) [some (vr_ (some 0)), none, some (vi_ x2), none, some (vi_ x4), some (vi_ x5), none, some (vi_ x7), none] [] s =
  (mm_bI (ca 28 [vr_ (some 0)] s) fun v2 s1 =>
  (if v2 = 0 then
    some (some (vi_ 0), s1)
  else
    (mm_bV (ca 24 [vr_ (some 0), vi_ 12, vi_ x2, vi_ 0, vi_ x4] (mm_u s1 0 43 ((s1 0 43) + 1))) fun s3 =>
    (if x5 = 68 then
      (mm_bI (ca 22 [vr_ (some 0), vi_ 38, vi_ x7, vi_ x4, vi_ 0] s3) fun v5 s4 =>
      some (some (vi_ 1), s4))
    else
      (if x5 = 69 then
        (mm_bV (ca 24 [vr_ (some 0), vi_ 6, vi_ 39, vi_ x7, vi_ x4] s3) fun s6 =>
        (mm_bV (ca 24 [vr_ (some 0), vi_ 28, vi_ 0, vi_ 0, vi_ 0] s6) fun s7 =>
        some (some (vi_ 1), s7)))
      else
        (mm_bV (ca 24 [vr_ (some 0), vi_ 6, vi_ 40, vi_ x7, vi_ x4] s3) fun s8 =>
        (mm_bV (ca 24 [vr_ (some 0), vi_ 28, vi_ 0, vi_ 0, vi_ 0] s8) fun s9 =>
        some (some (vi_ 1), s9)))))))) := by rfl
set_option maxRecDepth 100000 in
theorem mb_reachC_342 (x1 x2 x3 x4 : Int32) (s : mm_S) : mm_B mt_lc mt_ln mt_ty mt_sg mt_st 4 mt_reachC ca jm 1000 (pj_at mt_reachC 342) [some (vr_ (some 0)), some (vi_ x1), some (vi_ x2), some (vi_ x3), some (vi_ x4), none, none, none, none] [] s =
  (mm_bI (ca 27 [vr_ (some 0), vi_ 15] s) fun v2 s1 =>
  (if v2 = 0 then
    (mm_bI (ca 31 [vr_ (some 0)] s1) fun v4 s3 =>
    (if v4 = 0 then
      some (some (vi_ 0), s3)
    else
      (if x1 = 21 then
        (mm_bI (ca 22 [vr_ (some 0), vi_ 36, vi_ x3, vi_ x4, vi_ 0] s3) fun v6 s5 =>
        some (some (vi_ 1), s5))
      else
        (mm_bI (ca 22 [vr_ (some 0), vi_ 28, vi_ x3, vi_ x4, vi_ 0] s3) fun v8 s7 =>
        some (some (vi_ 1), s7)))))
  else
    (if x1 = 21 then
      (mm_bV (ca 24 [vr_ (some 0), vi_ 20, vi_ x2, vi_ x3, vi_ x4] s1) fun s9 =>
      some (some (vi_ 1), s9))
    else
      (mm_bV (ca 24 [vr_ (some 0), vi_ 22, vi_ x2, vi_ x3, vi_ x4] s1) fun s10 =>
      some (some (vi_ 1), s10))))) := by rfl
set_option maxRecDepth 100000 in
theorem mb_labels (x1 : Int32) (s : mm_S) : mm_B mt_lc mt_ln mt_ty mt_sg mt_st 0 mt_labels ca jm 1000 mt_labels [some (vr_ (some 0)), some (vi_ x1)] [] s =
  (mm_bI (ca 25 [vr_ (some 0)] s) fun v2 s1 =>
  (if v2 = 1 then
    (mm_bI (ca 26 [vr_ (some 0)] s1) fun v4 s3 =>
    (if v4 = 17 then
      ((mm_a 12100 11 (s3 0 43) s3).bind fun v5 =>
      (mm_bV (ca 21 [vr_ (some 0), vi_ 42, vi_ (s3 0 43), vi_ v5] s3) fun s6 =>
      jm 0 [vr_ (some 0)] [] (mm_u s6 0 43 ((s6 0 43) + 2))))
    else
      some (none, s3)))
  else
    some (none, s1))) := by rfl
set_option maxRecDepth 100000 in
theorem mb_labels_0 (s : mm_S) : mm_B mt_lc mt_ln mt_ty mt_sg mt_st 0 mt_labels ca jm 1000 (pj_at mt_labels 0) [some (vr_ (some 0)), none] [] s =
  (mm_bI (ca 25 [vr_ (some 0)] s) fun v2 s1 =>
  (if v2 = 1 then
    (mm_bI (ca 26 [vr_ (some 0)] s1) fun v4 s3 =>
    (if v4 = 17 then
      ((mm_a 12100 11 (s3 0 43) s3).bind fun v5 =>
      (mm_bV (ca 21 [vr_ (some 0), vi_ 42, vi_ (s3 0 43), vi_ v5] s3) fun s6 =>
      jm 0 [vr_ (some 0)] [] (mm_u s6 0 43 ((s6 0 43) + 2))))
    else
      some (none, s3)))
  else
    some (none, s1))) := by rfl
set_option maxRecDepth 100000 in
theorem mb_command (x1 x2 x3 : Int32) (s : mm_S) : mm_B mt_lc mt_ln mt_ty mt_sg mt_st 4 mt_command ca jm 1000 mt_command [some (vr_ (some 0)), some (vi_ x1), some (vi_ x2), some (vi_ x3), none] [] s =
  (if x1 = 15 then
    (mm_bV (ca 21 [vr_ (some 0), vi_ 37, vi_ x2, vi_ 0] s) fun s1 =>
    some (some (vi_ 1), s1))
  else
    (if x1 = 11 then
      (mm_bV (ca 21 [vr_ (some 0), vi_ 37, vi_ x2, vi_ 0] s) fun s2 =>
      some (some (vi_ 1), s2))
    else
      (mm_bI (ca 36 [vi_ x1] s) fun v4 s3 =>
      (if v4 = 0 then
        (if x1 = 10 then
          (mm_bI (ca 30 [vr_ (some 0)] s3) fun v6 s5 =>
          (if v6 = 0 then
            some (some (vi_ 0), s5)
          else
            (mm_bI (ca 25 [vr_ (some 0)] s5) fun v8 s7 =>
            (mm_bI (ca 29 [vi_ v8] s7) fun v10 s9 =>
            (if v10 = 0 then
              (mm_bV (ca 24 [vr_ (some 0), vi_ 20, vi_ 0, vi_ x2, vi_ x3] s9) fun s11 =>
              some (some (vi_ 1), s11))
            else
              (mm_bV (ca 24 [vr_ (some 0), vi_ 18, vi_ 0, vi_ x2, vi_ x3] s9) fun s12 =>
              some (some (vi_ 1), s12)))))))
        else
          (if x1 = 61 then
            jm 156 [vr_ (some 0), vi_ x1, vi_ x2, vi_ x3] [vi_ 29] (mm_u s3 0 43 ((s3 0 43) + 1))
          else
            (if x1 = 62 then
              jm 156 [vr_ (some 0), vi_ x1, vi_ x2, vi_ x3] [vi_ 30] (mm_u s3 0 43 ((s3 0 43) + 1))
            else
              (if x1 = 63 then
                jm 156 [vr_ (some 0), vi_ x1, vi_ x2, vi_ x3] [vi_ 31] (mm_u s3 0 43 ((s3 0 43) + 1))
              else
                (if x1 = 64 then
                  jm 156 [vr_ (some 0), vi_ x1, vi_ x2, vi_ x3] [vi_ 32] (mm_u s3 0 43 ((s3 0 43) + 1))
                else
                  (if x1 = 66 then
                    jm 156 [vr_ (some 0), vi_ x1, vi_ x2, vi_ x3] [vi_ 34] (mm_u s3 0 43 ((s3 0 43) + 1))
                  else
                    jm 156 [vr_ (some 0), vi_ x1, vi_ x2, vi_ x3] [vi_ (-1)] (mm_u s3 0 43 ((s3 0 43) + 1))))))))
      else
        (mm_bV (ca 24 [vr_ (some 0), vi_ 25, vi_ 0, vi_ x2, vi_ x3] s3) fun s13 =>
        (mm_bV (ca 24 [vr_ (some 0), vi_ 28, vi_ 0, vi_ 0, vi_ 0] s13) fun s14 =>
        some (some (vi_ 1), s14))))))) := by rfl
set_option maxRecDepth 100000 in
theorem mb_command_156 (x1 x2 x3 y0 : Int32) (s : mm_S) : mm_B mt_lc mt_ln mt_ty mt_sg mt_st 4 mt_command ca jm 1000 (pj_at mt_command 156) [some (vr_ (some 0)), some (vi_ x1), some (vi_ x2), some (vi_ x3), none] [vi_ y0] s =
  (if y0 < 0 then
    (if x1 = 65 then
      (mm_bV (ca 24 [vr_ (some 0), vi_ 6, vi_ 33, vi_ x2, vi_ x3] s) fun s1 =>
      (mm_bV (ca 24 [vr_ (some 0), vi_ 28, vi_ 0, vi_ 0, vi_ 0] s1) fun s2 =>
      some (some (vi_ 1), s2)))
    else
      (if x1 = 67 then
        (mm_bI (ca 25 [vr_ (some 0)] s) fun v4 s3 =>
        (if v4 = 1 then
          ((mm_a 12100 11 (s3 0 43) s3).bind fun v5 =>
          (mm_bV (ca 21 [vr_ (some 0), vi_ 35, vi_ (s3 0 43), vi_ v5] s3) fun s6 =>
          some (some (vi_ 1), (mm_u s6 0 43 ((s6 0 43) + 1)))))
        else
          some (some (vi_ 0), s3)))
      else
        (if x1 = 47 then
          jm 292 [vr_ (some 0), vi_ x1, vi_ x2, vi_ x3] [vi_ 22] s
        else
          (if x1 = 49 then
            jm 292 [vr_ (some 0), vi_ x1, vi_ x2, vi_ x3] [vi_ 23] s
          else
            (if x1 = 52 then
              jm 292 [vr_ (some 0), vi_ x1, vi_ x2, vi_ x3] [vi_ 25] s
            else
              (if x1 = 53 then
                jm 292 [vr_ (some 0), vi_ x1, vi_ x2, vi_ x3] [vi_ 26] s
              else
                jm 292 [vr_ (some 0), vi_ x1, vi_ x2, vi_ x3] [vi_ (-1)] s))))))
  else
    (mm_bV (ca 21 [vr_ (some 0), vi_ y0, vi_ x2, vi_ 0] s) fun s7 =>
    some (some (vi_ 1), s7))) := by rfl
set_option maxRecDepth 100000 in
theorem mb_command_292 (x1 x2 x3 y0 : Int32) (s : mm_S) : mm_B mt_lc mt_ln mt_ty mt_sg mt_st 4 mt_command ca jm 1000 (pj_at mt_command 292) [some (vr_ (some 0)), some (vi_ x1), some (vi_ x2), some (vi_ x3), none] [vi_ y0] s =
  (if y0 < 0 then
    (if x1 = 50 then
      (mm_bV (ca 24 [vr_ (some 0), vi_ 6, vi_ 24, vi_ x2, vi_ x3] s) fun s1 =>
      (mm_bV (ca 24 [vr_ (some 0), vi_ 14, vi_ 0, vi_ 0, vi_ 0] s1) fun s2 =>
      (mm_bV (ca 24 [vr_ (some 0), vi_ 16, vi_ 51, vi_ 0, vi_ 0] s2) fun s3 =>
      (mm_bV (ca 24 [vr_ (some 0), vi_ 14, vi_ 0, vi_ 0, vi_ 0] s3) fun s4 =>
      (mm_bV (ca 24 [vr_ (some 0), vi_ 13, vi_ 0, vi_ 0, vi_ 0] s4) fun s5 =>
      (mm_bV (ca 24 [vr_ (some 0), vi_ 28, vi_ 0, vi_ 0, vi_ 0] s5) fun s6 =>
      some (some (vi_ 1), s6)))))))
    else
      (if x1 = 54 then
        (mm_bI (ca 25 [vr_ (some 0)] s) fun v8 s7 =>
        (if v8 = 1 then
          ((mm_a 12100 11 (s7 0 43) s7).bind fun v9 =>
          (mm_bV (ca 21 [vr_ (some 0), vi_ 58, vi_ (s7 0 43), vi_ v9] s7) fun s10 =>
          (mm_bV (ca 24 [vr_ (some 0), vi_ 6, vi_ 27, vi_ x2, vi_ x3] (mm_u s10 0 43 ((s10 0 43) + 1))) fun s11 =>
          (mm_bV (ca 24 [vr_ (some 0), vi_ 14, vi_ 0, vi_ 0, vi_ 0] s11) fun s12 =>
          (mm_bV (ca 24 [vr_ (some 0), vi_ 13, vi_ 0, vi_ 0, vi_ 0] s12) fun s13 =>
          (mm_bV (ca 24 [vr_ (some 0), vi_ 41, vi_ 0, vi_ 0, vi_ 0] s13) fun s14 =>
          (mm_bV (ca 24 [vr_ (some 0), vi_ 28, vi_ 0, vi_ 0, vi_ 0] s14) fun s15 =>
          (mm_bV (ca 24 [vr_ (some 0), vi_ 16, vi_ 55, vi_ 0, vi_ 0] s15) fun s16 =>
          (mm_bV (ca 24 [vr_ (some 0), vi_ 28, vi_ 0, vi_ 0, vi_ 0] s16) fun s17 =>
          (mm_bI (ca 27 [vr_ (some 0), vi_ 25] s17) fun v19 s18 =>
          some (some (vi_ (v19 &&& 1)), s18)))))))))))
        else
          some (some (vi_ 0), s7)))
      else
        (if x1 = 57 then
          (mm_bV (ca 24 [vr_ (some 0), vi_ 22, vi_ 0, vi_ x2, vi_ x3] s) fun s20 =>
          (mm_bV (ca 24 [vr_ (some 0), vi_ 17, vi_ 0, vi_ 0, vi_ 0] s20) fun s21 =>
          (mm_bV (ca 24 [vr_ (some 0), vi_ 16, vi_ 58, vi_ 0, vi_ 0] s21) fun s22 =>
          (mm_bV (ca 24 [vr_ (some 0), vi_ 28, vi_ 0, vi_ 0, vi_ 0] s22) fun s23 =>
          some (some (vi_ 1), s23)))))
        else
          some (some (vi_ 0), (mm_u s 0 43 ((s 0 43) - 1))))))
  else
    (mm_bV (ca 24 [vr_ (some 0), vi_ 6, vi_ y0, vi_ x2, vi_ x3] s) fun s24 =>
    (mm_bV (ca 24 [vr_ (some 0), vi_ 14, vi_ 0, vi_ 0, vi_ 0] s24) fun s25 =>
    (mm_bV (ca 24 [vr_ (some 0), vi_ 13, vi_ 0, vi_ 0, vi_ 0] s25) fun s26 =>
    (mm_bV (ca 24 [vr_ (some 0), vi_ 28, vi_ 0, vi_ 0, vi_ 0] s26) fun s27 =>
    some (some (vi_ 1), s27)))))) := by rfl
set_option maxRecDepth 100000 in
theorem mb_levelOf (x0 : Int32) (s : mm_S) : mm_B mt_lc mt_ln mt_ty mt_sg mt_st 1 mt_levelOf ca jm 1000 mt_levelOf [some (vi_ x0)] [] s =
  (if x0 = 71 then
    some (some (vi_ 1), s)
  else
    (if x0 = 72 then
      some (some (vi_ 1), s)
    else
      (if x0 = 35 then
        some (some (vi_ 2), s)
      else
        (if x0 = 34 then
          some (some (vi_ 3), s)
        else
          (if x0 = 31 then
            some (some (vi_ 4), s)
          else
            (if x0 = 32 then
              some (some (vi_ 4), s)
            else
              (if x0 < 25 then
                jm 58 [vi_ x0] [] s
              else
                (if 30 < x0 then
                  jm 58 [vi_ x0] [] s
                else
                  some (some (vi_ 5), s))))))))) := by rfl
set_option maxRecDepth 100000 in
theorem mb_levelOf_58 (x0 : Int32) (s : mm_S) : mm_B mt_lc mt_ln mt_ty mt_sg mt_st 1 mt_levelOf ca jm 1000 (pj_at mt_levelOf 58) [some (vi_ x0)] [] s =
  (if x0 = 21 then
    some (some (vi_ 6), s)
  else
    (if x0 = 22 then
      some (some (vi_ 6), s)
    else
      (if x0 = 23 then
        some (some (vi_ 7), s)
      else
        (if x0 = 24 then
          some (some (vi_ 7), s)
        else
          (if x0 = 73 then
            some (some (vi_ 7), s)
          else
            some (some (vi_ 0), s)))))) := by rfl
set_option maxRecDepth 100000 in
theorem mb_reachE (x1 x2 x3 x4 : Int32) (s : mm_S) : mm_B mt_lc mt_ln mt_ty mt_sg mt_st 4 mt_reachE ca jm 1000 mt_reachE [some (vr_ (some 0)), some (vi_ x1), some (vi_ x2), some (vi_ x3), some (vi_ x4), none, none, none] [] s =
  (mm_bI (ca 25 [vr_ (some 0)] s) fun v2 s1 =>
  (if x1 = 28 then
    (mm_bV (ca 24 [vr_ (some 0), vi_ 29, vi_ 0, vi_ 0, vi_ (s1 0 37)] s1) fun s3 =>
    (mm_bV (ca 24 [vr_ (some 0), vi_ 30, vi_ 1, vi_ 0, vi_ 0] s3) fun s4 =>
    some (some (vi_ 1), s4)))
  else
    (if x1 = 29 then
      (if x2 = 0 then
        (if v2 = 36 then
          (mm_bI (ca 28 [vr_ (some 0)] s1) fun v6 s5 =>
          (if v6 = 0 then
            some (some (vi_ 0), s5)
          else
            (mm_bV (ca 24 [vr_ (some 0), vi_ 15, vi_ (s1 0 44), vi_ 0, vi_ 0] (mm_u s5 0 43 ((s5 0 43) + 1))) fun s7 =>
            (mm_bV (ca 24 [vr_ (some 0), vi_ 29, vi_ 1, vi_ (s1 0 43), vi_ x4] s7) fun s8 =>
            (mm_bV (ca 24 [vr_ (some 0), vi_ 28, vi_ 0, vi_ 0, vi_ 0] s8) fun s9 =>
            some (some (vi_ 1), s9))))))
        else
          some (some (vi_ 1), s1))
      else
        (if x2 = 1 then
          (mm_bV (ca 24 [vr_ (some 0), vi_ 29, vi_ 2, vi_ x3, vi_ x4] s1) fun s10 =>
          (mm_bV (ca 24 [vr_ (some 0), vi_ 28, vi_ 0, vi_ 0, vi_ 0] s10) fun s11 =>
          (mm_bI (ca 27 [vr_ (some 0), vi_ 14] s11) fun v13 s12 =>
          some (some (vi_ (v13 &&& 1)), s12))))
        else
          (mm_bI (ca 22 [vr_ (some 0), vi_ 12, vi_ x3, vi_ x4, vi_ 0] s1) fun v15 s14 =>
          some (some (vi_ 1), s14))))
    else
      (if x1 = 30 then
        (mm_bV (ca 24 [vr_ (some 0), vi_ 31, vi_ x2, vi_ 0, vi_ (s1 0 37)] s1) fun s16 =>
        (if x2 < 7 then
          (mm_bV (ca 24 [vr_ (some 0), vi_ 30, vi_ (x2 + 1), vi_ 0, vi_ 0] s16) fun s17 =>
          some (some (vi_ 1), s17))
        else
          (mm_bV (ca 24 [vr_ (some 0), vi_ 33, vi_ 0, vi_ 0, vi_ 0] s16) fun s18 =>
          some (some (vi_ 1), s18))))
      else
        (if x1 = 31 then
          (mm_bI (ca 40 [vi_ v2] s1) fun v20 s19 =>
          (if v20 = x2 then
            (mm_bV (ca 24 [vr_ (some 0), vi_ 31, vi_ x2, vi_ 0, vi_ x4] (mm_u s19 0 43 ((s19 0 43) + 1))) fun s21 =>
            (mm_bV (ca 24 [vr_ (some 0), vi_ 32, vi_ x2, vi_ (s1 0 43), vi_ x4] s21) fun s22 =>
            (if x2 < 7 then
              (mm_bV (ca 24 [vr_ (some 0), vi_ 30, vi_ (x2 + 1), vi_ 0, vi_ 0] s22) fun s23 =>
              some (some (vi_ 1), s23))
            else
              (mm_bV (ca 24 [vr_ (some 0), vi_ 33, vi_ 0, vi_ 0, vi_ 0] s22) fun s24 =>
              some (some (vi_ 1), s24)))))
          else
            some (some (vi_ 1), s19)))
        else
          (if x1 = 32 then
            (mm_bV (ca 44 [vr_ (some 0), vi_ x2, vi_ x3, vi_ x4] s1) fun s25 =>
            some (some (vi_ 1), s25))
          else
            (if x1 = 33 then
              (if v2 = 21 then
                jm 343 [vr_ (some 0), vi_ (s1 0 43)] [] s1
              else
                (if v2 = 22 then
                  jm 343 [vr_ (some 0), vi_ (s1 0 43)] [] s1
                else
                  (if v2 = 33 then
                    jm 343 [vr_ (some 0), vi_ (s1 0 43)] [] s1
                  else
                    (mm_bV (ca 24 [vr_ (some 0), vi_ 34, vi_ 0, vi_ 0, vi_ 0] s1) fun s26 =>
                    some (some (vi_ 1), s26)))))
            else
              (if x1 = 34 then
                (mm_bV (ca 24 [vr_ (some 0), vi_ 15, vi_ (s1 0 44), vi_ 0, vi_ 0] s1) fun s27 =>
                (if v2 = 18 then
                  (if v2 = 18 then
                    jm 451 [vr_ (some 0), vi_ (s1 0 43)] [vi_ 7, vi_ 6, vr_ (some 0)] s27
                  else
                    jm 451 [vr_ (some 0), vi_ (s1 0 43)] [vi_ 8, vi_ 6, vr_ (some 0)] s27)
                else
                  (if v2 = 20 then
                    (if v2 = 18 then
                      jm 451 [vr_ (some 0), vi_ (s1 0 43)] [vi_ 7, vi_ 6, vr_ (some 0)] s27
                    else
                      jm 451 [vr_ (some 0), vi_ (s1 0 43)] [vi_ 8, vi_ 6, vr_ (some 0)] s27)
                  else
                    (mm_bV (ca 24 [vr_ (some 0), vi_ 35, vi_ 0, vi_ 0, vi_ (s27 0 37)] s27) fun s28 =>
                    (mm_bV (ca 24 [vr_ (some 0), vi_ 37, vi_ 0, vi_ 0, vi_ (s28 0 37)] s28) fun s29 =>
                    (mm_bV (ca 24 [vr_ (some 0), vi_ 39, vi_ 0, vi_ 0, vi_ 0] s29) fun s30 =>
                    some (some (vi_ 1), s30)))))))
              else
                (if x1 = 35 then
                  (if v2 = 18 then
                    jm 569 [vr_ (some 0), vi_ x4, vi_ (s1 0 43)] [] s1
                  else
                    (if v2 = 19 then
                      jm 569 [vr_ (some 0), vi_ x4, vi_ (s1 0 43)] [] s1
                    else
                      some (some (vi_ 1), s1)))
                else
                  (if x1 = 36 then
                    (if v2 = 18 then
                      jm 641 [vr_ (some 0), vi_ v2, vi_ (s1 0 43)] [] s1
                    else
                      (if v2 = 20 then
                        jm 641 [vr_ (some 0), vi_ v2, vi_ (s1 0 43)] [] s1
                      else
                        (mm_bV (ca 24 [vr_ (some 0), vi_ 37, vi_ 0, vi_ 0, vi_ (s1 0 37)] s1) fun s31 =>
                        (mm_bV (ca 24 [vr_ (some 0), vi_ 39, vi_ 0, vi_ 0, vi_ 0] s31) fun s32 =>
                        some (some (vi_ 1), s32)))))
                  else
                    (if x1 = 37 then
                      (mm_bI (ca 42 [vr_ (some 0), vi_ x2, vi_ x3, vi_ x4] s1) fun v34 s33 =>
                      some (some (vi_ (v34 &&& 1)), s33))
                    else
                      (if x1 = 38 then
                        (mm_bI (ca 27 [vr_ (some 0), vi_ 13] s1) fun v36 s35 =>
                        (if v36 = 0 then
                          (if v2 = 14 then
                            (if x2 = 20 then
                              some (some (vi_ 0), s35)
                            else
                              (mm_bV (ca 24 [vr_ (some 0), vi_ 38, vi_ (x2 + 1), vi_ x3, vi_ x4] (mm_u s35 0 43 ((s35 0 43) + 1))) fun s37 =>
                              (mm_bV (ca 24 [vr_ (some 0), vi_ 28, vi_ 0, vi_ 0, vi_ 0] s37) fun s38 =>
                              some (some (vi_ 1), s38))))
                          else
                            some (some (vi_ 0), s35))
                        else
                          (mm_bI (ca 22 [vr_ (some 0), vi_ 6, vi_ x3, vi_ x4, vi_ x2] s35) fun v40 s39 =>
                          (mm_bV (ca 24 [vr_ (some 0), vi_ 37, vi_ 0, vi_ 0, vi_ x4] s39) fun s41 =>
                          some (some (vi_ 1), s41)))))
                      else
                        (if x1 = 40 then
                          (mm_bI (ca 27 [vr_ (some 0), vi_ 14] s1) fun v43 s42 =>
                          (if v43 = 0 then
                            (mm_bI (ca 22 [vr_ (some 0), vi_ 5, vi_ x3, vi_ x4, vi_ 0] s42) fun v45 s44 =>
                            some (some (vi_ 1), s44))
                          else
                            (mm_bV (ca 24 [vr_ (some 0), vi_ 40, vi_ x2, vi_ x3, vi_ x4] s42) fun s46 =>
                            (mm_bV (ca 24 [vr_ (some 0), vi_ 28, vi_ 0, vi_ 0, vi_ 0] s46) fun s47 =>
                            some (some (vi_ 1), s47)))))
                        else
                          (if x2 = 1 then
                            ((mm_a 26000 36 ((s1 0 37) - 1) s1).bind fun v48 =>
                            ((mm_w 26000 35 v48 1 s1).bind fun s49 =>
                            ((mm_a 26000 34 v48 s49).bind fun v50 =>
                            (if x3 < v50 then
                              ((mm_w 26000 34 v48 x3 s49).bind fun s51 =>
                              (mm_bI (ca 27 [vr_ (some 0), vi_ 13] (mm_u s51 0 44 x4)) fun v53 s52 =>
                              some (some (vi_ (v53 &&& 1)), s52)))
                            else
                              (mm_bI (ca 27 [vr_ (some 0), vi_ 13] (mm_u s49 0 44 x4)) fun v55 s54 =>
                              some (some (vi_ (v55 &&& 1)), s54))))))
                          else
                            (mm_bI (ca 43 [vr_ (some 0), vi_ v2, vi_ (s1 0 43)] s1) fun v57 s56 =>
                            some (some (vi_ (v57 &&& 1)), s56)))))))))))))))) := by rfl
set_option maxRecDepth 100000 in
theorem mb_reachE_343 (x6 : Int32) (s : mm_S) : mm_B mt_lc mt_ln mt_ty mt_sg mt_st 4 mt_reachE ca jm 1000 (pj_at mt_reachE 343) [some (vr_ (some 0)), none, none, none, none, none, some (vi_ x6), none] [] s =
  (mm_bI (ca 28 [vr_ (some 0)] s) fun v2 s1 =>
  (if v2 = 0 then
    some (some (vi_ 0), s1)
  else
    (mm_bV (ca 24 [vr_ (some 0), vi_ 15, vi_ (s 0 44), vi_ 0, vi_ 0] (mm_u s1 0 43 ((s1 0 43) + 1))) fun s3 =>
    (mm_bV (ca 24 [vr_ (some 0), vi_ 37, vi_ 1, vi_ x6, vi_ (s3 0 37)] s3) fun s4 =>
    (mm_bV (ca 24 [vr_ (some 0), vi_ 33, vi_ 0, vi_ 0, vi_ 0] s4) fun s5 =>
    some (some (vi_ 1), s5)))))) := by rfl
set_option maxRecDepth 100000 in
theorem mb_reachE_451 (x6 y1 y2 : Int32) (s : mm_S) : mm_B mt_lc mt_ln mt_ty mt_sg mt_st 4 mt_reachE ca jm 1000 (pj_at mt_reachE 451) [some (vr_ (some 0)), none, none, none, none, none, some (vi_ x6), none] [vi_ y2, vi_ y1, vr_ (some 0)] s =
  (mm_bV (ca 24 [vr_ (some 0), vi_ y1, vi_ y2, vi_ x6, vi_ (s 0 37)] s) fun s1 =>
  (mm_bV (ca 24 [vr_ (some 0), vi_ 34, vi_ 0, vi_ 0, vi_ 0] s1) fun s2 =>
  (if (s2 0 44) < 60 then
    some (some (vi_ 1), (mm_u (mm_u s2 0 43 ((s2 0 43) + 1)) 0 44 ((s2 0 44) + 1)))
  else
    some (some (vi_ 0), (mm_u (mm_u s2 0 43 ((s2 0 43) + 1)) 0 43 (((s2 0 43) + 1) - 1)))))) := by rfl
set_option maxRecDepth 100000 in
theorem mb_reachE_569 (x4 x6 : Int32) (s : mm_S) : mm_B mt_lc mt_ln mt_ty mt_sg mt_st 4 mt_reachE ca jm 1000 (pj_at mt_reachE 569) [some (vr_ (some 0)), none, none, none, some (vi_ x4), none, some (vi_ x6), none] [] s =
  (mm_bI (ca 28 [vr_ (some 0)] s) fun v2 s1 =>
  (if v2 = 0 then
    some (some (vi_ 0), s1)
  else
    (mm_bV (ca 24 [vr_ (some 0), vi_ 35, vi_ 0, vi_ 0, vi_ x4] (mm_u s1 0 43 ((s1 0 43) + 1))) fun s3 =>
    (mm_bV (ca 24 [vr_ (some 0), vi_ 32, vi_ 8, vi_ x6, vi_ x4] s3) fun s4 =>
    (mm_bV (ca 24 [vr_ (some 0), vi_ 36, vi_ 0, vi_ 0, vi_ 0] s4) fun s5 =>
    some (some (vi_ 1), s5)))))) := by rfl
set_option maxRecDepth 100000 in
theorem mb_reachE_641 (x5 x6 : Int32) (s : mm_S) : mm_B mt_lc mt_ln mt_ty mt_sg mt_st 4 mt_reachE ca jm 1000 (pj_at mt_reachE 641) [some (vr_ (some 0)), none, none, none, none, some (vi_ x5), some (vi_ x6), none] [] s =
  (mm_bI (ca 28 [vr_ (some 0)] s) fun v2 s1 =>
  (if v2 = 0 then
    some (some (vi_ 0), s1)
  else
    (if x5 = 18 then
      (mm_bV (ca 24 [vr_ (some 0), vi_ 6, vi_ 7, vi_ x6, vi_ (s1 0 37)] (mm_u s1 0 43 ((s1 0 43) + 1))) fun s3 =>
      (mm_bV (ca 24 [vr_ (some 0), vi_ 36, vi_ 0, vi_ 0, vi_ 0] s3) fun s4 =>
      some (some (vi_ 1), s4)))
    else
      (mm_bV (ca 24 [vr_ (some 0), vi_ 6, vi_ 8, vi_ x6, vi_ (s1 0 37)] (mm_u s1 0 43 ((s1 0 43) + 1))) fun s5 =>
      (mm_bV (ca 24 [vr_ (some 0), vi_ 36, vi_ 0, vi_ 0, vi_ 0] s5) fun s6 =>
      some (some (vi_ 1), s6)))))) := by rfl
set_option maxRecDepth 100000 in
theorem mb_calls (x1 x2 x3 : Int32) (s : mm_S) : mm_B mt_lc mt_ln mt_ty mt_sg mt_st 4 mt_calls ca jm 1000 mt_calls [some (vr_ (some 0)), some (vi_ x1), some (vi_ x2), some (vi_ x3), none, none] [] s =
  (if x1 = 1 then
    ((mm_a 12100 9 x2 s).bind fun v1 =>
    (mm_bI (ca 22 [vr_ (some 0), vi_ 10, vi_ x2, vi_ x3, vi_ v1] s) fun v3 s2 =>
    ((mm_w 26000 29 v3 v1 s2).bind fun s4 =>
    some (some (vi_ 1), s4))))
  else
    (mm_bI (ca 25 [vr_ (some 0)] s) fun v6 s5 =>
    (if v6 = 12 then
      (mm_bI (ca 28 [vr_ (some 0)] s5) fun v8 s7 =>
      (if v8 = 0 then
        some (some (vi_ 0), s7)
      else
        (mm_bI (ca 27 [vr_ (some 0), vi_ 13] (mm_u s7 0 43 ((s7 0 43) + 1))) fun v10 s9 =>
        (if v10 = 0 then
          (mm_bV (ca 24 [vr_ (some 0), vi_ 38, vi_ 1, vi_ (s5 0 43), vi_ x3] s9) fun s11 =>
          (mm_bV (ca 24 [vr_ (some 0), vi_ 28, vi_ 0, vi_ 0, vi_ 0] s11) fun s12 =>
          some (some (vi_ 1), s12)))
        else
          (mm_bI (ca 22 [vr_ (some 0), vi_ 6, vi_ (s5 0 43), vi_ x3, vi_ 0] s9) fun v14 s13 =>
          (mm_bV (ca 24 [vr_ (some 0), vi_ 37, vi_ 0, vi_ 0, vi_ x3] s13) fun s15 =>
          some (some (vi_ 1), s15)))))))
    else
      some (some (vi_ 1), s5)))) := by rfl
set_option maxRecDepth 100000 in
theorem mb_primary (x1 x2 : Int32) (s : mm_S) : mm_B mt_lc mt_ln mt_ty mt_sg mt_st 4 mt_primary ca jm 1000 mt_primary [some (vr_ (some 0)), some (vi_ x1), some (vi_ x2), none] [] s =
  (if x1 = 1 then
    ((mm_a 12100 11 x2 s).bind fun v1 =>
    (mm_bV (ca 21 [vr_ (some 0), vi_ 1, vi_ x2, vi_ v1] s) fun s2 =>
    some (some (vi_ 1), (mm_u s2 0 43 ((s2 0 43) + 1)))))
  else
    (if x1 = 2 then
      ((mm_a 12100 11 x2 s).bind fun v3 =>
      (mm_bV (ca 21 [vr_ (some 0), vi_ 2, vi_ x2, vi_ v3] s) fun s4 =>
      some (some (vi_ 1), (mm_u s4 0 43 ((s4 0 43) + 1)))))
    else
      (if x1 = 4 then
        ((mm_a 12100 11 x2 s).bind fun v5 =>
        (mm_bV (ca 21 [vr_ (some 0), vi_ 3, vi_ x2, vi_ v5] s) fun s6 =>
        some (some (vi_ 1), (mm_u s6 0 43 ((s6 0 43) + 1)))))
      else
        (if x1 = 74 then
          (mm_bV (ca 21 [vr_ (some 0), vi_ 2, vi_ x2, vi_ (-1)] s) fun s7 =>
          some (some (vi_ 1), (mm_u s7 0 43 ((s7 0 43) + 1))))
        else
          (if x1 = 75 then
            (mm_bV (ca 21 [vr_ (some 0), vi_ 2, vi_ x2, vi_ 0] s) fun s8 =>
            some (some (vi_ 1), (mm_u s8 0 43 ((s8 0 43) + 1))))
          else
            (if x1 = 12 then
              (mm_bI (ca 28 [vr_ (some 0)] s) fun v10 s9 =>
              (if v10 = 0 then
                some (some (vi_ 0), s9)
              else
                (mm_bV (ca 24 [vr_ (some 0), vi_ 39, vi_ 1, vi_ x2, vi_ (s 0 44)] s9) fun s11 =>
                (mm_bV (ca 24 [vr_ (some 0), vi_ 28, vi_ 0, vi_ 0, vi_ 0] s11) fun s12 =>
                some (some (vi_ 1), (mm_u s12 0 43 ((s12 0 43) + 1)))))))
            else
              (if x1 = 76 then
                (mm_bI (ca 28 [vr_ (some 0)] s) fun v14 s13 =>
                (if v14 = 0 then
                  some (some (vi_ 0), s13)
                else
                  (mm_bV (ca 24 [vr_ (some 0), vi_ 15, vi_ (s 0 44), vi_ 0, vi_ 0] s13) fun s15 =>
                  (mm_bV (ca 24 [vr_ (some 0), vi_ 6, vi_ 4, vi_ x2, vi_ (s15 0 37)] s15) fun s16 =>
                  (mm_bV (ca 24 [vr_ (some 0), vi_ 11, vi_ 0, vi_ 0, vi_ 0] s16) fun s17 =>
                  some (some (vi_ 1), (mm_u s17 0 43 ((s17 0 43) + 1))))))))
              else
                (if x1 = 77 then
                  (mm_bI (ca 28 [vr_ (some 0)] s) fun v19 s18 =>
                  (if v19 = 0 then
                    some (some (vi_ 0), s18)
                  else
                    (mm_bV (ca 24 [vr_ (some 0), vi_ 15, vi_ (s 0 44), vi_ 0, vi_ 0] s18) fun s20 =>
                    (mm_bV (ca 24 [vr_ (some 0), vi_ 40, vi_ 0, vi_ x2, vi_ (s20 0 37)] s20) fun s21 =>
                    (mm_bV (ca 24 [vr_ (some 0), vi_ 28, vi_ 0, vi_ 0, vi_ 0] s21) fun s22 =>
                    some (some (vi_ 1), (mm_u s22 0 43 ((s22 0 43) + 1))))))))
                else
                  some (some (vi_ 0), s))))))))) := by rfl
set_option maxRecDepth 100000 in
theorem mb_binary (x1 x2 x3 : Int32) (s : mm_S) : mm_B mt_lc mt_ln mt_ty mt_sg mt_st 0 mt_binary ca jm 1000 mt_binary [some (vr_ (some 0)), some (vi_ x1), some (vi_ x2), some (vi_ x3), none, none, none] [] s =
  ((mm_a 26000 36 x3 s).bind fun v1 =>
  (if x1 = 5 then
    ((mm_a 26000 36 ((s 0 37) - 1) s).bind fun v2 =>
    ((mm_a 12100 9 x2 s).bind fun v3 =>
    ((mm_w 26000 33 v2 v3 s).bind fun s4 =>
    ((mm_a 26000 25 v1 s4).bind fun v5 =>
    (if v5 = 11 then
      ((mm_a 26000 35 v1 s4).bind fun v6 =>
      (if v6 = 0 then
        ((mm_a 26000 27 v1 s4).bind fun v7 =>
        jm 70 [vr_ (some 0), vi_ x3, vi_ v2, vi_ v7] [] s4)
      else
        (mm_bI (ca 22 [vr_ (some 0), vi_ 11, vi_ x2, vi_ x3, vi_ 0] s4) fun v9 s8 =>
        some (none, s8))))
    else
      (mm_bI (ca 22 [vr_ (some 0), vi_ 11, vi_ x2, vi_ x3, vi_ 0] s4) fun v11 s10 =>
      some (none, s10)))))))
  else
    (mm_bI (ca 22 [vr_ (some 0), vi_ 9, vi_ x2, vi_ x3, vi_ 0] s) fun v13 s12 =>
    ((mm_a 12100 9 x2 s12).bind fun v14 =>
    ((mm_w 26000 29 v13 v14 s12).bind fun s15 =>
    some (none, s15)))))) := by rfl
set_option maxRecDepth 100000 in
theorem mb_binary_70 (x3 x5 x6 : Int32) (s : mm_S) : mm_B mt_lc mt_ln mt_ty mt_sg mt_st 0 mt_binary ca jm 1000 (pj_at mt_binary 70) [some (vr_ (some 0)), none, none, some (vi_ x3), none, some (vi_ x5), some (vi_ x6)] [] s =
  ((mm_a 26000 28 x6 s).bind fun v1 =>
  (if v1 < 0 then
    ((mm_w 26000 28 x6 x5 s).bind fun s2 =>
    some (none, (mm_u s2 0 37 (x3 + 1))))
  else
    ((mm_a 26000 28 x6 s).bind fun v3 =>
    jm 70 [vr_ (some 0), vi_ x3, vi_ x5, vi_ v3] [] s))) := by rfl
set_option maxRecDepth 100000 in
theorem mb_fault (x1 x2 : Int32) (s : mm_S) : mm_B mt_lc mt_ln mt_ty mt_sg mt_st 0 mt_fault ca jm 1000 mt_fault [some (vr_ (some 0)), some (vi_ x1), some (vi_ x2)] [] s =
  (if (s 0 12) = 0 then
    some (none, (mm_u (mm_u s 0 12 x1) 0 13 x2))
  else
    (if (s 0 13) < x2 then
      some (none, s)
    else
      (if x2 = (s 0 13) then
        (if x1 < (s 0 12) then
          some (none, (mm_u (mm_u s 0 12 x1) 0 13 x2))
        else
          some (none, s))
      else
        some (none, (mm_u (mm_u s 0 12 x1) 0 13 x2))))) := by rfl
set_option maxRecDepth 100000 in
theorem mb_place (x1 : Int32) (s : mm_S) : mm_B mt_lc mt_ln mt_ty mt_sg mt_st 1 mt_place ca jm 1000 mt_place [some (vr_ (some 0)), some (vi_ x1)] [] s =
  ((mm_a 12100 10 x1 s).bind fun v1 =>
  some (some (vi_ v1), s)) := by rfl
set_option maxRecDepth 100000 in
theorem mb_means (x1 : Int32) (s : mm_S) : mm_B mt_lc mt_ln mt_ty mt_sg mt_st 1 mt_means ca jm 1000 mt_means [some (vr_ (some 0)), some (vi_ x1), none] [] s =
  jm 7 [vr_ (some 0), vi_ x1, vi_ ((s 0 49) - 1)] [] s := by rfl
set_option maxRecDepth 100000 in
theorem mb_means_7 (x1 x2 : Int32) (s : mm_S) : mm_B mt_lc mt_ln mt_ty mt_sg mt_st 1 mt_means ca jm 1000 (pj_at mt_means 7) [some (vr_ (some 0)), some (vi_ x1), some (vi_ x2)] [] s =
  (if x2 < 0 then
    some (some (vi_ (-1)), s)
  else
    ((mm_a 9000 50 x2 s).bind fun v1 =>
    (if v1 = x1 then
      some (some (vi_ x2), s)
    else
      jm 7 [vr_ (some 0), vi_ x1, vi_ (x2 + (-1))] [] s))) := by rfl
set_option maxRecDepth 100000 in
theorem mb_entry (x1 x2 x3 x4 x5 : Int32) (s : mm_S) : mm_B mt_lc mt_ln mt_ty mt_sg mt_st 1 mt_entry ca jm 1000 mt_entry [some (vr_ (some 0)), some (vi_ x1), some (vi_ x2), some (vi_ x3), some (vi_ x4), some (vi_ x5)] [] s =
  ((mm_w 9000 50 (s 0 49) x1 s).bind fun s1 =>
  ((mm_w 9000 51 (s1 0 49) x2 s1).bind fun s2 =>
  ((mm_w 9000 52 (s2 0 49) x3 s2).bind fun s3 =>
  ((mm_w 9000 53 (s3 0 49) x4 s3).bind fun s4 =>
  ((mm_w 9000 54 (s4 0 49) x5 s4).bind fun s5 =>
  some (some (vi_ (((s5 0 49) + 1) - 1)), (mm_u s5 0 49 ((s5 0 49) + 1)))))))) := by rfl
set_option maxRecDepth 100000 in
theorem mb_declare (x1 x2 x3 x4 x5 x6 : Int32) (s : mm_S) : mm_B mt_lc mt_ln mt_ty mt_sg mt_st 1 mt_declare ca jm 1000 mt_declare [some (vr_ (some 0)), some (vi_ x1), some (vi_ x2), some (vi_ x3), some (vi_ x4), some (vi_ x5), some (vi_ x6), none] [] s =
  jm 8 [vr_ (some 0), vi_ x1, vi_ x2, vi_ x3, vi_ x4, vi_ x5, vi_ x6, vi_ ((s 0 49) - 1)] [] s := by rfl
set_option maxRecDepth 100000 in
theorem mb_declare_8 (x1 x2 x3 x4 x5 x6 x7 : Int32) (s : mm_S) : mm_B mt_lc mt_ln mt_ty mt_sg mt_st 1 mt_declare ca jm 1000 (pj_at mt_declare 8) [some (vr_ (some 0)), some (vi_ x1), some (vi_ x2), some (vi_ x3), some (vi_ x4), some (vi_ x5), some (vi_ x6), some (vi_ x7)] [] s =
  (if x7 < (s 0 55) then
    (mm_bI (ca 48 [vr_ (some 0), vi_ x1, vi_ x3, vi_ x4, vi_ x5, vi_ x6] s) fun v2 s1 =>
    ((mm_w 9000 57 v2 x2 s1).bind fun s3 =>
    some (some (vi_ v2), s3)))
  else
    ((mm_a 9000 50 x7 s).bind fun v4 =>
    (if v4 = x1 then
      (mm_bI (ca 50 [vr_ (some 0), vi_ x7, vi_ x2] s) fun v6 s5 =>
      (mm_bV (ca 45 [vr_ (some 0), vi_ 4, vi_ v6] s5) fun s7 =>
      jm 8 [vr_ (some 0), vi_ x1, vi_ x2, vi_ x3, vi_ x4, vi_ x5, vi_ x6, vi_ (x7 + (-1))] [] s7))
    else
      jm 8 [vr_ (some 0), vi_ x1, vi_ x2, vi_ x3, vi_ x4, vi_ x5, vi_ x6, vi_ (x7 + (-1))] [] s))) := by rfl
set_option maxRecDepth 100000 in
theorem mb_tokenOfTwice (x1 x2 : Int32) (s : mm_S) : mm_B mt_lc mt_ln mt_ty mt_sg mt_st 1 mt_tokenOfTwice ca jm 1000 mt_tokenOfTwice [some (vr_ (some 0)), some (vi_ x1), some (vi_ x2)] [] s =
  ((mm_a 9000 57 x1 s).bind fun v1 =>
  (if x2 < v1 then
    ((mm_a 9000 57 x1 s).bind fun v2 =>
    (mm_bI (ca 46 [vr_ (some 0), vi_ v2] s) fun v4 s3 =>
    some (some (vi_ v4), s3)))
  else
    (mm_bI (ca 46 [vr_ (some 0), vi_ x2] s) fun v6 s5 =>
    some (some (vi_ v6), s5)))) := by rfl
set_option maxRecDepth 100000 in
theorem mb_isK (x1 : Int32) (s : mm_S) : mm_B mt_lc mt_ln mt_ty mt_sg mt_st 4 mt_isK ca jm 1000 mt_isK [some (vr_ (some 0)), some (vi_ x1), none, none, none, none, none, none] [] s =
  ((mm_w 26000 60 0 x1 s).bind fun s1 =>
  jm 11 [vr_ (some 0), vi_ 1, vi_ 1] [] s1) := by rfl
set_option maxRecDepth 100000 in
theorem mb_isK_11 (x2 x3 : Int32) (s : mm_S) : mm_B mt_lc mt_ln mt_ty mt_sg mt_st 4 mt_isK ca jm 1000 (pj_at mt_isK 11) [some (vr_ (some 0)), none, some (vi_ x2), some (vi_ x3), none, none, none, none] [] s =
  (if 0 < x3 then
    ((mm_a 26000 60 (x3 + (-1)) s).bind fun v1 =>
    ((mm_a 26000 25 v1 s).bind fun v2 =>
    (if v2 = 6 then
      jm 110 [vr_ (some 0), vi_ x2, vi_ (x3 + (-1)), vi_ v1, vi_ v2] [vi_ 1] s
    else
      (if v2 = 7 then
        jm 110 [vr_ (some 0), vi_ x2, vi_ (x3 + (-1)), vi_ v1, vi_ v2] [vi_ 1] s
      else
        (if v2 = 8 then
          jm 110 [vr_ (some 0), vi_ x2, vi_ (x3 + (-1)), vi_ v1, vi_ v2] [vi_ 1] s
        else
          (if v2 = 4 then
            jm 110 [vr_ (some 0), vi_ x2, vi_ (x3 + (-1)), vi_ v1, vi_ v2] [vi_ 1] s
          else
            (if v2 = 5 then
              jm 110 [vr_ (some 0), vi_ x2, vi_ (x3 + (-1)), vi_ v1, vi_ v2] [vi_ 1] s
            else
              (if v2 = 3 then
                jm 110 [vr_ (some 0), vi_ x2, vi_ (x3 + (-1)), vi_ v1, vi_ v2] [vi_ 1] s
              else
                (if v2 = 9 then
                  ((mm_a 26000 29 v1 s).bind fun v3 =>
                  (if v3 = 18 then
                    jm 110 [vr_ (some 0), vi_ x2, vi_ (x3 + (-1)), vi_ v1, vi_ v2] [vi_ 1] s
                  else
                    ((mm_a 26000 29 v1 s).bind fun v4 =>
                    (if v4 = 19 then
                      jm 110 [vr_ (some 0), vi_ x2, vi_ (x3 + (-1)), vi_ v1, vi_ v2] [vi_ 1] s
                    else
                      jm 110 [vr_ (some 0), vi_ x2, vi_ (x3 + (-1)), vi_ v1, vi_ v2] [vi_ 0] s))))
                else
                  jm 110 [vr_ (some 0), vi_ x2, vi_ (x3 + (-1)), vi_ v1, vi_ v2] [vi_ 0] s)))))))))
  else
    some (some (vi_ (x2 &&& 1)), s)) := by rfl
set_option maxRecDepth 100000 in
theorem mb_isK_110 (x2 x3 x4 x5 y0 : Int32) (s : mm_S) : mm_B mt_lc mt_ln mt_ty mt_sg mt_st 4 mt_isK ca jm 1000 (pj_at mt_isK 110) [some (vr_ (some 0)), none, some (vi_ x2), some (vi_ x3), some (vi_ x4), some (vi_ x5), none, none] [vi_ y0] s =
  (if y0 = 0 then
    jm 136 [vr_ (some 0), vi_ x2, vi_ x3, vi_ x4, vi_ x5] [] s
  else
    ((mm_a 26000 26 x4 s).bind fun v1 =>
    (mm_bI (ca 46 [vr_ (some 0), vi_ v1] s) fun v3 s2 =>
    (mm_bV (ca 45 [vr_ (some 0), vi_ 6, vi_ v3] s2) fun s4 =>
    jm 136 [vr_ (some 0), vi_ 0, vi_ x3, vi_ x4, vi_ x5] [] s4)))) := by rfl
set_option maxRecDepth 100000 in
theorem mb_isK_136 (x2 x3 x4 x5 : Int32) (s : mm_S) : mm_B mt_lc mt_ln mt_ty mt_sg mt_st 4 mt_isK ca jm 1000 (pj_at mt_isK 136) [some (vr_ (some 0)), none, some (vi_ x2), some (vi_ x3), some (vi_ x4), some (vi_ x5), none, none] [] s =
  (if x5 = 1 then
    (mm_bI (ca 52 [vr_ (some 0), vi_ x4] s) fun v2 s1 =>
    (if v2 = 0 then
      (if x5 = 4 then
        jm 11 [vr_ (some 0), vi_ 0, vi_ x3] [] s1
      else
        ((mm_a 26000 27 x4 s1).bind fun v3 =>
        jm 179 [vr_ (some 0), vi_ 0, vi_ x3, vi_ v3] [] s1))
    else
      (if x2 = 0 then
        (if x5 = 4 then
          jm 11 [vr_ (some 0), vi_ 0, vi_ x3] [] s1
        else
          ((mm_a 26000 27 x4 s1).bind fun v4 =>
          jm 179 [vr_ (some 0), vi_ 0, vi_ x3, vi_ v4] [] s1))
      else
        (if x5 = 4 then
          jm 11 [vr_ (some 0), vi_ 1, vi_ x3] [] s1
        else
          ((mm_a 26000 27 x4 s1).bind fun v5 =>
          jm 179 [vr_ (some 0), vi_ 1, vi_ x3, vi_ v5] [] s1)))))
  else
    (if x5 = 4 then
      jm 11 [vr_ (some 0), vi_ x2, vi_ x3] [] s
    else
      ((mm_a 26000 27 x4 s).bind fun v6 =>
      jm 179 [vr_ (some 0), vi_ x2, vi_ x3, vi_ v6] [] s))) := by rfl
set_option maxRecDepth 100000 in
theorem mb_isK_179 (x2 x3 x7 : Int32) (s : mm_S) : mm_B mt_lc mt_ln mt_ty mt_sg mt_st 4 mt_isK ca jm 1000 (pj_at mt_isK 179) [some (vr_ (some 0)), none, some (vi_ x2), some (vi_ x3), none, none, none, some (vi_ x7)] [] s =
  (if x7 < 0 then
    jm 11 [vr_ (some 0), vi_ x2, vi_ x3] [] s
  else
    ((mm_w 26000 60 x3 x7 s).bind fun s1 =>
    ((mm_a 26000 28 x7 s1).bind fun v2 =>
    jm 179 [vr_ (some 0), vi_ x2, vi_ (x3 + 1), vi_ v2] [] s1))) := by rfl
set_option maxRecDepth 100000 in
theorem mb_isKName (x1 : Int32) (s : mm_S) : mm_B mt_lc mt_ln mt_ty mt_sg mt_st 4 mt_isKName ca jm 1000 mt_isKName [some (vr_ (some 0)), some (vi_ x1), none] [] s =
  ((mm_a 26000 29 x1 s).bind fun v1 =>
  (mm_bI (ca 47 [vr_ (some 0), vi_ v1] s) fun v3 s2 =>
  (if v3 < 0 then
    ((mm_a 26000 26 x1 s2).bind fun v4 =>
    (mm_bI (ca 46 [vr_ (some 0), vi_ v4] s2) fun v6 s5 =>
    (mm_bV (ca 45 [vr_ (some 0), vi_ 3, vi_ v6] s5) fun s7 =>
    jm 68 [vr_ (some 0), vi_ v3] [] s7)))
  else
    ((mm_a 9000 51 v3 s2).bind fun v8 =>
    (if v8 = 2 then
      ((mm_a 9000 53 v3 s2).bind fun v9 =>
      (if v9 = 0 then
        ((mm_a 26000 26 x1 s2).bind fun v10 =>
        (mm_bI (ca 46 [vr_ (some 0), vi_ v10] s2) fun v12 s11 =>
        (mm_bV (ca 45 [vr_ (some 0), vi_ 6, vi_ v12] s11) fun s13 =>
        jm 68 [vr_ (some 0), vi_ v3] [] s13)))
      else
        jm 68 [vr_ (some 0), vi_ v3] [] s2))
    else
      ((mm_a 26000 26 x1 s2).bind fun v14 =>
      (mm_bI (ca 46 [vr_ (some 0), vi_ v14] s2) fun v16 s15 =>
      (mm_bV (ca 45 [vr_ (some 0), vi_ 6, vi_ v16] s15) fun s17 =>
      jm 68 [vr_ (some 0), vi_ v3] [] s17)))))))) := by rfl
set_option maxRecDepth 100000 in
theorem mb_isKName_68 (x2 : Int32) (s : mm_S) : mm_B mt_lc mt_ln mt_ty mt_sg mt_st 4 mt_isKName ca jm 1000 (pj_at mt_isKName 68) [some (vr_ (some 0)), none, some (vi_ x2)] [] s =
  (if x2 < 0 then
    some (some (vi_ 0), s)
  else
    ((mm_a 9000 51 x2 s).bind fun v1 =>
    (if v1 = 2 then
      ((mm_a 9000 53 x2 s).bind fun v2 =>
      (if v2 = 2 then
        some (some (vi_ 1), s)
      else
        some (some (vi_ 0), s)))
    else
      some (some (vi_ 0), s)))) := by rfl
set_option maxRecDepth 100000 in
theorem mb_shifted (x0 x1 x2 : Int32) (s : mm_S) : mm_B mt_lc mt_ln mt_ty mt_sg mt_st 1 mt_shifted ca jm 1000 mt_shifted [some (vi_ x0), some (vi_ x1), some (vi_ x2)] [] s =
  (if x1 < 0 then
    some (some (vi_ 0), s)
  else
    (if 31 < x1 then
      some (some (vi_ 0), s)
    else
      (if x2 = 0 then
        some (some (vi_ ((x0 : Int32).toUInt32 >>> ((x1 : Int32).toUInt32 &&& Int32.toUInt32 31)).toInt32), s)
      else
        some (some (vi_ (x0 <<< (x1 &&& 31))), s)))) := by rfl
set_option maxRecDepth 100000 in
theorem mb_quotient (x0 x1 : Int32) (s : mm_S) : mm_B mt_lc mt_ln mt_ty mt_sg mt_st 1 mt_quotient ca jm 1000 mt_quotient [some (vi_ x0), some (vi_ x1)] [] s =
  (if x1 = (-1) then
    some (some (vi_ (-x0)), s)
  else
    ((pj_div x0 x1).bind fun v1 =>
    some (some (vi_ v1), s))) := by rfl
set_option maxRecDepth 100000 in
theorem mb_remainder (x0 x1 : Int32) (s : mm_S) : mm_B mt_lc mt_ln mt_ty mt_sg mt_st 1 mt_remainder ca jm 1000 mt_remainder [some (vi_ x0), some (vi_ x1)] [] s =
  (if x1 = (-1) then
    some (some (vi_ 0), s)
  else
    ((pj_rem x0 x1).bind fun v1 =>
    some (some (vi_ v1), s))) := by rfl
set_option maxRecDepth 100000 in
theorem mb_worked (x0 x1 x2 : Int32) (s : mm_S) : mm_B mt_lc mt_ln mt_ty mt_sg mt_st 1 mt_worked ca jm 1000 mt_worked [some (vi_ x0), some (vi_ x1), some (vi_ x2)] [] s =
  (if x0 = 21 then
    some (some (vi_ (x1 + x2)), s)
  else
    (if x0 = 22 then
      some (some (vi_ (x1 - x2)), s)
    else
      (if x0 = 23 then
        some (some (vi_ (x1 * x2)), s)
      else
        (if x0 = 24 then
          (mm_bI (ca 54 [vi_ x1, vi_ x2] s) fun v2 s1 =>
          some (some (vi_ v2), s1))
        else
          (if x0 = 73 then
            (mm_bI (ca 55 [vi_ x1, vi_ x2] s) fun v4 s3 =>
            some (some (vi_ v4), s3))
          else
            (if x0 = 34 then
              some (some (vi_ (x1 &&& x2)), s)
            else
              (if x0 = 35 then
                some (some (vi_ (x1 ||| x2)), s)
              else
                (if x0 = 71 then
                  some (some (vi_ ((x1 ^^^ x2) ^^^ (-1))), s)
                else
                  (if x0 = 72 then
                    some (some (vi_ (x1 ^^^ x2)), s)
                  else
                    (if x0 = 31 then
                      (mm_bI (ca 53 [vi_ x1, vi_ x2, vi_ 1] s) fun v6 s5 =>
                      some (some (vi_ v6), s5))
                    else
                      (mm_bI (ca 53 [vi_ x1, vi_ x2, vi_ 0] s) fun v8 s7 =>
                      some (some (vi_ v8), s7)))))))))))) := by rfl
set_option maxRecDepth 100000 in
theorem mb_related (x0 x1 x2 : Int32) (s : mm_S) : mm_B mt_lc mt_ln mt_ty mt_sg mt_st 4 mt_related ca jm 1000 mt_related [some (vi_ x0), some (vi_ x1), some (vi_ x2)] [] s =
  (if x0 = 25 then
    (if x1 = x2 then
      some (some (vi_ 1), s)
    else
      some (some (vi_ 0), s))
  else
    (if x0 = 26 then
      (if x1 = x2 then
        some (some (vi_ 0), s)
      else
        some (some (vi_ 1), s))
    else
      (if x0 = 27 then
        (if x1 < x2 then
          some (some (vi_ 1), s)
        else
          some (some (vi_ 0), s))
      else
        (if x0 = 28 then
          (if x2 < x1 then
            some (some (vi_ 0), s)
          else
            some (some (vi_ 1), s))
        else
          (if x0 = 29 then
            (if x2 < x1 then
              some (some (vi_ 1), s)
            else
              some (some (vi_ 0), s))
          else
            (if x1 < x2 then
              some (some (vi_ 0), s)
            else
              some (some (vi_ 1), s))))))) := by rfl
set_option maxRecDepth 100000 in
theorem mb_signed (x0 x1 : Int32) (s : mm_S) : mm_B mt_lc mt_ln mt_ty mt_sg mt_st 1 mt_signed ca jm 1000 mt_signed [some (vi_ x0), some (vi_ x1)] [] s =
  (if x0 = 22 then
    some (some (vi_ (-x1)), s)
  else
    (if x0 = 33 then
      some (some (vi_ (x1 ^^^ (-1))), s)
    else
      some (some (vi_ x1), s))) := by rfl
set_option maxRecDepth 100000 in
theorem mb_constant (x1 : Int32) (s : mm_S) : mm_B mt_lc mt_ln mt_ty mt_sg mt_st 0 mt_constant ca jm 1000 mt_constant [some (vr_ (some 0)), some (vi_ x1), none, none, none, none, none, none, none, none] [] s =
  (mm_bI (ca 51 [vr_ (some 0), vi_ x1] s) fun v2 s1 =>
  (mm_bz v2
  (if v2 = 0 then
    some (none, (mm_u (mm_u s1 0 58 v2) 0 59 0))
  else
    ((mm_w 26000 60 0 x1 (mm_u (mm_u s1 0 58 v2) 0 59 0)).bind fun s3 =>
    ((mm_w 26000 61 0 0 s3).bind fun s4 =>
    jm 40 [vr_ (some 0), vi_ 1, vi_ 0] [] s4))))) := by rfl
set_option maxRecDepth 100000 in
theorem mb_constant_40 (x2 x3 : Int32) (s : mm_S) : mm_B mt_lc mt_ln mt_ty mt_sg mt_st 0 mt_constant ca jm 1000 (pj_at mt_constant 40) [some (vr_ (some 0)), none, some (vi_ x2), some (vi_ x3), none, none, none, none, none, none] [] s =
  (if 0 < x2 then
    ((mm_a 26000 60 (x2 + (-1)) s).bind fun v1 =>
    ((mm_a 26000 61 (x2 + (-1)) s).bind fun v2 =>
    ((mm_a 26000 25 v1 s).bind fun v3 =>
    (if v3 = 2 then
      jm 84 [vr_ (some 0), vi_ (x2 + (-1)), vi_ x3, vi_ v1, vi_ v3] [] s
    else
      (if v3 = 1 then
        jm 84 [vr_ (some 0), vi_ (x2 + (-1)), vi_ x3, vi_ v1, vi_ v3] [] s
      else
        (if v3 = 12 then
          (if v2 = 0 then
            ((mm_w 26000 61 (x2 + (-1)) 1 s).bind fun s4 =>
            ((mm_a 26000 27 v1 s4).bind fun v5 =>
            (mm_bI (ca 60 [vr_ (some 0), vi_ ((x2 + (-1)) + 1), vi_ v5] s4) fun v7 s6 =>
            jm 40 [vr_ (some 0), vi_ v7, vi_ x3] [] s6)))
          else
            ((mm_a 26000 27 v1 s).bind fun v8 =>
            ((mm_a 26000 28 v8 s).bind fun v9 =>
            ((mm_a 26000 62 (x3 + (-1)) s).bind fun v10 =>
            (if v10 = 0 then
              ((mm_a 26000 28 v9 s).bind fun v11 =>
              (mm_bI (ca 60 [vr_ (some 0), vi_ (x2 + (-1)), vi_ v11] s) fun v13 s12 =>
              jm 40 [vr_ (some 0), vi_ v13, vi_ (x3 + (-1))] [] s12))
            else
              (mm_bI (ca 60 [vr_ (some 0), vi_ (x2 + (-1)), vi_ v9] s) fun v15 s14 =>
              jm 40 [vr_ (some 0), vi_ v15, vi_ (x3 + (-1))] [] s14))))))
        else
          (if v3 = 10 then
            (if v2 = 0 then
              ((mm_w 26000 61 (x2 + (-1)) 1 s).bind fun s16 =>
              ((mm_a 26000 27 v1 s16).bind fun v17 =>
              (mm_bI (ca 60 [vr_ (some 0), vi_ ((x2 + (-1)) + 1), vi_ v17] s16) fun v19 s18 =>
              jm 40 [vr_ (some 0), vi_ v19, vi_ x3] [] s18)))
            else
              ((mm_a 26000 29 v1 s).bind fun v20 =>
              ((mm_a 26000 62 (x3 - 1) s).bind fun v21 =>
              (mm_bI (ca 58 [vi_ v20, vi_ v21] s) fun v23 s22 =>
              ((mm_w 26000 62 (x3 - 1) v23 s22).bind fun s24 =>
              jm 40 [vr_ (some 0), vi_ (x2 + (-1)), vi_ x3] [] s24)))))
          else
            (if v3 = 11 then
              ((mm_a 26000 27 v1 s).bind fun v25 =>
              jm 297 [vr_ (some 0), vi_ (x2 + (-1)), vi_ x3, vi_ v1, vi_ v2, vi_ v25, vi_ 0] [] s)
            else
              (if v2 < 2 then
                ((mm_w 26000 61 (x2 + (-1)) (v2 + 1) s).bind fun s26 =>
                (if v2 = 0 then
                  ((mm_a 26000 27 v1 s26).bind fun v27 =>
                  (mm_bI (ca 60 [vr_ (some 0), vi_ ((x2 + (-1)) + 1), vi_ v27] s26) fun v29 s28 =>
                  jm 40 [vr_ (some 0), vi_ v29, vi_ x3] [] s28))
                else
                  ((mm_a 26000 27 v1 s26).bind fun v30 =>
                  ((mm_a 26000 28 v30 s26).bind fun v31 =>
                  (mm_bI (ca 60 [vr_ (some 0), vi_ ((x2 + (-1)) + 1), vi_ v31] s26) fun v33 s32 =>
                  jm 40 [vr_ (some 0), vi_ v33, vi_ x3] [] s32)))))
              else
                ((mm_a 26000 29 v1 s).bind fun v34 =>
                (if v34 = 24 then
                  jm 567 [vr_ (some 0), vi_ (x2 + (-1)), vi_ (x3 + (-1)), vi_ v1] [] s
                else
                  ((mm_a 26000 29 v1 s).bind fun v35 =>
                  (if v35 = 73 then
                    jm 567 [vr_ (some 0), vi_ (x2 + (-1)), vi_ (x3 + (-1)), vi_ v1] [] s
                  else
                    jm 599 [vr_ (some 0), vi_ (x2 + (-1)), vi_ (x3 + (-1)), vi_ v1] [] s)))))))))))))
  else
    ((mm_a 26000 62 0 s).bind fun v36 =>
    some (none, (mm_u s 0 59 v36)))) := by rfl
set_option maxRecDepth 100000 in
theorem mb_constant_84 (x2 x3 x4 x6 : Int32) (s : mm_S) : mm_B mt_lc mt_ln mt_ty mt_sg mt_st 0 mt_constant ca jm 1000 (pj_at mt_constant 84) [some (vr_ (some 0)), none, some (vi_ x2), some (vi_ x3), some (vi_ x4), none, some (vi_ x6), none, none, none] [] s =
  (if x6 = 2 then
    ((mm_a 26000 29 x4 s).bind fun v1 =>
    ((mm_w 26000 62 x3 v1 s).bind fun s2 =>
    jm 40 [vr_ (some 0), vi_ x2, vi_ (x3 + 1)] [] s2))
  else
    ((mm_a 26000 29 x4 s).bind fun v3 =>
    (mm_bI (ca 47 [vr_ (some 0), vi_ v3] s) fun v5 s4 =>
    ((mm_a 9000 52 v5 s4).bind fun v6 =>
    ((mm_w 26000 62 x3 v6 s4).bind fun s7 =>
    jm 40 [vr_ (some 0), vi_ x2, vi_ (x3 + 1)] [] s7))))) := by rfl
set_option maxRecDepth 100000 in
theorem mb_constant_297 (x2 x3 x4 x5 x7 x8 : Int32) (s : mm_S) : mm_B mt_lc mt_ln mt_ty mt_sg mt_st 0 mt_constant ca jm 1000 (pj_at mt_constant 297) [some (vr_ (some 0)), none, some (vi_ x2), some (vi_ x3), some (vi_ x4), some (vi_ x5), none, some (vi_ x7), some (vi_ x8), none] [] s =
  (if x8 < x5 then
    ((mm_a 26000 28 x7 s).bind fun v1 =>
    jm 297 [vr_ (some 0), vi_ x2, vi_ x3, vi_ x4, vi_ x5, vi_ v1, vi_ (x8 + 1)] [] s)
  else
    (if x5 < 2 then
      ((mm_w 26000 61 x2 (x5 + 1) s).bind fun s2 =>
      (mm_bI (ca 60 [vr_ (some 0), vi_ (x2 + 1), vi_ x7] s2) fun v4 s3 =>
      jm 40 [vr_ (some 0), vi_ v4, vi_ x3] [] s3))
    else
      ((mm_a 26000 27 x4 s).bind fun v5 =>
      jm 360 [vr_ (some 0), vi_ x2, vi_ x3, vi_ x5, vi_ x7, vi_ v5, vi_ 1] [] s))) := by rfl
set_option maxRecDepth 100000 in
theorem mb_constant_360 (x2 x3 x5 x7 x8 x9 : Int32) (s : mm_S) : mm_B mt_lc mt_ln mt_ty mt_sg mt_st 0 mt_constant ca jm 1000 (pj_at mt_constant 360) [some (vr_ (some 0)), none, some (vi_ x2), some (vi_ x3), none, some (vi_ x5), none, some (vi_ x7), some (vi_ x8), some (vi_ x9)] [] s =
  (if x9 < x5 then
    ((mm_a 26000 28 x8 s).bind fun v1 =>
    jm 360 [vr_ (some 0), vi_ x2, vi_ x3, vi_ x5, vi_ x7, vi_ v1, vi_ (x9 + 1)] [] s)
  else
    ((mm_a 26000 33 x8 s).bind fun v2 =>
    ((mm_a 26000 62 (x3 - 2) s).bind fun v3 =>
    ((mm_a 26000 62 (x3 - 1) s).bind fun v4 =>
    (mm_bI (ca 57 [vi_ v2, vi_ v3, vi_ v4] s) fun v6 s5 =>
    (if v6 = 0 then
      jm 462 [vr_ (some 0), vi_ x2, vi_ x3, vi_ v6] [] s5
    else
      (if x7 < 0 then
        jm 462 [vr_ (some 0), vi_ x2, vi_ x3, vi_ v6] [] s5
      else
        ((mm_a 26000 62 (x3 - 1) s5).bind fun v7 =>
        ((mm_w 26000 62 (x3 - 2) v7 s5).bind fun s8 =>
        ((mm_w 26000 61 x2 (x5 + 1) s8).bind fun s9 =>
        (mm_bI (ca 60 [vr_ (some 0), vi_ (x2 + 1), vi_ x7] s9) fun v11 s10 =>
        jm 40 [vr_ (some 0), vi_ v11, vi_ (x3 + (-1))] [] s10))))))))))) := by rfl
set_option maxRecDepth 100000 in
theorem mb_constant_462 (x2 x3 x9 : Int32) (s : mm_S) : mm_B mt_lc mt_ln mt_ty mt_sg mt_st 0 mt_constant ca jm 1000 (pj_at mt_constant 462) [some (vr_ (some 0)), none, some (vi_ x2), some (vi_ x3), none, none, none, none, none, some (vi_ x9)] [] s =
  (if x9 = 0 then
    ((mm_w 26000 62 ((x3 + (-1)) - 1) 0 s).bind fun s1 =>
    jm 40 [vr_ (some 0), vi_ x2, vi_ (x3 + (-1))] [] s1)
  else
    ((mm_w 26000 62 ((x3 + (-1)) - 1) (-1) s).bind fun s2 =>
    jm 40 [vr_ (some 0), vi_ x2, vi_ (x3 + (-1))] [] s2)) := by rfl
set_option maxRecDepth 100000 in
theorem mb_constant_567 (x2 x3 x4 : Int32) (s : mm_S) : mm_B mt_lc mt_ln mt_ty mt_sg mt_st 0 mt_constant ca jm 1000 (pj_at mt_constant 567) [some (vr_ (some 0)), none, some (vi_ x2), some (vi_ x3), some (vi_ x4), none, none, none, none, none] [] s =
  ((mm_a 26000 62 x3 s).bind fun v1 =>
  (if v1 = 0 then
    ((mm_a 26000 26 x4 s).bind fun v2 =>
    (mm_bI (ca 46 [vr_ (some 0), vi_ v2] s) fun v4 s3 =>
    (mm_bV (ca 45 [vr_ (some 0), vi_ 6, vi_ v4] s3) fun s5 =>
    some (none, (mm_u s5 0 58 0)))))
  else
    jm 599 [vr_ (some 0), vi_ x2, vi_ x3, vi_ x4] [] s)) := by rfl
set_option maxRecDepth 100000 in
theorem mb_constant_599 (x2 x3 x4 : Int32) (s : mm_S) : mm_B mt_lc mt_ln mt_ty mt_sg mt_st 0 mt_constant ca jm 1000 (pj_at mt_constant 599) [some (vr_ (some 0)), none, some (vi_ x2), some (vi_ x3), some (vi_ x4), none, none, none, none, none] [] s =
  ((mm_a 26000 29 x4 s).bind fun v1 =>
  ((mm_a 26000 62 (x3 - 1) s).bind fun v2 =>
  ((mm_a 26000 62 x3 s).bind fun v3 =>
  (mm_bI (ca 56 [vi_ v1, vi_ v2, vi_ v3] s) fun v5 s4 =>
  ((mm_w 26000 62 (x3 - 1) v5 s4).bind fun s6 =>
  jm 40 [vr_ (some 0), vi_ x2, vi_ x3] [] s6))))) := by rfl
set_option maxRecDepth 100000 in
theorem mb_later (x1 x2 : Int32) (s : mm_S) : mm_B mt_lc mt_ln mt_ty mt_sg mt_st 1 mt_later ca jm 1000 mt_later [some (vr_ (some 0)), some (vi_ x1), some (vi_ x2)] [] s =
  ((mm_w 26000 60 x1 x2 s).bind fun s1 =>
  ((mm_w 26000 61 x1 0 s1).bind fun s2 =>
  some (some (vi_ (x1 + 1)), s2))) := by rfl
set_option maxRecDepth 100000 in
theorem mb_task (x1 x2 x3 : Int32) (s : mm_S) : mm_B mt_lc mt_ln mt_ty mt_sg mt_st 0 mt_task ca jm 1000 mt_task [some (vr_ (some 0)), some (vi_ x1), some (vi_ x2), some (vi_ x3)] [] s =
  ((mm_w 26000 64 (s 0 63) x1 s).bind fun s1 =>
  ((mm_w 26000 65 (s1 0 63) x2 s1).bind fun s2 =>
  ((mm_w 26000 66 (s2 0 63) x3 s2).bind fun s3 =>
  some (none, (mm_u s3 0 63 ((s3 0 63) + 1)))))) := by rfl
set_option maxRecDepth 100000 in
theorem mb_put (x1 : Int32) (s : mm_S) : mm_B mt_lc mt_ln mt_ty mt_sg mt_st 0 mt_put ca jm 1000 mt_put [some (vr_ (some 0)), some (vi_ x1)] [] s =
  ((mm_w 60000 68 (s 0 67) x1 s).bind fun s1 =>
  some (none, (mm_u s1 0 67 ((s1 0 67) + 1)))) := by rfl
set_option maxRecDepth 100000 in
theorem mb_pull (s : mm_S) : mm_B mt_lc mt_ln mt_ty mt_sg mt_st 1 mt_pull ca jm 1000 mt_pull [some (vr_ (some 0))] [] s =
  ((mm_a 60000 68 ((s 0 67) - 1) (mm_u s 0 67 ((s 0 67) - 1))).bind fun v1 =>
  some (some (vi_ v1), (mm_u s 0 67 ((s 0 67) - 1)))) := by rfl
set_option maxRecDepth 100000 in
theorem mb_init_2 (x1 x2 : Int32) (s : mm_S) : mm_B mt_lc mt_ln mt_ty mt_sg mt_st 0 mt_init_2 ca jm 1000 mt_init_2 [some (vr_ (some 0)), some (vi_ x1), some (vi_ x2)] [] s =
  (if (s 0 84) = 9000 then
    some (none, s)
  else
    ((mm_w 9000 85 (s 0 84) x1 s).bind fun s1 =>
    ((mm_w 9000 86 (s1 0 84) x2 s1).bind fun s2 =>
    some (none, (mm_u s2 0 84 ((s2 0 84) + 1)))))) := by rfl
set_option maxRecDepth 100000 in
theorem mb_children (x1 x2 : Int32) (s : mm_S) : mm_B mt_lc mt_ln mt_ty mt_sg mt_st 0 mt_children ca jm 1000 mt_children [some (vr_ (some 0)), some (vi_ x1), some (vi_ x2), none, none] [] s =
  ((mm_a 26000 27 x1 s).bind fun v1 =>
  jm 13 [vr_ (some 0), vi_ x2, vi_ (s 0 63), vi_ v1] [] s) := by rfl
set_option maxRecDepth 100000 in
theorem mb_children_13 (x2 x3 x4 : Int32) (s : mm_S) : mm_B mt_lc mt_ln mt_ty mt_sg mt_st 0 mt_children ca jm 1000 (pj_at mt_children 13) [some (vr_ (some 0)), none, some (vi_ x2), some (vi_ x3), some (vi_ x4)] [] s =
  (if x4 < 0 then
    (mm_bV (ca 66 [vr_ (some 0), vi_ x3] s) fun s1 =>
    some (none, s1))
  else
    (mm_bV (ca 61 [vr_ (some 0), vi_ x2, vi_ x4, vi_ 0] s) fun s2 =>
    ((mm_a 26000 28 x4 s2).bind fun v3 =>
    jm 13 [vr_ (some 0), vi_ x2, vi_ x3, vi_ v3] [] s2))) := by rfl
set_option maxRecDepth 100000 in
theorem mb_turn (x1 : Int32) (s : mm_S) : mm_B mt_lc mt_ln mt_ty mt_sg mt_st 0 mt_turn ca jm 1000 mt_turn [some (vr_ (some 0)), some (vi_ x1), none, none, none, none, none] [] s =
  jm 9 [vr_ (some 0), vi_ x1, vi_ ((s 0 63) - 1)] [] s := by rfl
set_option maxRecDepth 100000 in
theorem mb_turn_9 (x2 x3 : Int32) (s : mm_S) : mm_B mt_lc mt_ln mt_ty mt_sg mt_st 0 mt_turn ca jm 1000 (pj_at mt_turn 9) [some (vr_ (some 0)), none, some (vi_ x2), some (vi_ x3), none, none, none] [] s =
  (if x2 < x3 then
    ((mm_a 26000 64 x2 s).bind fun v1 =>
    ((mm_a 26000 65 x2 s).bind fun v2 =>
    ((mm_a 26000 66 x2 s).bind fun v3 =>
    ((mm_a 26000 64 x3 s).bind fun v4 =>
    ((mm_w 26000 64 x2 v4 s).bind fun s5 =>
    ((mm_a 26000 65 x3 s5).bind fun v6 =>
    ((mm_w 26000 65 x2 v6 s5).bind fun s7 =>
    ((mm_a 26000 66 x3 s7).bind fun v8 =>
    ((mm_w 26000 66 x2 v8 s7).bind fun s9 =>
    ((mm_w 26000 64 x3 v1 s9).bind fun s10 =>
    ((mm_w 26000 65 x3 v2 s10).bind fun s11 =>
    ((mm_w 26000 66 x3 v3 s11).bind fun s12 =>
    jm 9 [vr_ (some 0), vi_ (x2 + 1), vi_ (x3 + (-1))] [] s12))))))))))))
  else
    some (none, s)) := by rfl
set_option maxRecDepth 100000 in
theorem mb_library (s : mm_S) : mm_B mt_lc mt_ln mt_ty mt_sg mt_st 0 mt_library ca jm 1000 mt_library [some (vr_ (some 0))] [] s =
  (mm_bV (ca 68 [vr_ (some 0), vl_ 96010929194318, vl_ 0, vi_ 0] (mm_u s 0 49 0)) fun s1 =>
  (mm_bV (ca 68 [vr_ (some 0), vl_ 96010929194323, vl_ 0, vi_ 1] s1) fun s2 =>
  (mm_bV (ca 68 [vr_ (some 0), vl_ 1465008968, vl_ 0, vi_ 2] s2) fun s3 =>
  (mm_bV (ca 68 [vr_ (some 0), vl_ 22031289427775045, vl_ 0, vi_ 3] s3) fun s4 =>
  (mm_bV (ca 68 [vr_ (some 0), vl_ 1380205384, vl_ 0, vi_ 4] s4) fun s5 =>
  (mm_bV (ca 68 [vr_ (some 0), vl_ 1398034256, vl_ 0, vi_ 5] s5) fun s6 =>
  (mm_bV (ca 68 [vr_ (some 0), vl_ 4276819, vl_ 0, vi_ 6] s6) fun s7 =>
  (mm_bV (ca 68 [vr_ (some 0), vl_ 93794876015432, vl_ 0, vi_ 7] s7) fun s8 =>
  (mm_bV (ca 68 [vr_ (some 0), vl_ 6000285938907105614, vl_ 5264724, vi_ 8] s8) fun s9 =>
  (mm_bV (ca 68 [vr_ (some 0), vl_ 6000285938907107157, vl_ 1414550868, vi_ 9] s9) fun s10 =>
  (mm_bV (ca 68 [vr_ (some 0), vl_ 90457770643012, vl_ 0, vi_ 10] s10) fun s11 =>
  (mm_bV (ca 68 [vr_ (some 0), vl_ 78363093255491, vl_ 0, vi_ 11] s11) fun s12 =>
  (mm_bV (ca 68 [vr_ (some 0), vl_ 19793705839248707, vl_ 0, vi_ 12] s12) fun s13 =>
  (mm_bV (ca 68 [vr_ (some 0), vl_ 18384196524721475, vl_ 0, vi_ 13] s13) fun s14 =>
  (mm_bV (ca 68 [vr_ (some 0), vl_ 85028747102550, vl_ 0, vi_ 14] s14) fun s15 =>
  (mm_bV (ca 68 [vr_ (some 0), vl_ 96010929194308, vl_ 0, vi_ 15] s15) fun s16 =>
  (mm_bV (ca 68 [vr_ (some 0), vl_ 6292172255678448984, vl_ 0, vi_ 16] s16) fun s17 =>
  (mm_bV (ca 68 [vr_ (some 0), vl_ 353349223502, vl_ 0, vi_ 17] s17) fun s18 =>
  some (none, s18))))))))))))))))))) := by rfl
set_option maxRecDepth 100000 in
theorem mb_lib (x5 : Int32) (x1 x3 : Int64) (s : mm_S) : mm_B mt_lc mt_ln mt_ty mt_sg mt_st 0 mt_lib ca jm 1000 mt_lib [some (vr_ (some 0)), some (vl_ x1), none, some (vl_ x3), none, some (vi_ x5), none, none] [] s =
  jm 6 [vr_ (some 0), vl_ x1, vl_ x3, vi_ x5, vi_ (-1), vi_ 0] [] s := by rfl
set_option maxRecDepth 100000 in
theorem mb_lib_6 (x5 x6 x7 : Int32) (x1 x3 : Int64) (s : mm_S) : mm_B mt_lc mt_ln mt_ty mt_sg mt_st 0 mt_lib ca jm 1000 (pj_at mt_lib 6) [some (vr_ (some 0)), some (vl_ x1), none, some (vl_ x3), none, some (vi_ x5), some (vi_ x6), some (vi_ x7)] [] s =
  (if x7 < (s 0 5) then
    ((mm_a 3100 6 x7 s).bind fun v1 =>
    ((mm_a 3100 7 x7 s).bind fun v2 =>
    (mm_bI (ca 3 [vr_ (some 0), vi_ v1, vi_ v2, vl_ x1, vl_ x3] s) fun v4 s3 =>
    (if v4 = 0 then
      jm 6 [vr_ (some 0), vl_ x1, vl_ x3, vi_ x5, vi_ x6, vi_ (x7 + 1)] [] s3
    else
      jm 6 [vr_ (some 0), vl_ x1, vl_ x3, vi_ x5, vi_ x7, vi_ (x7 + 1)] [] s3))))
  else
    (if x6 < 0 then
      some (none, s)
    else
      (mm_bI (ca 48 [vr_ (some 0), vi_ x6, vi_ 6, vi_ (2000000 + x5), vi_ 0, vi_ 0] s) fun v6 s5 =>
      some (none, s5)))) := by rfl
set_option maxRecDepth 100000 in
theorem mb_check (s : mm_S) : mm_B mt_lc mt_ln mt_ty mt_sg mt_st 0 mt_check ca jm 1000 mt_check [some (vr_ (some 0)), none, none, none] [] s =
  (mm_bV (ca 67 [vr_ (some 0)] s) fun s1 =>
  jm 84 [vr_ (some 0), vi_ ((s 0 24) - 1), vi_ 0] [] (mm_u (mm_u (mm_u (mm_u (mm_u (mm_u (mm_u (mm_u (mm_u (mm_u (mm_u (mm_u (mm_u (mm_u s1 0 63 0) 0 67 0) 0 69 0) 0 73 (-1)) 0 74 0) 0 75 0) 0 77 0) 0 78 0) 0 79 0) 0 80 0) 0 81 100) 0 84 0) 0 82 (-1)) 0 83 (-1))) := by rfl
set_option maxRecDepth 100000 in
theorem mb_check_84 (x1 x2 : Int32) (s : mm_S) : mm_B mt_lc mt_ln mt_ty mt_sg mt_st 0 mt_check ca jm 1000 (pj_at mt_check 84) [some (vr_ (some 0)), some (vi_ x1), some (vi_ x2), none] [] s =
  (if x2 < (s 0 5) then
    ((mm_a 3100 6 x2 s).bind fun v1 =>
    ((mm_a 3100 7 x2 s).bind fun v2 =>
    (mm_bI (ca 3 [vr_ (some 0), vi_ v1, vi_ v2, vl_ 357895852628, vl_ 0] s) fun v4 s3 =>
    (if v4 = 0 then
      jm 84 [vr_ (some 0), vi_ x1, vi_ (x2 + 1)] [] s3
    else
      jm 84 [vr_ (some 0), vi_ x1, vi_ (x2 + 1)] [] (mm_u s3 0 83 x2)))))
  else
    (mm_bV (ca 65 [vr_ (some 0), vi_ x1, vi_ 1] (mm_u s 0 55 (s 0 49))) fun s5 =>
    jm 140 [vr_ (some 0)] [] s5)) := by rfl
set_option maxRecDepth 100000 in
theorem mb_check_140 (s : mm_S) : mm_B mt_lc mt_ln mt_ty mt_sg mt_st 0 mt_check ca jm 1000 (pj_at mt_check 140) [some (vr_ (some 0)), none, none, none] [] s =
  (if 0 < (s 0 63) then
    ((mm_a 26000 64 ((s 0 63) - 1) (mm_u s 0 63 ((s 0 63) - 1))).bind fun v1 =>
    ((mm_a 26000 65 ((s 0 63) - 1) (mm_u s 0 63 ((s 0 63) - 1))).bind fun v2 =>
    ((mm_a 26000 66 ((s 0 63) - 1) (mm_u s 0 63 ((s 0 63) - 1))).bind fun v3 =>
    (mm_bV (ca 70 [vr_ (some 0), vi_ v1, vi_ v2, vi_ v3] (mm_u s 0 63 ((s 0 63) - 1))) fun s4 =>
    jm 140 [vr_ (some 0)] [] s4))))
  else
    (if (s 0 12) = 0 then
      (if 1600 < (s 0 81) then
        jm 227 [vr_ (some 0), vi_ 1, vi_ 0] [] s
      else
        (if 200 < (s 0 69) then
          jm 227 [vr_ (some 0), vi_ 1, vi_ 0] [] s
        else
          jm 227 [vr_ (some 0), vi_ 0, vi_ 0] [] s))
    else
      some (none, s))) := by rfl
set_option maxRecDepth 100000 in
theorem mb_check_227 (x2 x3 : Int32) (s : mm_S) : mm_B mt_lc mt_ln mt_ty mt_sg mt_st 0 mt_check ca jm 1000 (pj_at mt_check 227) [some (vr_ (some 0)), none, some (vi_ x2), some (vi_ x3)] [] s =
  (if x3 < (s 0 69) then
    (if x2 = 0 then
      ((mm_a 3100 70 x3 s).bind fun v1 =>
      (if 32000 < v1 then
        jm 227 [vr_ (some 0), vi_ 1, vi_ (x3 + 1)] [] s
      else
        jm 227 [vr_ (some 0), vi_ 0, vi_ (x3 + 1)] [] s))
    else
      jm 227 [vr_ (some 0), vi_ 1, vi_ (x3 + 1)] [] s)
  else
    (if (s 0 82) < 0 then
      (mm_bV (ca 45 [vr_ (some 0), vi_ 7, vi_ 0] s) fun s2 =>
      some (none, s2))
    else
      (if x2 = 0 then
        some (none, s)
      else
        (mm_bV (ca 45 [vr_ (some 0), vi_ 7, vi_ 0] s) fun s3 =>
        some (none, s3))))) := by rfl
set_option maxRecDepth 100000 in
theorem mb_go (x1 x2 x3 : Int32) (s : mm_S) : mm_B mt_lc mt_ln mt_ty mt_sg mt_st 0 mt_go ca jm 1000 mt_go [some (vr_ (some 0)), some (vi_ x1), some (vi_ x2), some (vi_ x3)] [] s =
  (if x1 = 1 then
    (mm_bV (ca 72 [vr_ (some 0), vi_ x2] s) fun s1 =>
    some (none, s1))
  else
    (if x1 = 2 then
      (mm_bV (ca 85 [vr_ (some 0), vi_ x2] s) fun s2 =>
      some (none, s2))
    else
      (if x1 = 3 then
        (mm_bV (ca 89 [vr_ (some 0), vi_ x2] s) fun s3 =>
        some (none, s3))
      else
        (if x1 = 4 then
          (if x1 = 4 then
            (mm_bV (ca 88 [vr_ (some 0), vi_ x2, vi_ 1] s) fun s4 =>
            some (none, s4))
          else
            (mm_bV (ca 88 [vr_ (some 0), vi_ x2, vi_ 0] s) fun s5 =>
            some (none, s5)))
        else
          (if x1 = 5 then
            (if x1 = 4 then
              (mm_bV (ca 88 [vr_ (some 0), vi_ x2, vi_ 1] s) fun s6 =>
              some (none, s6))
            else
              (mm_bV (ca 88 [vr_ (some 0), vi_ x2, vi_ 0] s) fun s7 =>
              some (none, s7)))
          else
            (if x1 = 6 then
              (mm_bV (ca 74 [vr_ (some 0), vi_ x2, vi_ x3] s) fun s8 =>
              some (none, s8))
            else
              (if x1 = 7 then
                (mm_bV (ca 75 [vr_ (some 0), vi_ x2] s) fun s9 =>
                some (none, s9))
              else
                (if x1 = 8 then
                  (mm_bV (ca 77 [vr_ (some 0), vi_ x2] s) fun s10 =>
                  some (none, s10))
                else
                  (if x1 = 9 then
                    (mm_bV (ca 78 [vr_ (some 0), vi_ x3] s) fun s11 =>
                    some (none, s11))
                  else
                    (if x1 = 10 then
                      some (none, (mm_u s 0 79 ((s 0 79) + x3)))
                    else
                      (if x1 = 11 then
                        (mm_bV (ca 81 [vr_ (some 0), vi_ x2] s) fun s12 =>
                        some (none, s12))
                      else
                        (if x1 = 12 then
                          (mm_bV (ca 82 [vr_ (some 0), vi_ x2] s) fun s13 =>
                          some (none, s13))
                        else
                          (if x1 = 13 then
                            (mm_bV (ca 84 [vr_ (some 0), vi_ x2] s) fun s14 =>
                            some (none, s14))
                          else
                            (mm_bI (ca 63 [vr_ (some 0)] s) fun v16 s15 =>
                            (mm_bI (ca 63 [vr_ (some 0)] (mm_u s15 0 80 v16)) fun v18 s17 =>
                            (mm_bI (ca 63 [vr_ (some 0)] (mm_u s17 0 79 v18)) fun v20 s19 =>
                            some (none, (mm_u s19 0 77 v20)))))))))))))))))) := by rfl
set_option maxRecDepth 100000 in
theorem mb_nameToken (x1 : Int32) (s : mm_S) : mm_B mt_lc mt_ln mt_ty mt_sg mt_st 1 mt_nameToken ca jm 1000 mt_nameToken [some (vr_ (some 0)), some (vi_ x1)] [] s =
  ((mm_a 26000 26 x1 s).bind fun v1 =>
  ((mm_a 12100 11 v1 s).bind fun v2 =>
  some (some (vi_ v2), s))) := by rfl
set_option maxRecDepth 100000 in
theorem mb_declaration (x1 : Int32) (s : mm_S) : mm_B mt_lc mt_ln mt_ty mt_sg mt_st 0 mt_declaration ca jm 1000 mt_declaration [some (vr_ (some 0)), some (vi_ x1), none, none, none] [] s =
  ((mm_a 26000 25 x1 s).bind fun v1 =>
  (if v1 = 53 then
    ((mm_a 26000 27 x1 s).bind fun v2 =>
    ((mm_a 26000 25 v2 s).bind fun v3 =>
    (if v3 = 55 then
      ((mm_a 26000 27 x1 s).bind fun v4 =>
      (mm_bV (ca 61 [vr_ (some 0), vi_ 8, vi_ v4, vi_ 0] s) fun s5 =>
      ((mm_a 26000 27 x1 s5).bind fun v6 =>
      ((mm_a 26000 27 v6 s5).bind fun v7 =>
      jm 60 [vr_ (some 0), vi_ (s5 0 63), vi_ v7] [] s5))))
    else
      (mm_bV (ca 73 [vr_ (some 0), vi_ x1] s) fun s8 =>
      some (none, s8)))))
  else
    ((mm_a 26000 27 x1 s).bind fun v9 =>
    jm 133 [vr_ (some 0), vi_ x1, vi_ v1, vi_ v9] [] s))) := by rfl
set_option maxRecDepth 100000 in
theorem mb_declaration_60 (x3 x4 : Int32) (s : mm_S) : mm_B mt_lc mt_ln mt_ty mt_sg mt_st 0 mt_declaration ca jm 1000 (pj_at mt_declaration 60) [some (vr_ (some 0)), none, none, some (vi_ x3), some (vi_ x4)] [] s =
  (if x4 < 0 then
    (mm_bV (ca 66 [vr_ (some 0), vi_ x3] s) fun s1 =>
    some (none, s1))
  else
    ((mm_a 26000 25 x4 s).bind fun v2 =>
    (if v2 = 58 then
      ((mm_a 26000 28 x4 s).bind fun v3 =>
      jm 60 [vr_ (some 0), vi_ x3, vi_ v3] [] s)
    else
      ((mm_a 26000 25 x4 s).bind fun v4 =>
      (if v4 = 59 then
        (mm_bV (ca 61 [vr_ (some 0), vi_ 11, vi_ x4, vi_ 0] s) fun s5 =>
        ((mm_a 26000 28 x4 s5).bind fun v6 =>
        jm 60 [vr_ (some 0), vi_ x3, vi_ v6] [] s5))
      else
        (mm_bV (ca 61 [vr_ (some 0), vi_ 3, vi_ x4, vi_ 0] s) fun s7 =>
        ((mm_a 26000 28 x4 s7).bind fun v8 =>
        jm 60 [vr_ (some 0), vi_ x3, vi_ v8] [] s7))))))) := by rfl
set_option maxRecDepth 100000 in
theorem mb_declaration_133 (x1 x2 x3 : Int32) (s : mm_S) : mm_B mt_lc mt_ln mt_ty mt_sg mt_st 0 mt_declaration ca jm 1000 (pj_at mt_declaration 133) [some (vr_ (some 0)), some (vi_ x1), some (vi_ x2), some (vi_ x3), none] [] s =
  (if x3 < 0 then
    ((mm_a 26000 27 x1 s).bind fun v1 =>
    jm 213 [vr_ (some 0), vi_ x2, vi_ v1] [] s)
  else
    (if x2 = 50 then
      jm 158 [vr_ (some 0), vi_ x1, vi_ x2, vi_ x3] [vi_ 1] s
    else
      (if x2 = 51 then
        jm 158 [vr_ (some 0), vi_ x1, vi_ x2, vi_ x3] [vi_ 2] s
      else
        jm 158 [vr_ (some 0), vi_ x1, vi_ x2, vi_ x3] [vi_ 3] s))) := by rfl
set_option maxRecDepth 100000 in
theorem mb_declaration_158 (x1 x2 x3 y0 : Int32) (s : mm_S) : mm_B mt_lc mt_ln mt_ty mt_sg mt_st 0 mt_declaration ca jm 1000 (pj_at mt_declaration 158) [some (vr_ (some 0)), some (vi_ x1), some (vi_ x2), some (vi_ x3), none] [vi_ y0] s =
  (mm_bI (ca 71 [vr_ (some 0), vi_ x3] s) fun v2 s1 =>
  ((mm_a 26000 26 x3 s1).bind fun v3 =>
  (if x2 = 52 then
    (mm_bI (ca 49 [vr_ (some 0), vi_ v2, vi_ v3, vi_ y0, vi_ x3, vi_ 0, vi_ 0] s1) fun v5 s4 =>
    ((mm_w 26000 30 x3 v5 s4).bind fun s6 =>
    ((mm_a 26000 28 x3 s6).bind fun v7 =>
    jm 133 [vr_ (some 0), vi_ x1, vi_ x2, vi_ v7] [] s6)))
  else
    (mm_bI (ca 49 [vr_ (some 0), vi_ v2, vi_ v3, vi_ y0, vi_ 0, vi_ 0, vi_ 0] s1) fun v9 s8 =>
    ((mm_w 26000 30 x3 v9 s8).bind fun s10 =>
    ((mm_a 26000 28 x3 s10).bind fun v11 =>
    jm 133 [vr_ (some 0), vi_ x1, vi_ x2, vi_ v11] [] s10)))))) := by rfl
set_option maxRecDepth 100000 in
theorem mb_declaration_213 (x2 x3 : Int32) (s : mm_S) : mm_B mt_lc mt_ln mt_ty mt_sg mt_st 0 mt_declaration ca jm 1000 (pj_at mt_declaration 213) [some (vr_ (some 0)), none, some (vi_ x2), some (vi_ x3), none] [] s =
  (if x3 < 0 then
    some (none, s)
  else
    ((mm_a 26000 27 x3 s).bind fun v1 =>
    (mm_bV (ca 59 [vr_ (some 0), vi_ v1] s) fun s2 =>
    ((mm_a 26000 30 x3 s2).bind fun v3 =>
    (if x2 = 52 then
      ((mm_w 26000 31 x3 (s2 0 81) s2).bind fun s4 =>
      (mm_bV (ca 64 [vr_ (some 0), vi_ (s4 0 81), vi_ (s4 0 59)] s4) fun s5 =>
      ((mm_a 26000 28 x3 (mm_u s5 0 81 ((s5 0 81) + 1))).bind fun v6 =>
      jm 213 [vr_ (some 0), vi_ x2, vi_ v6] [] (mm_u s5 0 81 ((s5 0 81) + 1)))))
    else
      (if x2 = 51 then
        (if (s2 0 58) = 0 then
          jm 300 [vr_ (some 0), vi_ x2, vi_ x3, vi_ v3] [vi_ 1, vi_ v3, vr_ (some 53)] s2
        else
          jm 300 [vr_ (some 0), vi_ x2, vi_ x3, vi_ v3] [vi_ 2, vi_ v3, vr_ (some 53)] s2)
      else
        (if (s2 0 58) = 0 then
          jm 359 [vr_ (some 0), vi_ x2, vi_ x3, vi_ v3] [] s2
        else
          (if (s2 0 59) < 0 then
            ((mm_a 26000 27 x3 s2).bind fun v7 =>
            ((mm_a 26000 34 v7 s2).bind fun v8 =>
            (mm_bI (ca 46 [vr_ (some 0), vi_ v8] s2) fun v10 s9 =>
            (mm_bV (ca 45 [vr_ (some 0), vi_ 6, vi_ v10] s9) fun s11 =>
            jm 359 [vr_ (some 0), vi_ x2, vi_ x3, vi_ v3] [] s11))))
          else
            (if 99 < (s2 0 59) then
              ((mm_a 26000 27 x3 s2).bind fun v12 =>
              ((mm_a 26000 34 v12 s2).bind fun v13 =>
              (mm_bI (ca 46 [vr_ (some 0), vi_ v13] s2) fun v15 s14 =>
              (mm_bV (ca 45 [vr_ (some 0), vi_ 6, vi_ v15] s14) fun s16 =>
              jm 359 [vr_ (some 0), vi_ x2, vi_ x3, vi_ v3] [] s16))))
            else
              jm 359 [vr_ (some 0), vi_ x2, vi_ x3, vi_ v3] [] s2))))))))) := by rfl
set_option maxRecDepth 100000 in
theorem mb_declaration_300 (x2 x3 x4 y1 y2 : Int32) (s : mm_S) : mm_B mt_lc mt_ln mt_ty mt_sg mt_st 0 mt_declaration ca jm 1000 (pj_at mt_declaration 300) [some (vr_ (some 0)), none, some (vi_ x2), some (vi_ x3), some (vi_ x4)] [vi_ y2, vi_ y1, vr_ (some 53)] s =
  ((mm_w 9000 53 y1 y2 s).bind fun s1 =>
  ((mm_w 9000 52 x4 (s1 0 59) s1).bind fun s2 =>
  ((mm_a 26000 28 x3 s2).bind fun v3 =>
  jm 213 [vr_ (some 0), vi_ x2, vi_ v3] [] s2))) := by rfl
set_option maxRecDepth 100000 in
theorem mb_declaration_359 (x2 x3 x4 : Int32) (s : mm_S) : mm_B mt_lc mt_ln mt_ty mt_sg mt_st 0 mt_declaration ca jm 1000 (pj_at mt_declaration 359) [some (vr_ (some 0)), none, some (vi_ x2), some (vi_ x3), some (vi_ x4)] [] s =
  (if (s 0 58) = 0 then
    ((mm_w 9000 52 x4 0 s).bind fun s1 =>
    ((mm_a 26000 28 x3 s1).bind fun v2 =>
    jm 213 [vr_ (some 0), vi_ x2, vi_ v2] [] s1))
  else
    (if (s 0 59) < 0 then
      ((mm_w 9000 52 x4 0 s).bind fun s3 =>
      ((mm_a 26000 28 x3 s3).bind fun v4 =>
      jm 213 [vr_ (some 0), vi_ x2, vi_ v4] [] s3))
    else
      (if (s 0 59) < 100 then
        ((mm_w 9000 52 x4 (s 0 59) s).bind fun s5 =>
        ((mm_a 26000 28 x3 s5).bind fun v6 =>
        jm 213 [vr_ (some 0), vi_ x2, vi_ v6] [] s5))
      else
        ((mm_w 9000 52 x4 0 s).bind fun s7 =>
        ((mm_a 26000 28 x3 s7).bind fun v8 =>
        jm 213 [vr_ (some 0), vi_ x2, vi_ v8] [] s7))))) := by rfl
set_option maxRecDepth 100000 in
theorem mb_letRoutines (x1 : Int32) (s : mm_S) : mm_B mt_lc mt_ln mt_ty mt_sg mt_st 0 mt_letRoutines ca jm 1000 mt_letRoutines [some (vr_ (some 0)), some (vi_ x1), none, none, none, none] [] s =
  (if (s 0 73) < 0 then
    ((mm_a 26000 27 x1 s).bind fun v1 =>
    jm 20 [vr_ (some 0), vi_ x1, vi_ 1, vi_ v1] [] s)
  else
    ((mm_a 26000 27 x1 s).bind fun v2 =>
    jm 20 [vr_ (some 0), vi_ x1, vi_ 0, vi_ v2] [] s)) := by rfl
set_option maxRecDepth 100000 in
theorem mb_letRoutines_20 (x1 x2 x3 : Int32) (s : mm_S) : mm_B mt_lc mt_ln mt_ty mt_sg mt_st 0 mt_letRoutines ca jm 1000 (pj_at mt_letRoutines 20) [some (vr_ (some 0)), some (vi_ x1), some (vi_ x2), some (vi_ x3), none, none] [] s =
  (if x3 < 0 then
    (mm_bV (ca 65 [vr_ (some 0), vi_ x1, vi_ 6] s) fun s1 =>
    some (none, s1))
  else
    (mm_bI (ca 71 [vr_ (some 0), vi_ x3] s) fun v3 s2 =>
    (if x2 = 0 then
      jm 45 [vr_ (some 0), vi_ x1, vi_ x2, vi_ x3, vi_ v3] [vi_ (-1)] s2
    else
      (mm_bI (ca 47 [vr_ (some 0), vi_ v3] s2) fun v5 s4 =>
      jm 45 [vr_ (some 0), vi_ x1, vi_ x2, vi_ x3, vi_ v3] [vi_ v5] s4)))) := by rfl
set_option maxRecDepth 100000 in
theorem mb_letRoutines_45 (x1 x2 x3 x4 y0 : Int32) (s : mm_S) : mm_B mt_lc mt_ln mt_ty mt_sg mt_st 0 mt_letRoutines ca jm 1000 (pj_at mt_letRoutines 45) [some (vr_ (some 0)), some (vi_ x1), some (vi_ x2), some (vi_ x3), some (vi_ x4), none] [vi_ y0] s =
  ((mm_w 26000 30 x3 0 s).bind fun s1 =>
  (if y0 < 0 then
    ((mm_a 26000 26 x3 s1).bind fun v2 =>
    (mm_bI (ca 49 [vr_ (some 0), vi_ x4, vi_ v2, vi_ 3, vi_ x3, vi_ 0, vi_ 0] s1) fun v4 s3 =>
    jm 134 [vr_ (some 0), vi_ x1, vi_ x2, vi_ x3, vi_ x4] [] s3))
  else
    ((mm_a 9000 51 y0 s1).bind fun v5 =>
    (if v5 = 1 then
      ((mm_a 9000 54 y0 s1).bind fun v6 =>
      (if v6 = 1 then
        ((mm_a 26000 26 x3 s1).bind fun v7 =>
        (mm_bI (ca 46 [vr_ (some 0), vi_ v7] s1) fun v9 s8 =>
        (mm_bV (ca 45 [vr_ (some 0), vi_ 4, vi_ v9] s8) fun s10 =>
        ((mm_w 9000 54 y0 1 s10).bind fun s11 =>
        ((mm_w 26000 30 x3 (1 + y0) s11).bind fun s12 =>
        jm 134 [vr_ (some 0), vi_ x1, vi_ x2, vi_ x3, vi_ x4] [] s12)))))
      else
        ((mm_w 9000 54 y0 1 s1).bind fun s13 =>
        ((mm_w 26000 30 x3 (1 + y0) s13).bind fun s14 =>
        jm 134 [vr_ (some 0), vi_ x1, vi_ x2, vi_ x3, vi_ x4] [] s14))))
    else
      ((mm_a 26000 26 x3 s1).bind fun v15 =>
      (mm_bI (ca 49 [vr_ (some 0), vi_ x4, vi_ v15, vi_ 3, vi_ x3, vi_ 0, vi_ 0] s1) fun v17 s16 =>
      jm 134 [vr_ (some 0), vi_ x1, vi_ x2, vi_ x3, vi_ x4] [] s16)))))) := by rfl
set_option maxRecDepth 100000 in
theorem mb_letRoutines_134 (x1 x2 x3 x4 : Int32) (s : mm_S) : mm_B mt_lc mt_ln mt_ty mt_sg mt_st 0 mt_letRoutines ca jm 1000 (pj_at mt_letRoutines 134) [some (vr_ (some 0)), some (vi_ x1), some (vi_ x2), some (vi_ x3), some (vi_ x4), none] [] s =
  (if x2 = 0 then
    ((mm_a 26000 28 x3 s).bind fun v1 =>
    jm 20 [vr_ (some 0), vi_ x1, vi_ x2, vi_ v1] [] s)
  else
    (if x4 = (s 0 83) then
      (if (s 0 82) < 0 then
        ((mm_a 26000 28 x3 (mm_u s 0 82 x3)).bind fun v2 =>
        jm 20 [vr_ (some 0), vi_ x1, vi_ x2, vi_ v2] [] (mm_u s 0 82 x3))
      else
        ((mm_a 26000 28 x3 s).bind fun v3 =>
        jm 20 [vr_ (some 0), vi_ x1, vi_ x2, vi_ v3] [] s))
    else
      ((mm_a 26000 28 x3 s).bind fun v4 =>
      jm 20 [vr_ (some 0), vi_ x1, vi_ x2, vi_ v4] [] s))) := by rfl
set_option maxRecDepth 100000 in
theorem mb_routineOf (x1 x2 : Int32) (s : mm_S) : mm_B mt_lc mt_ln mt_ty mt_sg mt_st 0 mt_routineOf ca jm 1000 mt_routineOf [some (vr_ (some 0)), some (vi_ x1), some (vi_ x2), none, none] [] s =
  ((mm_w 26000 29 x1 (s 0 69) (mm_u s 0 69 ((s 0 69) + 1))).bind fun s1 =>
  ((mm_a 26000 30 x1 s1).bind fun v2 =>
  (if 0 < v2 then
    ((mm_a 26000 30 x1 s1).bind fun v3 =>
    ((mm_a 9000 52 (v3 - 1) s1).bind fun v4 =>
    ((mm_w 26000 31 x1 v4 s1).bind fun s5 =>
    jm 73 [vr_ (some 0), vi_ x1, vi_ (s 0 69)] [] s5)))
  else
    ((mm_w 26000 31 x1 (s1 0 81) s1).bind fun s6 =>
    jm 73 [vr_ (some 0), vi_ x1, vi_ (s 0 69)] [] (mm_u s6 0 81 ((s6 0 81) + 1)))))) := by rfl
set_option maxRecDepth 100000 in
theorem mb_routineOf_73 (x1 x3 : Int32) (s : mm_S) : mm_B mt_lc mt_ln mt_ty mt_sg mt_st 0 mt_routineOf ca jm 1000 (pj_at mt_routineOf 73) [some (vr_ (some 0)), some (vi_ x1), none, some (vi_ x3), none] [] s =
  ((mm_a 26000 31 x1 s).bind fun v1 =>
  (mm_bV (ca 64 [vr_ (some 0), vi_ v1, vi_ (1000000 + x3)] s) fun s2 =>
  (mm_bV (ca 62 [vr_ (some 0), vi_ (s2 0 73)] s2) fun s3 =>
  (mm_bV (ca 62 [vr_ (some 0), vi_ (s3 0 74)] s3) fun s4 =>
  (mm_bV (ca 62 [vr_ (some 0), vi_ (s4 0 75)] s4) fun s5 =>
  (if (s5 0 76) = 0 then
    jm 125 [vr_ (some 0), vi_ x1, vi_ x3] [vi_ 0, vr_ (some 0)] s5
  else
    jm 125 [vr_ (some 0), vi_ x1, vi_ x3] [vi_ 1, vr_ (some 0)] s5)))))) := by rfl
set_option maxRecDepth 100000 in
theorem mb_routineOf_125 (x1 x3 y1 : Int32) (s : mm_S) : mm_B mt_lc mt_ln mt_ty mt_sg mt_st 0 mt_routineOf ca jm 1000 (pj_at mt_routineOf 125) [some (vr_ (some 0)), some (vi_ x1), none, some (vi_ x3), none] [vi_ y1, vr_ (some 0)] s =
  (mm_bV (ca 62 [vr_ (some 0), vi_ y1] s) fun s1 =>
  (mm_bV (ca 62 [vr_ (some 0), vi_ (s1 0 77)] s1) fun s2 =>
  (mm_bV (ca 62 [vr_ (some 0), vi_ (s2 0 79)] s2) fun s3 =>
  (mm_bV (ca 62 [vr_ (some 0), vi_ (s3 0 80)] s3) fun s4 =>
  (mm_bV (ca 62 [vr_ (some 0), vi_ (s4 0 55)] s4) fun s5 =>
  (mm_bV (ca 62 [vr_ (some 0), vi_ (s5 0 49)] s5) fun s6 =>
  ((mm_a 26000 27 x1 (mm_u (mm_u (mm_u (mm_u (mm_u (mm_u s6 0 73 x3) 0 74 2) 0 77 0) 0 79 0) 0 80 0) 0 55 (s6 0 49))).bind fun v7 =>
  ((mm_w 3100 71 x3 0 (mm_u (mm_u (mm_u (mm_u (mm_u (mm_u s6 0 73 x3) 0 74 2) 0 77 0) 0 79 0) 0 80 0) 0 55 (s6 0 49))).bind fun s8 =>
  jm 216 [vr_ (some 0), vi_ x1, vi_ x3, vi_ v7] [] s8)))))))) := by rfl
set_option maxRecDepth 100000 in
theorem mb_routineOf_216 (x1 x3 x4 : Int32) (s : mm_S) : mm_B mt_lc mt_ln mt_ty mt_sg mt_st 0 mt_routineOf ca jm 1000 (pj_at mt_routineOf 216) [some (vr_ (some 0)), some (vi_ x1), none, some (vi_ x3), some (vi_ x4)] [] s =
  ((mm_a 26000 25 x4 s).bind fun v1 =>
  (if v1 = 57 then
    ((mm_a 26000 29 x4 s).bind fun v2 =>
    ((mm_a 26000 26 x4 s).bind fun v3 =>
    (mm_bI (ca 49 [vr_ (some 0), vi_ v2, vi_ v3, vi_ 4, vi_ (s 0 74), vi_ x3, vi_ 0] s) fun v5 s4 =>
    ((mm_a 3100 71 x3 (mm_u s4 0 74 ((s4 0 74) + 1))).bind fun v6 =>
    ((mm_w 3100 71 x3 (v6 + 1) (mm_u s4 0 74 ((s4 0 74) + 1))).bind fun s7 =>
    ((mm_a 26000 28 x4 s7).bind fun v8 =>
    jm 216 [vr_ (some 0), vi_ x1, vi_ x3, vi_ v8] [] s7))))))
  else
    ((mm_a 26000 25 x4 (mm_u s 0 75 (s 0 74))).bind fun v9 =>
    (if v9 < 20 then
      jm 312 [vr_ (some 0), vi_ x1, vi_ x3, vi_ x4] [vi_ 1, vr_ (some 0)] (mm_u s 0 75 (s 0 74))
    else
      jm 312 [vr_ (some 0), vi_ x1, vi_ x3, vi_ x4] [vi_ 0, vr_ (some 0)] (mm_u s 0 75 (s 0 74)))))) := by rfl
set_option maxRecDepth 100000 in
theorem mb_routineOf_312 (x1 x3 x4 y1 : Int32) (s : mm_S) : mm_B mt_lc mt_ln mt_ty mt_sg mt_st 0 mt_routineOf ca jm 1000 (pj_at mt_routineOf 312) [some (vr_ (some 0)), some (vi_ x1), none, some (vi_ x3), some (vi_ x4)] [vi_ y1, vr_ (some 0)] s =
  (mm_bz y1
  ((mm_w 3100 72 x3 x4 (mm_u s 0 76 y1)).bind fun s1 =>
  (mm_bV (ca 61 [vr_ (some 0), vi_ 7, vi_ x1, vi_ 0] s1) fun s2 =>
  (if (s2 0 76) = 0 then
    (mm_bV (ca 61 [vr_ (some 0), vi_ 2, vi_ x4, vi_ 0] s2) fun s3 =>
    some (none, s3))
  else
    (mm_bV (ca 61 [vr_ (some 0), vi_ 3, vi_ x4, vi_ 0] s2) fun s4 =>
    some (none, s4)))))) := by rfl
set_option maxRecDepth 100000 in
theorem mb_routineEnds (x1 : Int32) (s : mm_S) : mm_B mt_lc mt_ln mt_ty mt_sg mt_st 0 mt_routineEnds ca jm 1000 mt_routineEnds [some (vr_ (some 0)), some (vi_ x1)] [] s =
  ((mm_a 26000 29 x1 s).bind fun v1 =>
  ((mm_w 3100 70 v1 (s 0 75) s).bind fun s2 =>
  (mm_bI (ca 63 [vr_ (some 0)] s2) fun v4 s3 =>
  (mm_bI (ca 63 [vr_ (some 0)] (mm_u s3 0 49 v4)) fun v6 s5 =>
  (mm_bI (ca 63 [vr_ (some 0)] (mm_u s5 0 55 v6)) fun v8 s7 =>
  (mm_bI (ca 63 [vr_ (some 0)] (mm_u s7 0 80 v8)) fun v10 s9 =>
  (mm_bI (ca 63 [vr_ (some 0)] (mm_u s9 0 79 v10)) fun v12 s11 =>
  (mm_bI (ca 63 [vr_ (some 0)] (mm_u s11 0 77 v12)) fun v14 s13 =>
  (if v14 = 1 then
    (mm_bI (ca 63 [vr_ (some 0)] (mm_u s13 0 76 1)) fun v16 s15 =>
    (mm_bI (ca 63 [vr_ (some 0)] (mm_u s15 0 75 v16)) fun v18 s17 =>
    (mm_bI (ca 63 [vr_ (some 0)] (mm_u s17 0 74 v18)) fun v20 s19 =>
    some (none, (mm_u s19 0 73 v20)))))
  else
    (mm_bI (ca 63 [vr_ (some 0)] (mm_u s13 0 76 0)) fun v22 s21 =>
    (mm_bI (ca 63 [vr_ (some 0)] (mm_u s21 0 75 v22)) fun v24 s23 =>
    (mm_bI (ca 63 [vr_ (some 0)] (mm_u s23 0 74 v24)) fun v26 s25 =>
    some (none, (mm_u s25 0 73 v26)))))))))))))) := by rfl
set_option maxRecDepth 100000 in
theorem mb_uses (x1 : Int32) (s : mm_S) : mm_B mt_lc mt_ln mt_ty mt_sg mt_st 0 mt_uses ca jm 1000 mt_uses [some (vr_ (some 0)), some (vi_ x1)] [] s =
  (if 40000 < (s 0 74) then
    (if (s 0 75) < (s 0 74) then
      some (none, (mm_u (mm_u s 0 74 (s 0 74)) 0 75 (s 0 74)))
    else
      some (none, (mm_u s 0 74 (s 0 74))))
  else
    (if (s 0 75) < ((s 0 74) + x1) then
      some (none, (mm_u (mm_u s 0 74 ((s 0 74) + x1)) 0 75 ((s 0 74) + x1)))
    else
      some (none, (mm_u s 0 74 ((s 0 74) + x1))))) := by rfl
set_option maxRecDepth 100000 in
theorem mb_varsEnd (x1 : Int32) (s : mm_S) : mm_B mt_lc mt_ln mt_ty mt_sg mt_st 0 mt_varsEnd ca jm 1000 mt_varsEnd [some (vr_ (some 0)), some (vi_ x1), none, none, none] [] s =
  ((mm_w 26000 30 x1 (s 0 74) s).bind fun s1 =>
  ((mm_a 26000 27 x1 s1).bind fun v2 =>
  jm 25 [vr_ (some 0), vi_ x1, vi_ (s1 0 74), vi_ 0, vi_ v2] [] s1)) := by rfl
set_option maxRecDepth 100000 in
theorem mb_varsEnd_25 (x1 x2 x3 x4 : Int32) (s : mm_S) : mm_B mt_lc mt_ln mt_ty mt_sg mt_st 0 mt_varsEnd ca jm 1000 (pj_at mt_varsEnd 25) [some (vr_ (some 0)), some (vi_ x1), some (vi_ x2), some (vi_ x3), some (vi_ x4)] [] s =
  (if x4 < 0 then
    (mm_bV (ca 76 [vr_ (some 0), vi_ x3] s) fun s1 =>
    ((mm_a 26000 27 x1 s1).bind fun v2 =>
    jm 110 [vr_ (some 0), vi_ v2] [] s1))
  else
    ((mm_a 26000 25 x4 s).bind fun v3 =>
    (if v3 = 58 then
      ((mm_w 26000 31 x4 x2 s).bind fun s4 =>
      ((mm_a 26000 29 x4 s4).bind fun v5 =>
      ((mm_a 26000 26 x4 s4).bind fun v6 =>
      (mm_bI (ca 49 [vr_ (some 0), vi_ v5, vi_ v6, vi_ 4, vi_ x2, vi_ (s4 0 73), vi_ 0] s4) fun v8 s7 =>
      ((mm_a 26000 28 x4 s7).bind fun v9 =>
      jm 25 [vr_ (some 0), vi_ x1, vi_ (x2 + 1), vi_ (x3 + 1), vi_ v9] [] s7)))))
    else
      ((mm_a 26000 28 x4 s).bind fun v10 =>
      jm 25 [vr_ (some 0), vi_ x1, vi_ x2, vi_ x3, vi_ v10] [] s)))) := by rfl
set_option maxRecDepth 100000 in
theorem mb_varsEnd_110 (x4 : Int32) (s : mm_S) : mm_B mt_lc mt_ln mt_ty mt_sg mt_st 0 mt_varsEnd ca jm 1000 (pj_at mt_varsEnd 110) [some (vr_ (some 0)), none, none, none, some (vi_ x4)] [] s =
  (if x4 < 0 then
    some (none, s)
  else
    ((mm_a 26000 25 x4 s).bind fun v1 =>
    (if v1 = 59 then
      ((mm_w 26000 31 x4 (s 0 74) s).bind fun s2 =>
      ((mm_a 26000 29 x4 s2).bind fun v3 =>
      (mm_bV (ca 76 [vr_ (some 0), vi_ (v3 + 1)] s2) fun s4 =>
      ((mm_a 26000 28 x4 s4).bind fun v5 =>
      jm 110 [vr_ (some 0), vi_ v5] [] s4))))
    else
      ((mm_a 26000 28 x4 s).bind fun v6 =>
      jm 110 [vr_ (some 0), vi_ v6] [] s)))) := by rfl
set_option maxRecDepth 100000 in
theorem mb_blockEnds (x1 : Int32) (s : mm_S) : mm_B mt_lc mt_ln mt_ty mt_sg mt_st 0 mt_blockEnds ca jm 1000 mt_blockEnds [some (vr_ (some 0)), some (vi_ x1)] [] s =
  (mm_bI (ca 63 [vr_ (some 0)] s) fun v2 s1 =>
  (mm_bI (ca 63 [vr_ (some 0)] (mm_u s1 0 49 v2)) fun v4 s3 =>
  (mm_bI (ca 63 [vr_ (some 0)] (mm_u s3 0 55 v4)) fun v6 s5 =>
  some (none, (mm_u (mm_u s5 0 74 v6) 0 80 ((s5 0 80) + x1)))))) := by rfl
set_option maxRecDepth 100000 in
theorem mb_beginBlock (s : mm_S) : mm_B mt_lc mt_ln mt_ty mt_sg mt_st 0 mt_beginBlock ca jm 1000 mt_beginBlock [some (vr_ (some 0))] [] s =
  (mm_bV (ca 62 [vr_ (some 0), vi_ (s 0 74)] s) fun s1 =>
  (mm_bV (ca 62 [vr_ (some 0), vi_ (s1 0 55)] s1) fun s2 =>
  (mm_bV (ca 62 [vr_ (some 0), vi_ (s2 0 49)] s2) fun s3 =>
  some (none, (mm_u s3 0 55 (s3 0 49)))))) := by rfl
set_option maxRecDepth 100000 in
theorem mb_labelsOf (x1 : Int32) (s : mm_S) : mm_B mt_lc mt_ln mt_ty mt_sg mt_st 0 mt_labelsOf ca jm 1000 mt_labelsOf [some (vr_ (some 0)), some (vi_ x1), none, none] [] s =
  ((mm_a 26000 27 x1 s).bind fun v1 =>
  jm 7 [vr_ (some 0), vi_ x1, vi_ v1] [] s) := by rfl
set_option maxRecDepth 100000 in
theorem mb_labelsOf_7 (x1 x2 : Int32) (s : mm_S) : mm_B mt_lc mt_ln mt_ty mt_sg mt_st 0 mt_labelsOf ca jm 1000 (pj_at mt_labelsOf 7) [some (vr_ (some 0)), some (vi_ x1), some (vi_ x2), none] [] s =
  (if x2 < 0 then
    some (none, s)
  else
    ((mm_a 26000 25 x2 s).bind fun v1 =>
    (if v1 = 41 then
      ((mm_w 26000 30 x2 x1 s).bind fun s2 =>
      ((mm_a 26000 27 x2 s2).bind fun v3 =>
      jm 39 [vr_ (some 0), vi_ x1, vi_ x2, vi_ v3] [] s2))
    else
      ((mm_a 26000 28 x2 s).bind fun v4 =>
      jm 7 [vr_ (some 0), vi_ x1, vi_ v4] [] s)))) := by rfl
set_option maxRecDepth 100000 in
theorem mb_labelsOf_39 (x1 x2 x3 : Int32) (s : mm_S) : mm_B mt_lc mt_ln mt_ty mt_sg mt_st 0 mt_labelsOf ca jm 1000 (pj_at mt_labelsOf 39) [some (vr_ (some 0)), some (vi_ x1), some (vi_ x2), some (vi_ x3)] [] s =
  (if x3 < 0 then
    ((mm_a 26000 28 x2 s).bind fun v1 =>
    jm 7 [vr_ (some 0), vi_ x1, vi_ v1] [] s)
  else
    ((mm_a 26000 25 x3 s).bind fun v2 =>
    (if v2 = 42 then
      ((mm_a 26000 29 x3 s).bind fun v3 =>
      ((mm_a 26000 26 x3 s).bind fun v4 =>
      (mm_bI (ca 49 [vr_ (some 0), vi_ v3, vi_ v4, vi_ 5, vi_ x2, vi_ (s 0 73), vi_ (s 0 77)] s) fun v6 s5 =>
      ((mm_a 26000 28 x3 s5).bind fun v7 =>
      jm 39 [vr_ (some 0), vi_ x1, vi_ x2, vi_ v7] [] s5))))
    else
      ((mm_a 26000 28 x3 s).bind fun v8 =>
      jm 39 [vr_ (some 0), vi_ x1, vi_ x2, vi_ v8] [] s)))) := by rfl
set_option maxRecDepth 100000 in
theorem mb_forName (x1 : Int32) (s : mm_S) : mm_B mt_lc mt_ln mt_ty mt_sg mt_st 0 mt_forName ca jm 1000 mt_forName [some (vr_ (some 0)), some (vi_ x1), none, none, none] [] s =
  ((mm_a 26000 25 x1 s).bind fun v1 =>
  (if v1 = 59 then
    ((mm_a 26000 27 x1 s).bind fun v2 =>
    (mm_bV (ca 59 [vr_ (some 0), vi_ v2] s) fun s3 =>
    (if (s3 0 58) = 0 then
      jm 63 [vr_ (some 0), vi_ x1] [] s3
    else
      (if (s3 0 59) < 0 then
        ((mm_a 26000 34 v2 s3).bind fun v4 =>
        (mm_bI (ca 46 [vr_ (some 0), vi_ v4] s3) fun v6 s5 =>
        (mm_bV (ca 45 [vr_ (some 0), vi_ 6, vi_ v6] s5) fun s7 =>
        jm 63 [vr_ (some 0), vi_ x1] [] s7)))
      else
        (if 30000 < (s3 0 59) then
          ((mm_a 26000 34 v2 s3).bind fun v8 =>
          (mm_bI (ca 46 [vr_ (some 0), vi_ v8] s3) fun v10 s9 =>
          (mm_bV (ca 45 [vr_ (some 0), vi_ 6, vi_ v10] s9) fun s11 =>
          jm 63 [vr_ (some 0), vi_ x1] [] s11)))
        else
          jm 63 [vr_ (some 0), vi_ x1] [] s3)))))
  else
    ((mm_a 26000 27 x1 s).bind fun v12 =>
    ((mm_a 26000 28 v12 s).bind fun v13 =>
    ((mm_a 26000 28 v13 s).bind fun v14 =>
    ((mm_a 26000 28 v14 s).bind fun v15 =>
    ((mm_w 26000 30 x1 1 s).bind fun s16 =>
    ((mm_a 26000 28 v15 s16).bind fun v17 =>
    (if v17 < 0 then
      jm 171 [vr_ (some 0), vi_ x1, vi_ v12, vi_ v15] [] s16
    else
      (mm_bV (ca 59 [vr_ (some 0), vi_ v15] s16) fun s18 =>
      ((mm_w 26000 30 x1 (s18 0 59) s18).bind fun s19 =>
      ((mm_a 26000 28 v15 s19).bind fun v20 =>
      jm 171 [vr_ (some 0), vi_ x1, vi_ v12, vi_ v20] [] s19)))))))))))) := by rfl
set_option maxRecDepth 100000 in
theorem mb_forName_63 (x1 : Int32) (s : mm_S) : mm_B mt_lc mt_ln mt_ty mt_sg mt_st 0 mt_forName ca jm 1000 (pj_at mt_forName 63) [some (vr_ (some 0)), some (vi_ x1), none, none, none] [] s =
  (if (s 0 58) = 0 then
    ((mm_w 26000 29 x1 0 s).bind fun s1 =>
    some (none, s1))
  else
    (if (s 0 59) < 0 then
      ((mm_w 26000 29 x1 0 s).bind fun s2 =>
      some (none, s2))
    else
      (if 30000 < (s 0 59) then
        ((mm_w 26000 29 x1 0 s).bind fun s3 =>
        some (none, s3))
      else
        ((mm_w 26000 29 x1 (s 0 59) s).bind fun s4 =>
        some (none, s4))))) := by rfl
set_option maxRecDepth 100000 in
theorem mb_forName_171 (x1 x2 x4 : Int32) (s : mm_S) : mm_B mt_lc mt_ln mt_ty mt_sg mt_st 0 mt_forName ca jm 1000 (pj_at mt_forName 171) [some (vr_ (some 0)), some (vi_ x1), some (vi_ x2), none, some (vi_ x4)] [] s =
  ((mm_w 26000 29 x1 x4 s).bind fun s1 =>
  (mm_bV (ca 79 [vr_ (some 0)] s1) fun s2 =>
  ((mm_w 26000 31 x1 (s2 0 74) s2).bind fun s3 =>
  ((mm_a 26000 29 x2 s3).bind fun v4 =>
  ((mm_a 26000 26 x2 s3).bind fun v5 =>
  (mm_bI (ca 49 [vr_ (some 0), vi_ v4, vi_ v5, vi_ 4, vi_ (s3 0 74), vi_ (s3 0 73), vi_ 0] s3) fun v7 s6 =>
  (mm_bV (ca 76 [vr_ (some 0), vi_ 2] s6) fun s8 =>
  (mm_bV (ca 61 [vr_ (some 0), vi_ 9, vi_ 0, vi_ 0] (mm_u s8 0 79 ((s8 0 79) + 1))) fun s9 =>
  (mm_bV (ca 61 [vr_ (some 0), vi_ 10, vi_ 0, vi_ (-1)] s9) fun s10 =>
  (mm_bV (ca 61 [vr_ (some 0), vi_ 2, vi_ x4, vi_ 0] s10) fun s11 =>
  some (none, s11))))))))))) := by rfl
set_option maxRecDepth 100000 in
theorem mb_switchOf (x1 : Int32) (s : mm_S) : mm_B mt_lc mt_ln mt_ty mt_sg mt_st 0 mt_switchOf ca jm 1000 mt_switchOf [some (vr_ (some 0)), some (vi_ x1), none, none, none, none, none] [] s =
  (mm_bV (ca 79 [vr_ (some 0)] s) fun s1 =>
  (mm_bV (ca 80 [vr_ (some 0), vi_ x1] (mm_u s1 0 80 ((s1 0 80) + 1))) fun s2 =>
  (mm_bV (ca 61 [vr_ (some 0), vi_ 9, vi_ 0, vi_ (-1)] s2) fun s3 =>
  ((mm_a 26000 27 x1 s3).bind fun v4 =>
  ((mm_a 26000 28 v4 s3).bind fun v5 =>
  jm 47 [vr_ (some 0), vi_ x1, vi_ 0, vi_ (s3 0 63), vi_ v5] [] s3))))) := by rfl
set_option maxRecDepth 100000 in
theorem mb_switchOf_47 (x1 x2 x3 x4 : Int32) (s : mm_S) : mm_B mt_lc mt_ln mt_ty mt_sg mt_st 0 mt_switchOf ca jm 1000 (pj_at mt_switchOf 47) [some (vr_ (some 0)), some (vi_ x1), some (vi_ x2), some (vi_ x3), some (vi_ x4), none, none] [] s =
  (if x4 < 0 then
    (mm_bV (ca 66 [vr_ (some 0), vi_ x3] s) fun s1 =>
    some (none, s1))
  else
    ((mm_a 26000 27 x4 s).bind fun v2 =>
    jm 61 [vr_ (some 0), vi_ x1, vi_ x2, vi_ x3, vi_ x4, vi_ v2] [] s)) := by rfl
set_option maxRecDepth 100000 in
theorem mb_switchOf_61 (x1 x2 x3 x4 x5 : Int32) (s : mm_S) : mm_B mt_lc mt_ln mt_ty mt_sg mt_st 0 mt_switchOf ca jm 1000 (pj_at mt_switchOf 61) [some (vr_ (some 0)), some (vi_ x1), some (vi_ x2), some (vi_ x3), some (vi_ x4), some (vi_ x5), none] [] s =
  (if x5 < 0 then
    (mm_bV (ca 61 [vr_ (some 0), vi_ 13, vi_ x4, vi_ 0] s) fun s1 =>
    ((mm_a 26000 28 x4 s1).bind fun v2 =>
    jm 47 [vr_ (some 0), vi_ x1, vi_ x2, vi_ x3, vi_ v2] [] s1))
  else
    ((mm_a 26000 25 x5 s).bind fun v3 =>
    (if v3 = 44 then
      (if x2 = 0 then
        jm 101 [vr_ (some 0), vi_ x1, vi_ 1, vi_ x3, vi_ x4, vi_ x5] [] s
      else
        ((mm_a 26000 26 x5 s).bind fun v4 =>
        (mm_bI (ca 46 [vr_ (some 0), vi_ v4] s) fun v6 s5 =>
        (mm_bV (ca 45 [vr_ (some 0), vi_ 6, vi_ v6] s5) fun s7 =>
        jm 101 [vr_ (some 0), vi_ x1, vi_ 1, vi_ x3, vi_ x4, vi_ x5] [] s7))))
    else
      jm 101 [vr_ (some 0), vi_ x1, vi_ x2, vi_ x3, vi_ x4, vi_ x5] [] s))) := by rfl
set_option maxRecDepth 100000 in
theorem mb_switchOf_101 (x1 x2 x3 x4 x5 : Int32) (s : mm_S) : mm_B mt_lc mt_ln mt_ty mt_sg mt_st 0 mt_switchOf ca jm 1000 (pj_at mt_switchOf 101) [some (vr_ (some 0)), some (vi_ x1), some (vi_ x2), some (vi_ x3), some (vi_ x4), some (vi_ x5), none] [] s =
  ((mm_a 26000 25 x5 s).bind fun v1 =>
  (if v1 = 43 then
    ((mm_a 26000 27 x5 s).bind fun v2 =>
    (mm_bV (ca 59 [vr_ (some 0), vi_ v2] s) fun s3 =>
    ((mm_w 26000 29 x5 (s3 0 59) s3).bind fun s4 =>
    (if (s4 0 58) = 0 then
      jm 160 [vr_ (some 0), vi_ x1, vi_ x2, vi_ x3, vi_ x4, vi_ x5, vi_ v2] [vi_ 0, vi_ x5, vr_ (some 30)] s4
    else
      jm 160 [vr_ (some 0), vi_ x1, vi_ x2, vi_ x3, vi_ x4, vi_ x5, vi_ v2] [vi_ 1, vi_ x5, vr_ (some 30)] s4))))
  else
    ((mm_a 26000 28 x5 s).bind fun v5 =>
    jm 61 [vr_ (some 0), vi_ x1, vi_ x2, vi_ x3, vi_ x4, vi_ v5] [] s))) := by rfl
set_option maxRecDepth 100000 in
theorem mb_switchOf_160 (x1 x2 x3 x4 x5 x6 y1 y2 : Int32) (s : mm_S) : mm_B mt_lc mt_ln mt_ty mt_sg mt_st 0 mt_switchOf ca jm 1000 (pj_at mt_switchOf 160) [some (vr_ (some 0)), some (vi_ x1), some (vi_ x2), some (vi_ x3), some (vi_ x4), some (vi_ x5), some (vi_ x6)] [vi_ y2, vi_ y1, vr_ (some 30)] s =
  ((mm_w 26000 30 y1 y2 s).bind fun s1 =>
  (if (s1 0 58) = 0 then
    ((mm_a 26000 28 x5 s1).bind fun v2 =>
    jm 61 [vr_ (some 0), vi_ x1, vi_ x2, vi_ x3, vi_ x4, vi_ v2] [] s1)
  else
    (mm_bI (ca 83 [vr_ (some 0), vi_ x1, vi_ x5] s1) fun v4 s3 =>
    (if v4 = 0 then
      ((mm_a 26000 28 x5 s3).bind fun v5 =>
      jm 61 [vr_ (some 0), vi_ x1, vi_ x2, vi_ x3, vi_ x4, vi_ v5] [] s3)
    else
      ((mm_a 26000 34 x6 s3).bind fun v6 =>
      (mm_bI (ca 46 [vr_ (some 0), vi_ v6] s3) fun v8 s7 =>
      (mm_bV (ca 45 [vr_ (some 0), vi_ 6, vi_ v8] s7) fun s9 =>
      ((mm_a 26000 28 x5 s9).bind fun v10 =>
      jm 61 [vr_ (some 0), vi_ x1, vi_ x2, vi_ x3, vi_ x4, vi_ v10] [] s9)))))))) := by rfl
set_option maxRecDepth 100000 in
theorem mb_isTwice (x1 x2 : Int32) (s : mm_S) : mm_B mt_lc mt_ln mt_ty mt_sg mt_st 4 mt_isTwice ca jm 1000 mt_isTwice [some (vr_ (some 0)), some (vi_ x1), some (vi_ x2), none, none] [] s =
  ((mm_a 26000 27 x1 s).bind fun v1 =>
  ((mm_a 26000 28 v1 s).bind fun v2 =>
  jm 12 [vr_ (some 0), vi_ x2, vi_ v2] [] s)) := by rfl
set_option maxRecDepth 100000 in
theorem mb_isTwice_12 (x2 x3 : Int32) (s : mm_S) : mm_B mt_lc mt_ln mt_ty mt_sg mt_st 4 mt_isTwice ca jm 1000 (pj_at mt_isTwice 12) [some (vr_ (some 0)), none, some (vi_ x2), some (vi_ x3), none] [] s =
  (if x3 < 0 then
    some (some (vi_ 0), s)
  else
    ((mm_a 26000 27 x3 s).bind fun v1 =>
    jm 24 [vr_ (some 0), vi_ x2, vi_ x3, vi_ v1] [] s)) := by rfl
set_option maxRecDepth 100000 in
theorem mb_isTwice_24 (x2 x3 x4 : Int32) (s : mm_S) : mm_B mt_lc mt_ln mt_ty mt_sg mt_st 4 mt_isTwice ca jm 1000 (pj_at mt_isTwice 24) [some (vr_ (some 0)), none, some (vi_ x2), some (vi_ x3), some (vi_ x4)] [] s =
  (if x4 < 0 then
    ((mm_a 26000 28 x3 s).bind fun v1 =>
    jm 12 [vr_ (some 0), vi_ x2, vi_ v1] [] s)
  else
    (if x4 = x2 then
      some (some (vi_ 0), s)
    else
      ((mm_a 26000 25 x4 s).bind fun v2 =>
      (if v2 = 43 then
        ((mm_a 26000 30 x4 s).bind fun v3 =>
        (if v3 = 1 then
          ((mm_a 26000 29 x4 s).bind fun v4 =>
          ((mm_a 26000 29 x2 s).bind fun v5 =>
          (if v4 = v5 then
            some (some (vi_ 1), s)
          else
            ((mm_a 26000 28 x4 s).bind fun v6 =>
            jm 24 [vr_ (some 0), vi_ x2, vi_ x3, vi_ v6] [] s))))
        else
          ((mm_a 26000 28 x4 s).bind fun v7 =>
          jm 24 [vr_ (some 0), vi_ x2, vi_ x3, vi_ v7] [] s)))
      else
        ((mm_a 26000 28 x4 s).bind fun v8 =>
        jm 24 [vr_ (some 0), vi_ x2, vi_ x3, vi_ v8] [] s))))) := by rfl
set_option maxRecDepth 100000 in
theorem mb_part (x1 : Int32) (s : mm_S) : mm_B mt_lc mt_ln mt_ty mt_sg mt_st 0 mt_part ca jm 1000 mt_part [some (vr_ (some 0)), some (vi_ x1), none] [] s =
  ((mm_a 26000 27 x1 s).bind fun v1 =>
  jm 7 [vr_ (some 0), vi_ v1] [] s) := by rfl
set_option maxRecDepth 100000 in
theorem mb_part_7 (x2 : Int32) (s : mm_S) : mm_B mt_lc mt_ln mt_ty mt_sg mt_st 0 mt_part ca jm 1000 (pj_at mt_part 7) [some (vr_ (some 0)), none, some (vi_ x2)] [] s =
  ((mm_a 26000 28 x2 s).bind fun v1 =>
  (if v1 < 0 then
    (mm_bV (ca 61 [vr_ (some 0), vi_ 2, vi_ x2, vi_ 0] s) fun s2 =>
    some (none, s2))
  else
    ((mm_a 26000 28 x2 s).bind fun v3 =>
    jm 7 [vr_ (some 0), vi_ v3] [] s))) := by rfl
set_option maxRecDepth 100000 in
theorem mb_commandOf (x1 : Int32) (s : mm_S) : mm_B mt_lc mt_ln mt_ty mt_sg mt_st 0 mt_commandOf ca jm 1000 mt_commandOf [some (vr_ (some 0)), some (vi_ x1), none, none, none, none, none] [] s =
  ((mm_a 26000 25 x1 s).bind fun v1 =>
  ((mm_a 26000 27 x1 s).bind fun v2 =>
  (if v1 = 20 then
    jm 32 [vr_ (some 0), vi_ x1, vi_ (s 0 63), vi_ 0, vi_ v2] [] s
  else
    (if v1 = 21 then
      (mm_bV (ca 61 [vr_ (some 0), vi_ 3, vi_ v2, vi_ 0] s) fun s3 =>
      some (none, s3))
    else
      (if v1 = 22 then
        jm 112 [vr_ (some 0), vi_ v2] [] s
      else
        (if v1 = 23 then
          jm 112 [vr_ (some 0), vi_ v2] [] s
        else
          (if v1 = 24 then
            ((mm_a 26000 28 v2 s).bind fun v4 =>
            ((mm_a 26000 28 v4 s).bind fun v5 =>
            (mm_bV (ca 61 [vr_ (some 0), vi_ 2, vi_ v5, vi_ 0] s) fun s6 =>
            ((mm_a 26000 28 v2 s6).bind fun v7 =>
            (mm_bV (ca 61 [vr_ (some 0), vi_ 2, vi_ v7, vi_ 0] s6) fun s8 =>
            (mm_bV (ca 61 [vr_ (some 0), vi_ 3, vi_ v2, vi_ 0] s8) fun s9 =>
            some (none, s9)))))))
          else
            (if v1 = 25 then
              jm 191 [vr_ (some 0), vi_ v2] [] s
            else
              (if v1 = 26 then
                jm 191 [vr_ (some 0), vi_ v2] [] s
              else
                (if v1 = 38 then
                  (mm_bV (ca 61 [vr_ (some 0), vi_ 10, vi_ 0, vi_ (-1)] s) fun s10 =>
                  (mm_bV (ca 61 [vr_ (some 0), vi_ 2, vi_ v2, vi_ 0] s10) fun s11 =>
                  some (none, (mm_u s11 0 79 ((s11 0 79) + 1)))))
                else
                  (if v1 = 39 then
                    jm 275 [vr_ (some 0), vi_ v2] [] s
                  else
                    (if v1 = 40 then
                      jm 275 [vr_ (some 0), vi_ v2] [] s
                    else
                      (if v1 = 27 then
                        (mm_bV (ca 61 [vr_ (some 0), vi_ 11, vi_ x1, vi_ 0] s) fun s12 =>
                        ((mm_a 26000 28 v2 s12).bind fun v13 =>
                        ((mm_a 26000 28 v13 s12).bind fun v14 =>
                        (mm_bV (ca 61 [vr_ (some 0), vi_ 3, vi_ v14, vi_ 0] s12) fun s15 =>
                        ((mm_a 26000 28 v2 s15).bind fun v16 =>
                        (mm_bV (ca 61 [vr_ (some 0), vi_ 3, vi_ v16, vi_ 0] s15) fun s17 =>
                        some (none, s17)))))))
                      else
                        (if v1 = 28 then
                          (mm_bV (ca 61 [vr_ (some 0), vi_ 12, vi_ x1, vi_ 0] s) fun s18 =>
                          (mm_bV (ca 61 [vr_ (some 0), vi_ 3, vi_ v2, vi_ 0] s18) fun s19 =>
                          some (none, s19)))
                        else
                          (if v1 = 36 then
                            (mm_bV (ca 79 [vr_ (some 0)] s) fun s20 =>
                            (mm_bV (ca 80 [vr_ (some 0), vi_ x1] s20) fun s21 =>
                            (mm_bV (ca 61 [vr_ (some 0), vi_ 9, vi_ 0, vi_ 0] s21) fun s22 =>
                            jm 417 [vr_ (some 0), vi_ (s22 0 63), vi_ v2] [] s22)))
                          else
                            (if v1 = 33 then
                              (if (s 0 77) = 0 then
                                ((mm_a 26000 26 x1 s).bind fun v23 =>
                                (mm_bI (ca 46 [vr_ (some 0), vi_ v23] s) fun v25 s24 =>
                                (mm_bV (ca 45 [vr_ (some 0), vi_ 6, vi_ v25] s24) fun s26 =>
                                (mm_bV (ca 61 [vr_ (some 0), vi_ 3, vi_ v2, vi_ 0] s26) fun s27 =>
                                some (none, s27)))))
                              else
                                (mm_bV (ca 61 [vr_ (some 0), vi_ 3, vi_ v2, vi_ 0] s) fun s28 =>
                                some (none, s28)))
                            else
                              (if v1 = 35 then
                                (mm_bV (ca 86 [vr_ (some 0), vi_ x1] s) fun s29 =>
                                some (none, s29))
                              else
                                (if v1 = 29 then
                                  (if (s 0 79) = 0 then
                                    ((mm_a 26000 26 x1 s).bind fun v30 =>
                                    (mm_bI (ca 46 [vr_ (some 0), vi_ v30] s) fun v32 s31 =>
                                    (mm_bV (ca 45 [vr_ (some 0), vi_ 6, vi_ v32] s31) fun s33 =>
                                    some (none, s33))))
                                  else
                                    jm 540 [vr_ (some 0), vi_ x1, vi_ v1] [] s)
                                else
                                  (if v1 = 30 then
                                    (if (s 0 79) = 0 then
                                      ((mm_a 26000 26 x1 s).bind fun v34 =>
                                      (mm_bI (ca 46 [vr_ (some 0), vi_ v34] s) fun v36 s35 =>
                                      (mm_bV (ca 45 [vr_ (some 0), vi_ 6, vi_ v36] s35) fun s37 =>
                                      some (none, s37))))
                                    else
                                      jm 540 [vr_ (some 0), vi_ x1, vi_ v1] [] s)
                                  else
                                    jm 540 [vr_ (some 0), vi_ x1, vi_ v1] [] s))))))))))))))))))) := by rfl
set_option maxRecDepth 100000 in
theorem mb_commandOf_32 (x1 x4 x5 x6 : Int32) (s : mm_S) : mm_B mt_lc mt_ln mt_ty mt_sg mt_st 0 mt_commandOf ca jm 1000 (pj_at mt_commandOf 32) [some (vr_ (some 0)), some (vi_ x1), none, none, some (vi_ x4), some (vi_ x5), some (vi_ x6)] [] s =
  (if x6 < 0 then
    (mm_bV (ca 66 [vr_ (some 0), vi_ x4] s) fun s1 =>
    some (none, s1))
  else
    ((mm_a 26000 29 x1 s).bind fun v2 =>
    (if x5 < v2 then
      (mm_bV (ca 61 [vr_ (some 0), vi_ 4, vi_ x6, vi_ 0] s) fun s3 =>
      ((mm_a 26000 28 x6 s3).bind fun v4 =>
      jm 32 [vr_ (some 0), vi_ x1, vi_ x4, vi_ (x5 + 1), vi_ v4] [] s3))
    else
      (mm_bV (ca 61 [vr_ (some 0), vi_ 3, vi_ x6, vi_ 0] s) fun s5 =>
      ((mm_a 26000 28 x6 s5).bind fun v6 =>
      jm 32 [vr_ (some 0), vi_ x1, vi_ x4, vi_ (x5 + 1), vi_ v6] [] s5))))) := by rfl
set_option maxRecDepth 100000 in
theorem mb_commandOf_112 (x3 : Int32) (s : mm_S) : mm_B mt_lc mt_ln mt_ty mt_sg mt_st 0 mt_commandOf ca jm 1000 (pj_at mt_commandOf 112) [some (vr_ (some 0)), none, none, some (vi_ x3), none, none, none] [] s =
  ((mm_a 26000 28 x3 s).bind fun v1 =>
  (mm_bV (ca 61 [vr_ (some 0), vi_ 2, vi_ v1, vi_ 0] s) fun s2 =>
  (mm_bV (ca 61 [vr_ (some 0), vi_ 3, vi_ x3, vi_ 0] s2) fun s3 =>
  some (none, s3)))) := by rfl
set_option maxRecDepth 100000 in
theorem mb_commandOf_191 (x3 : Int32) (s : mm_S) : mm_B mt_lc mt_ln mt_ty mt_sg mt_st 0 mt_commandOf ca jm 1000 (pj_at mt_commandOf 191) [some (vr_ (some 0)), none, none, some (vi_ x3), none, none, none] [] s =
  (mm_bV (ca 61 [vr_ (some 0), vi_ 10, vi_ 0, vi_ (-1)] s) fun s1 =>
  ((mm_a 26000 28 x3 s1).bind fun v2 =>
  (mm_bV (ca 61 [vr_ (some 0), vi_ 2, vi_ v2, vi_ 0] s1) fun s3 =>
  (mm_bV (ca 61 [vr_ (some 0), vi_ 10, vi_ 0, vi_ 1] s3) fun s4 =>
  (mm_bV (ca 61 [vr_ (some 0), vi_ 3, vi_ x3, vi_ 0] s4) fun s5 =>
  some (none, s5)))))) := by rfl
set_option maxRecDepth 100000 in
theorem mb_commandOf_275 (x3 : Int32) (s : mm_S) : mm_B mt_lc mt_ln mt_ty mt_sg mt_st 0 mt_commandOf ca jm 1000 (pj_at mt_commandOf 275) [some (vr_ (some 0)), none, none, some (vi_ x3), none, none, none] [] s =
  ((mm_a 26000 28 x3 s).bind fun v1 =>
  (mm_bV (ca 61 [vr_ (some 0), vi_ 3, vi_ v1, vi_ 0] s) fun s2 =>
  (mm_bV (ca 61 [vr_ (some 0), vi_ 10, vi_ 0, vi_ (-1)] s2) fun s3 =>
  (mm_bV (ca 61 [vr_ (some 0), vi_ 2, vi_ x3, vi_ 0] s3) fun s4 =>
  some (none, (mm_u s4 0 79 ((s4 0 79) + 1))))))) := by rfl
set_option maxRecDepth 100000 in
theorem mb_commandOf_417 (x4 x5 : Int32) (s : mm_S) : mm_B mt_lc mt_ln mt_ty mt_sg mt_st 0 mt_commandOf ca jm 1000 (pj_at mt_commandOf 417) [some (vr_ (some 0)), none, none, none, some (vi_ x4), some (vi_ x5), none] [] s =
  (if x5 < 0 then
    (mm_bV (ca 66 [vr_ (some 0), vi_ x4] s) fun s1 =>
    some (none, s1))
  else
    ((mm_a 26000 25 x5 s).bind fun v2 =>
    (if v2 = 41 then
      (mm_bV (ca 61 [vr_ (some 0), vi_ 13, vi_ x5, vi_ 0] s) fun s3 =>
      ((mm_a 26000 28 x5 s3).bind fun v4 =>
      jm 417 [vr_ (some 0), vi_ x4, vi_ v4] [] s3))
    else
      (mm_bV (ca 61 [vr_ (some 0), vi_ 1, vi_ x5, vi_ 0] s) fun s5 =>
      ((mm_a 26000 28 x5 s5).bind fun v6 =>
      jm 417 [vr_ (some 0), vi_ x4, vi_ v6] [] s5))))) := by rfl
set_option maxRecDepth 100000 in
theorem mb_commandOf_540 (x1 x2 : Int32) (s : mm_S) : mm_B mt_lc mt_ln mt_ty mt_sg mt_st 0 mt_commandOf ca jm 1000 (pj_at mt_commandOf 540) [some (vr_ (some 0)), some (vi_ x1), some (vi_ x2), none, none, none, none] [] s =
  (if x2 = 31 then
    (if (s 0 80) = 0 then
      ((mm_a 26000 26 x1 s).bind fun v1 =>
      (mm_bI (ca 46 [vr_ (some 0), vi_ v1] s) fun v3 s2 =>
      (mm_bV (ca 45 [vr_ (some 0), vi_ 6, vi_ v3] s2) fun s4 =>
      some (none, s4))))
    else
      jm 553 [vr_ (some 0), vi_ x1, vi_ x2] [] s)
  else
    jm 553 [vr_ (some 0), vi_ x1, vi_ x2] [] s) := by rfl
set_option maxRecDepth 100000 in
theorem mb_commandOf_553 (x1 x2 : Int32) (s : mm_S) : mm_B mt_lc mt_ln mt_ty mt_sg mt_st 0 mt_commandOf ca jm 1000 (pj_at mt_commandOf 553) [some (vr_ (some 0)), some (vi_ x1), some (vi_ x2), none, none, none, none] [] s =
  (if x2 = 32 then
    (if (s 0 76) = 0 then
      some (none, s)
    else
      ((mm_a 26000 26 x1 s).bind fun v1 =>
      (mm_bI (ca 46 [vr_ (some 0), vi_ v1] s) fun v3 s2 =>
      (mm_bV (ca 45 [vr_ (some 0), vi_ 6, vi_ v3] s2) fun s4 =>
      some (none, s4)))))
  else
    some (none, s)) := by rfl
set_option maxRecDepth 100000 in
theorem mb_goesTo (x1 : Int32) (s : mm_S) : mm_B mt_lc mt_ln mt_ty mt_sg mt_st 0 mt_goesTo ca jm 1000 mt_goesTo [some (vr_ (some 0)), some (vi_ x1), none] [] s =
  ((mm_a 26000 29 x1 s).bind fun v1 =>
  (mm_bI (ca 47 [vr_ (some 0), vi_ v1] s) fun v3 s2 =>
  ((mm_w 26000 31 x1 (-1) s2).bind fun s4 =>
  (if v3 < 0 then
    ((mm_a 26000 26 x1 s4).bind fun v5 =>
    (mm_bI (ca 46 [vr_ (some 0), vi_ v5] s4) fun v7 s6 =>
    (mm_bV (ca 45 [vr_ (some 0), vi_ 3, vi_ v7] s6) fun s8 =>
    some (none, s8))))
  else
    ((mm_a 9000 51 v3 s4).bind fun v9 =>
    (if v9 = 5 then
      ((mm_a 9000 53 v3 s4).bind fun v10 =>
      (if v10 = (s4 0 73) then
        ((mm_a 9000 54 v3 s4).bind fun v11 =>
        (if v11 = (s4 0 77) then
          ((mm_a 9000 52 v3 s4).bind fun v12 =>
          ((mm_w 26000 31 x1 v12 s4).bind fun s13 =>
          some (none, s13)))
        else
          jm 74 [vr_ (some 0), vi_ x1, vi_ v3] [] s4))
      else
        jm 74 [vr_ (some 0), vi_ x1, vi_ v3] [] s4))
    else
      jm 74 [vr_ (some 0), vi_ x1, vi_ v3] [] s4)))))) := by rfl
set_option maxRecDepth 100000 in
theorem mb_goesTo_74 (x1 x2 : Int32) (s : mm_S) : mm_B mt_lc mt_ln mt_ty mt_sg mt_st 0 mt_goesTo ca jm 1000 (pj_at mt_goesTo 74) [some (vr_ (some 0)), some (vi_ x1), some (vi_ x2)] [] s =
  ((mm_a 26000 26 x1 s).bind fun v1 =>
  (mm_bI (ca 46 [vr_ (some 0), vi_ v1] s) fun v3 s2 =>
  (mm_bV (ca 45 [vr_ (some 0), vi_ 6, vi_ v3] s2) fun s4 =>
  ((mm_a 9000 52 x2 s4).bind fun v5 =>
  ((mm_w 26000 31 x1 v5 s4).bind fun s6 =>
  some (none, s6)))))) := by rfl
set_option maxRecDepth 100000 in
theorem mb_named (x1 : Int32) (s : mm_S) : mm_B mt_lc mt_ln mt_ty mt_sg mt_st 1 mt_named ca jm 1000 mt_named [some (vr_ (some 0)), some (vi_ x1), none] [] s =
  ((mm_a 26000 29 x1 s).bind fun v1 =>
  (mm_bI (ca 47 [vr_ (some 0), vi_ v1] s) fun v3 s2 =>
  (if v3 < 0 then
    ((mm_a 26000 26 x1 s2).bind fun v4 =>
    (mm_bI (ca 46 [vr_ (some 0), vi_ v4] s2) fun v6 s5 =>
    (mm_bV (ca 45 [vr_ (some 0), vi_ 3, vi_ v6] s5) fun s7 =>
    ((mm_w 26000 30 x1 0 s7).bind fun s8 =>
    some (some (vi_ (-1)), s8)))))
  else
    ((mm_a 9000 51 v3 s2).bind fun v9 =>
    ((mm_w 26000 30 x1 v9 s2).bind fun s10 =>
    ((mm_a 9000 52 v3 s10).bind fun v11 =>
    ((mm_w 26000 31 x1 v11 s10).bind fun s12 =>
    ((mm_a 9000 51 v3 s12).bind fun v13 =>
    (if v13 = 4 then
      ((mm_a 9000 53 v3 s12).bind fun v14 =>
      (if v14 = (s12 0 73) then
        jm 101 [vr_ (some 0), vi_ x1, vi_ v3] [] s12
      else
        ((mm_a 26000 26 x1 s12).bind fun v15 =>
        (mm_bI (ca 46 [vr_ (some 0), vi_ v15] s12) fun v17 s16 =>
        (mm_bV (ca 45 [vr_ (some 0), vi_ 5, vi_ v17] s16) fun s18 =>
        jm 101 [vr_ (some 0), vi_ x1, vi_ v3] [] s18)))))
    else
      jm 101 [vr_ (some 0), vi_ x1, vi_ v3] [] s12))))))))) := by rfl
set_option maxRecDepth 100000 in
theorem mb_named_101 (x1 x2 : Int32) (s : mm_S) : mm_B mt_lc mt_ln mt_ty mt_sg mt_st 1 mt_named ca jm 1000 (pj_at mt_named 101) [some (vr_ (some 0)), some (vi_ x1), some (vi_ x2)] [] s =
  ((mm_a 9000 51 x2 s).bind fun v1 =>
  (if v1 = 5 then
    ((mm_a 26000 26 x1 s).bind fun v2 =>
    (mm_bI (ca 46 [vr_ (some 0), vi_ v2] s) fun v4 s3 =>
    (mm_bV (ca 45 [vr_ (some 0), vi_ 6, vi_ v4] s3) fun s5 =>
    some (some (vi_ x2), s5))))
  else
    some (some (vi_ x2), s))) := by rfl
set_option maxRecDepth 100000 in
theorem mb_placeOf (x1 x2 : Int32) (s : mm_S) : mm_B mt_lc mt_ln mt_ty mt_sg mt_st 0 mt_placeOf ca jm 1000 mt_placeOf [some (vr_ (some 0)), some (vi_ x1), some (vi_ x2), none, none, none] [] s =
  ((mm_a 26000 25 x1 s).bind fun v1 =>
  (if v1 = 7 then
    jm 50 [vr_ (some 0), vi_ x1, vi_ v1] [vi_ 1] s
  else
    (if v1 = 9 then
      ((mm_a 26000 29 x1 s).bind fun v2 =>
      (if v2 = 18 then
        jm 50 [vr_ (some 0), vi_ x1, vi_ v1] [vi_ 1] s
      else
        (if x2 = 0 then
          jm 50 [vr_ (some 0), vi_ x1, vi_ v1] [vi_ 0] s
        else
          ((mm_a 26000 29 x1 s).bind fun v3 =>
          (if v3 = 19 then
            jm 50 [vr_ (some 0), vi_ x1, vi_ v1] [vi_ 1] s
          else
            jm 50 [vr_ (some 0), vi_ x1, vi_ v1] [vi_ 0] s)))))
    else
      jm 50 [vr_ (some 0), vi_ x1, vi_ v1] [vi_ 0] s))) := by rfl
set_option maxRecDepth 100000 in
theorem mb_placeOf_50 (x1 x3 y0 : Int32) (s : mm_S) : mm_B mt_lc mt_ln mt_ty mt_sg mt_st 0 mt_placeOf ca jm 1000 (pj_at mt_placeOf 50) [some (vr_ (some 0)), some (vi_ x1), none, some (vi_ x3), none, none] [vi_ y0] s =
  (if x3 = 1 then
    (mm_bI (ca 87 [vr_ (some 0), vi_ x1] s) fun v2 s1 =>
    (if v2 < 0 then
      some (none, s1)
    else
      ((mm_a 9000 51 v2 s1).bind fun v3 =>
      (if v3 = 2 then
        ((mm_a 26000 34 x1 s1).bind fun v4 =>
        (mm_bI (ca 46 [vr_ (some 0), vi_ v4] s1) fun v6 s5 =>
        (mm_bV (ca 45 [vr_ (some 0), vi_ 6, vi_ v6] s5) fun s7 =>
        some (none, s7))))
      else
        ((mm_a 9000 51 v2 s1).bind fun v8 =>
        (if v8 = 6 then
          ((mm_a 26000 34 x1 s1).bind fun v9 =>
          (mm_bI (ca 46 [vr_ (some 0), vi_ v9] s1) fun v11 s10 =>
          (mm_bV (ca 45 [vr_ (some 0), vi_ 6, vi_ v11] s10) fun s12 =>
          some (none, s12))))
        else
          ((mm_a 9000 51 v2 s1).bind fun v13 =>
          (if v13 = 5 then
            ((mm_a 26000 34 x1 s1).bind fun v14 =>
            (mm_bI (ca 46 [vr_ (some 0), vi_ v14] s1) fun v16 s15 =>
            (mm_bV (ca 45 [vr_ (some 0), vi_ 6, vi_ v16] s15) fun s17 =>
            some (none, s17))))
          else
            some (none, s1)))))))))
  else
    (if y0 = 0 then
      ((mm_a 26000 34 x1 s).bind fun v18 =>
      (mm_bI (ca 46 [vr_ (some 0), vi_ v18] s) fun v20 s19 =>
      (mm_bV (ca 45 [vr_ (some 0), vi_ 6, vi_ v20] s19) fun s21 =>
      (mm_bV (ca 61 [vr_ (some 0), vi_ 3, vi_ x1, vi_ 0] s21) fun s22 =>
      some (none, s22)))))
    else
      (mm_bV (ca 61 [vr_ (some 0), vi_ 3, vi_ x1, vi_ 0] s) fun s23 =>
      some (none, s23)))) := by rfl
set_option maxRecDepth 100000 in
theorem mb_expressionOf (x1 : Int32) (s : mm_S) : mm_B mt_lc mt_ln mt_ty mt_sg mt_st 0 mt_expressionOf ca jm 1000 mt_expressionOf [some (vr_ (some 0)), some (vi_ x1), none, none] [] s =
  ((mm_a 26000 25 x1 s).bind fun v1 =>
  (if v1 = 1 then
    (mm_bI (ca 87 [vr_ (some 0), vi_ x1] s) fun v3 s2 =>
    some (none, s2))
  else
    (if v1 = 3 then
      (mm_bV (ca 90 [vr_ (some 0), vi_ x1] s) fun s4 =>
      some (none, s4))
    else
      (if v1 = 5 then
        ((mm_w 26000 31 x1 (s 0 81) s).bind fun s5 =>
        ((mm_a 26000 27 x1 s5).bind fun v6 =>
        jm 56 [vr_ (some 0), vi_ v6] [] s5))
      else
        (if v1 = 4 then
          (mm_bV (ca 62 [vr_ (some 0), vi_ (s 0 77)] s) fun s7 =>
          (mm_bV (ca 62 [vr_ (some 0), vi_ (s7 0 79)] s7) fun s8 =>
          (mm_bV (ca 62 [vr_ (some 0), vi_ (s8 0 80)] s8) fun s9 =>
          (mm_bV (ca 61 [vr_ (some 0), vi_ 14, vi_ x1, vi_ 0] (mm_u (mm_u (mm_u (mm_u s9 0 78 ((s9 0 78) + 1)) 0 77 ((s9 0 78) + 1)) 0 79 0) 0 80 0)) fun s10 =>
          ((mm_a 26000 27 x1 s10).bind fun v11 =>
          (mm_bV (ca 61 [vr_ (some 0), vi_ 2, vi_ v11, vi_ 0] s10) fun s12 =>
          some (none, s12)))))))
        else
          (if v1 = 8 then
            ((mm_a 26000 27 x1 s).bind fun v13 =>
            (mm_bV (ca 61 [vr_ (some 0), vi_ 5, vi_ v13, vi_ 0] s) fun s14 =>
            some (none, s14)))
          else
            (if v1 = 6 then
              ((mm_w 26000 30 x1 (s 0 74) s).bind fun s15 =>
              (mm_bV (ca 65 [vr_ (some 0), vi_ x1, vi_ 3] s15) fun s16 =>
              some (none, s16)))
            else
              (mm_bV (ca 65 [vr_ (some 0), vi_ x1, vi_ 3] s) fun s17 =>
              some (none, s17))))))))) := by rfl
set_option maxRecDepth 100000 in
theorem mb_expressionOf_56 (x3 : Int32) (s : mm_S) : mm_B mt_lc mt_ln mt_ty mt_sg mt_st 0 mt_expressionOf ca jm 1000 (pj_at mt_expressionOf 56) [some (vr_ (some 0)), none, none, some (vi_ x3)] [] s =
  (if x3 < 0 then
    some (none, s)
  else
    (mm_bV (ca 59 [vr_ (some 0), vi_ x3] s) fun s1 =>
    (mm_bV (ca 64 [vr_ (some 0), vi_ (s1 0 81), vi_ (s1 0 59)] s1) fun s2 =>
    ((mm_a 26000 28 x3 (mm_u s2 0 81 ((s2 0 81) + 1))).bind fun v3 =>
    jm 56 [vr_ (some 0), vi_ v3] [] (mm_u s2 0 81 ((s2 0 81) + 1)))))) := by rfl
set_option maxRecDepth 100000 in
theorem mb_string (x1 : Int32) (s : mm_S) : mm_B mt_lc mt_ln mt_ty mt_sg mt_st 0 mt_string ca jm 1000 mt_string [some (vr_ (some 0)), some (vi_ x1), none, none, none, none, none, none, none] [] s =
  ((mm_a 26000 29 x1 s).bind fun v1 =>
  ((mm_w 26000 31 x1 (s 0 81) s).bind fun s2 =>
  ((mm_a 3100 17 v1 s2).bind fun v3 =>
  jm 29 [vr_ (some 0), vi_ v1, vi_ (v3 + 1), vi_ 0] [] s2))) := by rfl
set_option maxRecDepth 100000 in
theorem mb_string_29 (x2 x3 x4 : Int32) (s : mm_S) : mm_B mt_lc mt_ln mt_ty mt_sg mt_st 0 mt_string ca jm 1000 (pj_at mt_string 29) [some (vr_ (some 0)), none, some (vi_ x2), some (vi_ x3), some (vi_ x4), none, none, none, none] [] s =
  (if x4 < x3 then
    jm 41 [vr_ (some 0), vi_ x2, vi_ x3, vi_ x4, vi_ 0, vi_ 3] [] s
  else
    some (none, s)) := by rfl
set_option maxRecDepth 100000 in
theorem mb_string_41 (x2 x3 x4 x5 x6 : Int32) (s : mm_S) : mm_B mt_lc mt_ln mt_ty mt_sg mt_st 0 mt_string ca jm 1000 (pj_at mt_string 41) [some (vr_ (some 0)), none, some (vi_ x2), some (vi_ x3), some (vi_ x4), some (vi_ x5), some (vi_ x6), none, none] [] s =
  (if x6 < 0 then
    (mm_bV (ca 64 [vr_ (some 0), vi_ (s 0 81), vi_ x5] s) fun s1 =>
    jm 29 [vr_ (some 0), vi_ x2, vi_ x3, vi_ (x4 + 4)] [] (mm_u s1 0 81 ((s1 0 81) + 1)))
  else
    (if (x4 + x6) = 0 then
      ((mm_a 3100 17 x2 s).bind fun v2 =>
      jm 41 [vr_ (some 0), vi_ x2, vi_ x3, vi_ x4, vi_ ((x5 <<< (8 &&& 31)) ||| v2), vi_ (x6 + (-1))] [] s)
    else
      (if (x4 + x6) < x3 then
        ((mm_a 3100 16 x2 s).bind fun v3 =>
        ((mm_a 6000 14 ((v3 + (x4 + x6)) - 1) s).bind fun v4 =>
        jm 41 [vr_ (some 0), vi_ x2, vi_ x3, vi_ x4, vi_ ((x5 <<< (8 &&& 31)) ||| (v4 &&& 255)), vi_ (x6 + (-1))] [] s))
      else
        jm 41 [vr_ (some 0), vi_ x2, vi_ x3, vi_ x4, vi_ ((x5 <<< (8 &&& 31)) ||| 0), vi_ (x6 + (-1))] [] s))) := by rfl
set_option maxRecDepth 100000 in
theorem mb_todoTask (x1 x2 x3 : Int32) (s : mm_S) : mm_B mt_lc mt_ln mt_ty mt_sg mt_st 0 mt_todoTask ca jm 1000 mt_todoTask [some (vr_ (some 0)), some (vi_ x1), some (vi_ x2), some (vi_ x3)] [] s =
  (if (s 0 87) = 620000 then
    none
  else
    ((mm_w 620000 88 (s 0 87) x1 s).bind fun s1 =>
    ((mm_w 620000 89 (s1 0 87) x2 s1).bind fun s2 =>
    ((mm_w 620000 90 (s2 0 87) x3 s2).bind fun s3 =>
    some (none, (mm_u s3 0 87 ((s3 0 87) + 1))))))) := by rfl
set_option maxRecDepth 100000 in
theorem mb_err (x1 : Int32) (s : mm_S) : mm_B mt_lc mt_ln mt_ty mt_sg mt_st 0 mt_err ca jm 1000 mt_err [some (vr_ (some 0)), some (vi_ x1)] [] s =
  (if (s 0 102) = 0 then
    some (none, (mm_u (mm_u (mm_u s 0 102 1) 0 103 x1) 0 104 0))
  else
    some (none, s)) := by rfl
set_option maxRecDepth 100000 in
theorem mb_burns (s : mm_S) : mm_B mt_lc mt_ln mt_ty mt_sg mt_st 4 mt_burns ca jm 1000 mt_burns [some (vr_ (some 0))] [] s =
  (if (s 0 101) = 0 then
    (mm_bV (ca 93 [vr_ (some 0), vi_ 1] s) fun s1 =>
    some (some (vi_ 0), s1))
  else
    some (some (vi_ 1), (mm_u s 0 101 ((s 0 101) - 1)))) := by rfl
set_option maxRecDepth 100000 in
theorem mb_push (x1 : Int32) (s : mm_S) : mm_B mt_lc mt_ln mt_ty mt_sg mt_st 0 mt_push ca jm 1000 mt_push [some (vr_ (some 0)), some (vi_ x1)] [] s =
  (if (s 0 91) = 300000 then
    none
  else
    ((mm_w 300000 92 (s 0 91) x1 s).bind fun s1 =>
    some (none, (mm_u s1 0 91 ((s1 0 91) + 1))))) := by rfl
set_option maxRecDepth 100000 in
theorem mb_pop (s : mm_S) : mm_B mt_lc mt_ln mt_ty mt_sg mt_st 1 mt_pop ca jm 1000 mt_pop [some (vr_ (some 0))] [] s =
  ((mm_a 300000 92 ((s 0 91) - 1) (mm_u s 0 91 ((s 0 91) - 1))).bind fun v1 =>
  some (some (vi_ v1), (mm_u s 0 91 ((s 0 91) - 1)))) := by rfl
set_option maxRecDepth 100000 in
theorem mb_read (x1 : Int64) (s : mm_S) : mm_B mt_lc mt_ln mt_ty mt_sg mt_st 1 mt_read ca jm 1000 mt_read [some (vr_ (some 0)), some (vl_ x1), none] [] s =
  (if (lg_cmp x1 0) < 0 then
    (mm_bV (ca 93 [vr_ (some 0), vi_ 2] s) fun s1 =>
    some (some (vi_ 0), s1))
  else
    (if (lg_cmp x1 ((s 0 99) : Int32).toInt64) < 0 then
      ((mm_a 65536 98 (x1 : Int64).toInt32 s).bind fun v2 =>
      some (some (vi_ v2), s))
    else
      (mm_bV (ca 93 [vr_ (some 0), vi_ 2] s) fun s3 =>
      some (some (vi_ 0), s3)))) := by rfl
set_option maxRecDepth 100000 in
theorem mb_write (x3 : Int32) (x1 : Int64) (s : mm_S) : mm_B mt_lc mt_ln mt_ty mt_sg mt_st 0 mt_write ca jm 1000 mt_write [some (vr_ (some 0)), some (vl_ x1), none, some (vi_ x3)] [] s =
  (if (lg_cmp x1 0) < 0 then
    (mm_bV (ca 93 [vr_ (some 0), vi_ 2] s) fun s1 =>
    some (none, s1))
  else
    (if (lg_cmp x1 ((s 0 99) : Int32).toInt64) < 0 then
      ((mm_w 65536 98 (x1 : Int64).toInt32 x3 s).bind fun s2 =>
      some (none, s2))
    else
      (mm_bV (ca 93 [vr_ (some 0), vi_ 2] s) fun s3 =>
      some (none, s3)))) := by rfl
set_option maxRecDepth 100000 in
theorem mb_wordOf (x1 : Int32) (s : mm_S) : mm_B mt_lc mt_ln mt_ty mt_sg mt_st 1 mt_wordOf ca jm 1000 mt_wordOf [some (vr_ (some 0)), some (vi_ x1)] [] s =
  ((mm_a 26000 30 x1 s).bind fun v1 =>
  (if v1 = 1 then
    ((mm_a 26000 31 x1 s).bind fun v2 =>
    some (some (vi_ v2), s))
  else
    ((mm_a 26000 30 x1 s).bind fun v3 =>
    (if v3 = 3 then
      ((mm_a 26000 31 x1 s).bind fun v4 =>
      ((mm_a 26000 31 v4 s).bind fun v5 =>
      some (some (vi_ v5), s)))
    else
      ((mm_a 26000 30 x1 s).bind fun v6 =>
      (if v6 = 4 then
        ((mm_a 26000 31 x1 s).bind fun v7 =>
        some (some (vi_ ((s 0 96) + v7)), s))
      else
        some (some (vi_ (-1)), s))))))) := by rfl
set_option maxRecDepth 100000 in
theorem mb_evaluate (x1 : Int32) (s : mm_S) : mm_B mt_lc mt_ln mt_ty mt_sg mt_st 0 mt_evaluate ca jm 1000 mt_evaluate [some (vr_ (some 0)), some (vi_ x1), none, none, none, none] [] s =
  ((mm_a 26000 25 x1 s).bind fun v1 =>
  (if v1 = 2 then
    ((mm_a 26000 29 x1 s).bind fun v2 =>
    (mm_bV (ca 95 [vr_ (some 0), vi_ v2] s) fun s3 =>
    some (none, s3)))
  else
    (if v1 = 3 then
      ((mm_a 26000 31 x1 s).bind fun v4 =>
      (mm_bV (ca 95 [vr_ (some 0), vi_ v4] s) fun s5 =>
      some (none, s5)))
    else
      (if v1 = 5 then
        ((mm_a 26000 31 x1 s).bind fun v6 =>
        (mm_bV (ca 95 [vr_ (some 0), vi_ v6] s) fun s7 =>
        some (none, s7)))
      else
        (if v1 = 1 then
          (mm_bI (ca 99 [vr_ (some 0), vi_ x1] s) fun v9 s8 =>
          (if v9 < 0 then
            ((mm_a 26000 31 x1 s8).bind fun v10 =>
            (mm_bV (ca 95 [vr_ (some 0), vi_ v10] s8) fun s11 =>
            some (none, s11)))
          else
            ((mm_a 65536 98 v9 s8).bind fun v12 =>
            (mm_bV (ca 95 [vr_ (some 0), vi_ v12] s8) fun s13 =>
            some (none, s13)))))
        else
          (if v1 = 4 then
            (mm_bV (ca 92 [vr_ (some 0), vi_ 8, vi_ x1, vi_ (s 0 91)] s) fun s14 =>
            ((mm_a 26000 27 x1 s14).bind fun v15 =>
            (mm_bV (ca 92 [vr_ (some 0), vi_ 10, vi_ v15, vi_ 0] s14) fun s16 =>
            some (none, s16))))
          else
            (if v1 = 8 then
              ((mm_a 26000 27 x1 s).bind fun v17 =>
              (mm_bV (ca 102 [vr_ (some 0), vi_ v17] s) fun s18 =>
              some (none, s18)))
            else
              (if v1 = 12 then
                (mm_bV (ca 92 [vr_ (some 0), vi_ 5, vi_ x1, vi_ 0] s) fun s19 =>
                ((mm_a 26000 27 x1 s19).bind fun v20 =>
                (mm_bV (ca 92 [vr_ (some 0), vi_ 1, vi_ v20, vi_ 0] s19) fun s21 =>
                some (none, s21))))
              else
                (if v1 = 11 then
                  ((mm_a 26000 27 x1 s).bind fun v22 =>
                  ((mm_a 26000 28 v22 s).bind fun v23 =>
                  (mm_bV (ca 92 [vr_ (some 0), vi_ 6, vi_ v23, vi_ 0] s) fun s24 =>
                  ((mm_a 26000 27 x1 s24).bind fun v25 =>
                  (mm_bV (ca 92 [vr_ (some 0), vi_ 1, vi_ v25, vi_ 0] s24) fun s26 =>
                  some (none, s26))))))
                else
                  (if v1 = 6 then
                    ((mm_a 26000 27 x1 s).bind fun v27 =>
                    ((mm_a 26000 28 v27 s).bind fun v28 =>
                    jm 230 [vr_ (some 0), vi_ x1, vi_ (s 0 87), vi_ 0, vi_ v28] [] s))
                  else
                    (if v1 = 9 then
                      (mm_bV (ca 92 [vr_ (some 0), vi_ 2, vi_ x1, vi_ 0] s) fun s29 =>
                      ((mm_a 26000 27 x1 s29).bind fun v30 =>
                      jm 327 [vr_ (some 0), vi_ (s29 0 87), vi_ v30] [] s29))
                    else
                      (if v1 = 10 then
                        (mm_bV (ca 92 [vr_ (some 0), vi_ 3, vi_ x1, vi_ 0] s) fun s31 =>
                        ((mm_a 26000 27 x1 s31).bind fun v32 =>
                        jm 327 [vr_ (some 0), vi_ (s31 0 87), vi_ v32] [] s31))
                      else
                        (mm_bV (ca 92 [vr_ (some 0), vi_ 4, vi_ x1, vi_ 0] s) fun s33 =>
                        ((mm_a 26000 27 x1 s33).bind fun v34 =>
                        jm 327 [vr_ (some 0), vi_ (s33 0 87), vi_ v34] [] s33)))))))))))))) := by rfl
set_option maxRecDepth 100000 in
theorem mb_evaluate_230 (x1 x3 x4 x5 : Int32) (s : mm_S) : mm_B mt_lc mt_ln mt_ty mt_sg mt_st 0 mt_evaluate ca jm 1000 (pj_at mt_evaluate 230) [some (vr_ (some 0)), some (vi_ x1), none, some (vi_ x3), some (vi_ x4), some (vi_ x5)] [] s =
  (if x5 < 0 then
    ((mm_a 26000 27 x1 s).bind fun v1 =>
    (mm_bV (ca 92 [vr_ (some 0), vi_ 1, vi_ v1, vi_ 0] s) fun s2 =>
    (mm_bV (ca 92 [vr_ (some 0), vi_ 7, vi_ x1, vi_ x4] s2) fun s3 =>
    (mm_bV (ca 101 [vr_ (some 0), vi_ x3] s3) fun s4 =>
    some (none, s4)))))
  else
    (mm_bV (ca 92 [vr_ (some 0), vi_ 1, vi_ x5, vi_ 0] s) fun s5 =>
    ((mm_a 26000 28 x5 s5).bind fun v6 =>
    jm 230 [vr_ (some 0), vi_ x1, vi_ x3, vi_ (x4 + 1), vi_ v6] [] s5))) := by rfl
set_option maxRecDepth 100000 in
theorem mb_evaluate_327 (x3 x4 : Int32) (s : mm_S) : mm_B mt_lc mt_ln mt_ty mt_sg mt_st 0 mt_evaluate ca jm 1000 (pj_at mt_evaluate 327) [some (vr_ (some 0)), none, none, some (vi_ x3), some (vi_ x4), none] [] s =
  (if x4 < 0 then
    (mm_bV (ca 101 [vr_ (some 0), vi_ x3] s) fun s1 =>
    some (none, s1))
  else
    (mm_bV (ca 92 [vr_ (some 0), vi_ 1, vi_ x4, vi_ 0] s) fun s2 =>
    ((mm_a 26000 28 x4 s2).bind fun v3 =>
    jm 327 [vr_ (some 0), vi_ x3, vi_ v3] [] s2))) := by rfl
set_option maxRecDepth 100000 in
theorem mb_turnTodo (x1 : Int32) (s : mm_S) : mm_B mt_lc mt_ln mt_ty mt_sg mt_st 0 mt_turnTodo ca jm 1000 mt_turnTodo [some (vr_ (some 0)), some (vi_ x1), none, none, none, none, none] [] s =
  jm 9 [vr_ (some 0), vi_ x1, vi_ ((s 0 87) - 1)] [] s := by rfl
set_option maxRecDepth 100000 in
theorem mb_turnTodo_9 (x2 x3 : Int32) (s : mm_S) : mm_B mt_lc mt_ln mt_ty mt_sg mt_st 0 mt_turnTodo ca jm 1000 (pj_at mt_turnTodo 9) [some (vr_ (some 0)), none, some (vi_ x2), some (vi_ x3), none, none, none] [] s =
  (if x2 < x3 then
    ((mm_a 620000 88 x2 s).bind fun v1 =>
    ((mm_a 620000 89 x2 s).bind fun v2 =>
    ((mm_a 620000 90 x2 s).bind fun v3 =>
    ((mm_a 620000 88 x3 s).bind fun v4 =>
    ((mm_w 620000 88 x2 v4 s).bind fun s5 =>
    ((mm_a 620000 89 x3 s5).bind fun v6 =>
    ((mm_w 620000 89 x2 v6 s5).bind fun s7 =>
    ((mm_a 620000 90 x3 s7).bind fun v8 =>
    ((mm_w 620000 90 x2 v8 s7).bind fun s9 =>
    ((mm_w 620000 88 x3 v1 s9).bind fun s10 =>
    ((mm_w 620000 89 x3 v2 s10).bind fun s11 =>
    ((mm_w 620000 90 x3 v3 s11).bind fun s12 =>
    jm 9 [vr_ (some 0), vi_ (x2 + 1), vi_ (x3 + (-1))] [] s12))))))))))))
  else
    some (none, s)) := by rfl
set_option maxRecDepth 100000 in
theorem mb_address (x1 : Int32) (s : mm_S) : mm_B mt_lc mt_ln mt_ty mt_sg mt_st 0 mt_address ca jm 1000 mt_address [some (vr_ (some 0)), some (vi_ x1), none] [] s =
  ((mm_a 26000 25 x1 s).bind fun v1 =>
  (if v1 = 1 then
    (mm_bI (ca 99 [vr_ (some 0), vi_ x1] s) fun v3 s2 =>
    (mm_bV (ca 95 [vr_ (some 0), vi_ v3] s2) fun s4 =>
    some (none, s4)))
  else
    (if v1 = 7 then
      ((mm_a 26000 27 x1 s).bind fun v5 =>
      (mm_bV (ca 92 [vr_ (some 0), vi_ 1, vi_ v5, vi_ 0] s) fun s6 =>
      some (none, s6)))
    else
      (mm_bV (ca 92 [vr_ (some 0), vi_ 9, vi_ x1, vi_ 0] s) fun s7 =>
      ((mm_a 26000 27 x1 s7).bind fun v8 =>
      ((mm_a 26000 28 v8 s7).bind fun v9 =>
      (mm_bV (ca 92 [vr_ (some 0), vi_ 1, vi_ v9, vi_ 0] s7) fun s10 =>
      ((mm_a 26000 27 x1 s10).bind fun v11 =>
      (mm_bV (ca 92 [vr_ (some 0), vi_ 1, vi_ v11, vi_ 0] s10) fun s12 =>
      some (none, s12)))))))))) := by rfl
set_option maxRecDepth 100000 in
theorem mb_bin (x1 : Int32) (s : mm_S) : mm_B mt_lc mt_ln mt_ty mt_sg mt_st 0 mt_bin ca jm 1000 mt_bin [some (vr_ (some 0)), some (vi_ x1), none, none, none] [] s =
  (mm_bI (ca 96 [vr_ (some 0)] s) fun v2 s1 =>
  (mm_bI (ca 96 [vr_ (some 0)] s1) fun v4 s3 =>
  ((mm_a 26000 29 x1 s3).bind fun v5 =>
  (if v5 = 18 then
    (mm_bI (ca 97 [vr_ (some 0), vl_ ((v4 + v2) : Int32).toInt64] s3) fun v7 s6 =>
    (mm_bV (ca 95 [vr_ (some 0), vi_ v7] s6) fun s8 =>
    some (none, s8)))
  else
    (if v5 = 19 then
      (mm_bI (ca 97 [vr_ (some 0), vl_ ((v4 : Int32).toInt64 + ((v2 >>> (2 &&& 31)) : Int32).toInt64)] s3) fun v10 s9 =>
      (mm_bV (ca 95 [vr_ (some 0), vi_ (((v10 : Int32).toUInt32 >>> (((8 * (v2 &&& 3)) : Int32).toUInt32 &&& Int32.toUInt32 31)).toInt32 &&& 255)] s9) fun s11 =>
      some (none, s11)))
    else
      (if v5 = 24 then
        (if v2 = 0 then
          (mm_bV (ca 93 [vr_ (some 0), vi_ 3] s3) fun s12 =>
          some (none, s12))
        else
          (mm_bI (ca 56 [vi_ v5, vi_ v4, vi_ v2] s3) fun v14 s13 =>
          (mm_bV (ca 95 [vr_ (some 0), vi_ v14] s13) fun s15 =>
          some (none, s15))))
      else
        (if v5 = 73 then
          (if v2 = 0 then
            (mm_bV (ca 93 [vr_ (some 0), vi_ 3] s3) fun s16 =>
            some (none, s16))
          else
            (mm_bI (ca 56 [vi_ v5, vi_ v4, vi_ v2] s3) fun v18 s17 =>
            (mm_bV (ca 95 [vr_ (some 0), vi_ v18] s17) fun s19 =>
            some (none, s19))))
        else
          (mm_bI (ca 56 [vi_ v5, vi_ v4, vi_ v2] s3) fun v21 s20 =>
          (mm_bV (ca 95 [vr_ (some 0), vi_ v21] s20) fun s22 =>
          some (none, s22)))))))))) := by rfl
set_option maxRecDepth 100000 in
theorem mb_rel (x1 x2 : Int32) (s : mm_S) : mm_B mt_lc mt_ln mt_ty mt_sg mt_st 0 mt_rel ca jm 1000 mt_rel [some (vr_ (some 0)), some (vi_ x1), some (vi_ x2), none, none, none] [] s =
  (if x2 = 0 then
    (mm_bV (ca 92 [vr_ (some 0), vi_ 6, vi_ x1, vi_ 1] s) fun s1 =>
    (mm_bV (ca 92 [vr_ (some 0), vi_ 1, vi_ x1, vi_ 0] s1) fun s2 =>
    some (none, s2)))
  else
    (mm_bI (ca 96 [vr_ (some 0)] s) fun v4 s3 =>
    (mm_bI (ca 96 [vr_ (some 0)] s3) fun v6 s5 =>
    ((mm_a 26000 33 x1 s5).bind fun v7 =>
    (mm_bI (ca 57 [vi_ v7, vi_ v6, vi_ v4] s5) fun v9 s8 =>
    (if v9 = 0 then
      (if v9 = 0 then
        (mm_bV (ca 95 [vr_ (some 0), vi_ 0] s8) fun s10 =>
        some (none, s10))
      else
        (mm_bV (ca 95 [vr_ (some 0), vi_ (-1)] s8) fun s11 =>
        some (none, s11)))
    else
      ((mm_a 26000 28 x1 s8).bind fun v12 =>
      (if v12 < 0 then
        (if v9 = 0 then
          (mm_bV (ca 95 [vr_ (some 0), vi_ 0] s8) fun s13 =>
          some (none, s13))
        else
          (mm_bV (ca 95 [vr_ (some 0), vi_ (-1)] s8) fun s14 =>
          some (none, s14)))
      else
        (mm_bV (ca 95 [vr_ (some 0), vi_ v4] s8) fun s15 =>
        ((mm_a 26000 28 x1 s15).bind fun v16 =>
        (mm_bV (ca 92 [vr_ (some 0), vi_ 6, vi_ v16, vi_ 1] s15) fun s17 =>
        ((mm_a 26000 28 x1 s17).bind fun v18 =>
        (mm_bV (ca 92 [vr_ (some 0), vi_ 1, vi_ v18, vi_ 0] s17) fun s19 =>
        some (none, s19)))))))))))))) := by rfl
set_option maxRecDepth 100000 in
theorem mb_limit (s : mm_S) : mm_B mt_lc mt_ln mt_ty mt_sg mt_st 1 mt_limit ca jm 1000 mt_limit [some (vr_ (some 0))] [] s =
  (if 0 < (s 0 106) then
    ((mm_a 100 107 ((s 0 106) - 1) s).bind fun v1 =>
    some (some (vi_ v1), s))
  else
    some (some (vi_ (s 0 99)), s)) := by rfl
set_option maxRecDepth 100000 in
theorem mb_enter (x1 x2 x3 : Int32) (s : mm_S) : mm_B mt_lc mt_ln mt_ty mt_sg mt_st 0 mt_enter ca jm 1000 mt_enter [some (vr_ (some 0)), some (vi_ x1), some (vi_ x2), some (vi_ x3), none, none, none] [] s =
  (mm_bI (ca 94 [vr_ (some 0)] s) fun v2 s1 =>
  (if v2 = 0 then
    some (none, s1)
  else
    (if (s1 0 95) = 100 then
      (mm_bV (ca 93 [vr_ (some 0), vi_ 5] s1) fun s3 =>
      some (none, s3))
    else
      ((mm_a 3100 70 x1 s1).bind fun v4 =>
      (mm_bI (ca 105 [vr_ (some 0)] s1) fun v6 s5 =>
      (if v6 < (x2 + v4) then
        (mm_bV (ca 93 [vr_ (some 0), vi_ 5] s5) fun s7 =>
        some (none, s7))
      else
        ((mm_w 65536 98 x2 (s5 0 96) s5).bind fun s8 =>
        ((mm_w 65536 98 (x2 + 1) (1000000 + x1) s8).bind fun s9 =>
        jm 72 [vr_ (some 0), vi_ x1, vi_ x2, vi_ x3, vi_ ((s5 0 91) - x3), vi_ 0] [] s9)))))))) := by rfl
set_option maxRecDepth 100000 in
theorem mb_enter_72 (x1 x2 x3 x4 x5 : Int32) (s : mm_S) : mm_B mt_lc mt_ln mt_ty mt_sg mt_st 0 mt_enter ca jm 1000 (pj_at mt_enter 72) [some (vr_ (some 0)), some (vi_ x1), some (vi_ x2), some (vi_ x3), some (vi_ x4), some (vi_ x5), none] [] s =
  ((mm_a 3100 71 x1 s).bind fun v1 =>
  (if x5 < v1 then
    (if x5 < x3 then
      ((mm_a 300000 92 (x4 + x5) s).bind fun v2 =>
      ((mm_w 65536 98 ((x2 + 2) + x5) v2 s).bind fun s3 =>
      jm 72 [vr_ (some 0), vi_ x1, vi_ x2, vi_ x3, vi_ x4, vi_ (x5 + 1)] [] s3))
    else
      ((mm_w 65536 98 ((x2 + 2) + x5) 0 s).bind fun s4 =>
      jm 72 [vr_ (some 0), vi_ x1, vi_ x2, vi_ x3, vi_ x4, vi_ (x5 + 1)] [] s4))
  else
    ((mm_w 600 93 (s 0 95) (s 0 96) (mm_u s 0 91 x4)).bind fun s5 =>
    ((mm_w 600 94 (s5 0 95) (s5 0 97) s5).bind fun s6 =>
    ((mm_a 3100 72 x1 (mm_u (mm_u (mm_u s6 0 95 ((s6 0 95) + 1)) 0 96 x2) 0 97 x1)).bind fun v7 =>
    ((mm_a 26000 25 v7 (mm_u (mm_u (mm_u s6 0 95 ((s6 0 95) + 1)) 0 96 x2) 0 97 x1)).bind fun v8 =>
    (if v8 < 20 then
      (if (1 : Int32) = 0 then
        jm 212 [vr_ (some 0), vi_ v7, vi_ 1] [vi_ 0, vi_ 18, vr_ (some 0)] (mm_u (mm_u (mm_u s6 0 95 ((s6 0 95) + 1)) 0 96 x2) 0 97 x1)
      else
        jm 212 [vr_ (some 0), vi_ v7, vi_ 1] [vi_ 1, vi_ 18, vr_ (some 0)] (mm_u (mm_u (mm_u s6 0 95 ((s6 0 95) + 1)) 0 96 x2) 0 97 x1))
    else
      (if (0 : Int32) = 0 then
        jm 212 [vr_ (some 0), vi_ v7, vi_ 0] [vi_ 0, vi_ 18, vr_ (some 0)] (mm_u (mm_u (mm_u s6 0 95 ((s6 0 95) + 1)) 0 96 x2) 0 97 x1)
      else
        jm 212 [vr_ (some 0), vi_ v7, vi_ 0] [vi_ 1, vi_ 18, vr_ (some 0)] (mm_u (mm_u (mm_u s6 0 95 ((s6 0 95) + 1)) 0 96 x2) 0 97 x1))))))))) := by rfl
set_option maxRecDepth 100000 in
theorem mb_enter_212 (x5 x6 y1 y2 : Int32) (s : mm_S) : mm_B mt_lc mt_ln mt_ty mt_sg mt_st 0 mt_enter ca jm 1000 (pj_at mt_enter 212) [some (vr_ (some 0)), none, none, none, none, some (vi_ x5), some (vi_ x6)] [vi_ y2, vi_ y1, vr_ (some 0)] s =
  (mm_bV (ca 92 [vr_ (some 0), vi_ y1, vi_ y2, vi_ (s 0 91)] s) fun s1 =>
  (if x6 = 0 then
    (mm_bV (ca 92 [vr_ (some 0), vi_ 10, vi_ x5, vi_ 0] s1) fun s2 =>
    some (none, s2))
  else
    (mm_bV (ca 92 [vr_ (some 0), vi_ 1, vi_ x5, vi_ 0] s1) fun s3 =>
    some (none, s3)))) := by rfl
set_option maxRecDepth 100000 in
theorem mb_call (x1 x2 : Int32) (s : mm_S) : mm_B mt_lc mt_ln mt_ty mt_sg mt_st 0 mt_call ca jm 1000 mt_call [some (vr_ (some 0)), some (vi_ x1), some (vi_ x2), none, none] [] s =
  (mm_bI (ca 96 [vr_ (some 0)] s) fun v2 s1 =>
  ((mm_a 26000 30 x1 s1).bind fun v3 =>
  (if v2 < 2000000 then
    jm 47 [vr_ (some 0), vi_ x2, vi_ v2, vi_ ((s1 0 96) + v3)] [] s1
  else
    (if v2 < 2000018 then
      (mm_bV (ca 121 [vr_ (some 0), vi_ (v2 - 2000000), vi_ x2, vi_ ((s1 0 96) + v3)] s1) fun s4 =>
      some (none, s4))
    else
      jm 47 [vr_ (some 0), vi_ x2, vi_ v2, vi_ ((s1 0 96) + v3)] [] s1)))) := by rfl
set_option maxRecDepth 100000 in
theorem mb_call_47 (x2 x3 x4 : Int32) (s : mm_S) : mm_B mt_lc mt_ln mt_ty mt_sg mt_st 0 mt_call ca jm 1000 (pj_at mt_call 47) [some (vr_ (some 0)), none, some (vi_ x2), some (vi_ x3), some (vi_ x4)] [] s =
  (if x3 < 1000000 then
    (mm_bV (ca 93 [vr_ (some 0), vi_ 4] s) fun s1 =>
    some (none, s1))
  else
    (if x3 < (1000000 + (s 0 69)) then
      (mm_bV (ca 106 [vr_ (some 0), vi_ (x3 - 1000000), vi_ x4, vi_ x2] s) fun s2 =>
      some (none, s2))
    else
      (mm_bV (ca 93 [vr_ (some 0), vi_ 4] s) fun s3 =>
      some (none, s3)))) := by rfl
set_option maxRecDepth 100000 in
theorem mb_arg (x1 x2 : Int32) (s : mm_S) : mm_B mt_lc mt_ln mt_ty mt_sg mt_st 1 mt_arg ca jm 1000 mt_arg [some (vr_ (some 0)), some (vi_ x1), some (vi_ x2)] [] s =
  (if x1 < x2 then
    ((mm_a 300000 92 (((s 0 91) - x2) + x1) s).bind fun v1 =>
    some (some (vi_ v1), s))
  else
    some (some (vi_ 0), s)) := by rfl
set_option maxRecDepth 100000 in
theorem mb_outByte (x1 : Int32) (s : mm_S) : mm_B mt_lc mt_ln mt_ty mt_sg mt_st 0 mt_outByte ca jm 1000 mt_outByte [some (vr_ (some 0)), some (vi_ x1), none] [] s =
  ((mm_a 2 116 (s 0 117) s).bind fun v1 =>
  (if v1 = 4096 then
    some (none, s)
  else
    ((mm_a 2 116 (s 0 117) s).bind fun v2 =>
    ((mm_w 8192 115 ((4096 * (s 0 117)) + v2) ((x1 : Int32).toInt8.toInt32).toInt8.toInt32 s).bind fun s3 =>
    ((mm_a 2 116 (s 0 117) s3).bind fun v4 =>
    ((mm_w 2 116 (s 0 117) (v4 + 1) s3).bind fun s5 =>
    some (none, s5))))))) := by rfl
set_option maxRecDepth 100000 in
theorem mb_decimal (x1 x2 : Int32) (s : mm_S) : mm_B mt_lc mt_ln mt_ty mt_sg mt_st 0 mt_decimal ca jm 1000 mt_decimal [some (vr_ (some 0)), some (vi_ x1), some (vi_ x2), none, none, none, none, none, none] [] s =
  ((mm_a 2 116 (s 0 117) s).bind fun v1 =>
  (if v1 = 4096 then
    some (none, s)
  else
    (if x1 < 0 then
      jm 35 [vr_ (some 0), vi_ x1, vi_ x2, vl_ (-(x1 : Int32).toInt64), vi_ 0, vi_ 1] [] s
    else
      jm 35 [vr_ (some 0), vi_ x1, vi_ x2, vl_ (x1 : Int32).toInt64, vi_ 0, vi_ 1] [] s))) := by rfl
set_option maxRecDepth 100000 in
theorem mb_decimal_35 (x1 x2 x5 x6 : Int32) (x3 : Int64) (s : mm_S) : mm_B mt_lc mt_ln mt_ty mt_sg mt_st 0 mt_decimal ca jm 1000 (pj_at mt_decimal 35) [some (vr_ (some 0)), some (vi_ x1), some (vi_ x2), some (vl_ x3), none, some (vi_ x5), some (vi_ x6), none, none] [] s =
  (if x6 = 0 then
    (if x1 < 0 then
      jm 102 [vr_ (some 0), vi_ x1, vi_ x2, vi_ x5, vi_ (x5 + 1)] [] s
    else
      jm 102 [vr_ (some 0), vi_ x1, vi_ x2, vi_ x5, vi_ x5] [] s)
  else
    ((pj_lrem x3 10).bind fun v1 =>
    ((mm_w 12 118 x5 ((((48 + v1) : Int64).toInt32 : Int32).toInt8.toInt32).toInt8.toInt32 s).bind fun s2 =>
    ((pj_ldiv x3 10).bind fun v3 =>
    (if 0 < (lg_cmp v3 0) then
      jm 35 [vr_ (some 0), vi_ x1, vi_ x2, vl_ v3, vi_ (x5 + 1), vi_ 1] [] s2
    else
      jm 35 [vr_ (some 0), vi_ x1, vi_ x2, vl_ v3, vi_ (x5 + 1), vi_ 0] [] s2))))) := by rfl
set_option maxRecDepth 100000 in
theorem mb_decimal_102 (x1 x2 x5 x8 : Int32) (s : mm_S) : mm_B mt_lc mt_ln mt_ty mt_sg mt_st 0 mt_decimal ca jm 1000 (pj_at mt_decimal 102) [some (vr_ (some 0)), some (vi_ x1), some (vi_ x2), none, none, some (vi_ x5), none, none, some (vi_ x8)] [] s =
  (if x8 < x2 then
    (mm_bV (ca 109 [vr_ (some 0), vi_ 32] s) fun s1 =>
    jm 102 [vr_ (some 0), vi_ x1, vi_ x2, vi_ x5, vi_ (x8 + 1)] [] s1)
  else
    (if x1 < 0 then
      (mm_bV (ca 109 [vr_ (some 0), vi_ 45] s) fun s2 =>
      jm 136 [vr_ (some 0), vi_ (x5 - 1)] [] s2)
    else
      jm 136 [vr_ (some 0), vi_ (x5 - 1)] [] s)) := by rfl
set_option maxRecDepth 100000 in
theorem mb_decimal_136 (x8 : Int32) (s : mm_S) : mm_B mt_lc mt_ln mt_ty mt_sg mt_st 0 mt_decimal ca jm 1000 (pj_at mt_decimal 136) [some (vr_ (some 0)), none, none, none, none, none, none, none, some (vi_ x8)] [] s =
  (if x8 < 0 then
    some (none, s)
  else
    ((mm_a 12 118 x8 s).bind fun v1 =>
    (mm_bV (ca 109 [vr_ (some 0), vi_ v1] s) fun s2 =>
    jm 136 [vr_ (some 0), vi_ (x8 + (-1))] [] s2))) := by rfl
set_option maxRecDepth 100000 in
theorem mb_nextByte (s : mm_S) : mm_B mt_lc mt_ln mt_ty mt_sg mt_st 1 mt_nextByte ca jm 1000 mt_nextByte [some (vr_ (some 0)), none] [] s =
  ((mm_a 4 113 (s 0 114) s).bind fun v1 =>
  ((mm_a 4 112 (s 0 114) s).bind fun v2 =>
  (if v1 = v2 then
    some (some (vi_ (-1)), s)
  else
    ((mm_a 4 113 (s 0 114) s).bind fun v3 =>
    ((mm_w 4 113 (s 0 114) (v3 + 1) s).bind fun s4 =>
    ((mm_a 4 113 (s 0 114) s4).bind fun v5 =>
    ((mm_a 24000 109 (((6000 * (s 0 114)) + v5) - 1) s4).bind fun v6 =>
    some (some (vi_ (v6 &&& 255)), s4)))))))) := by rfl
set_option maxRecDepth 100000 in
theorem mb_peek (s : mm_S) : mm_B mt_lc mt_ln mt_ty mt_sg mt_st 1 mt_peek ca jm 1000 mt_peek [some (vr_ (some 0)), none] [] s =
  ((mm_a 4 113 (s 0 114) s).bind fun v1 =>
  ((mm_a 4 112 (s 0 114) s).bind fun v2 =>
  (if v1 = v2 then
    some (some (vi_ (-1)), s)
  else
    ((mm_a 4 113 (s 0 114) s).bind fun v3 =>
    ((mm_a 24000 109 ((6000 * (s 0 114)) + v3) s).bind fun v4 =>
    some (some (vi_ (v4 &&& 255)), s)))))) := by rfl
set_option maxRecDepth 100000 in
theorem mb_readNumber (s : mm_S) : mm_B mt_lc mt_ln mt_ty mt_sg mt_st 1 mt_readNumber ca jm 1000 mt_readNumber [some (vr_ (some 0)), none, none, none, none] [] s =
  (mm_bI (ca 112 [vr_ (some 0)] s) fun v2 s1 =>
  (mm_bI (ca 114 [vi_ v2] s1) fun v4 s3 =>
  (if v4 = 0 then
    (mm_bI (ca 112 [vr_ (some 0)] s3) fun v6 s5 =>
    (if v6 = 45 then
      jm 54 [vr_ (some 0), vi_ (s 0 114), vi_ v6] [vi_ 1] s5
    else
      jm 54 [vr_ (some 0), vi_ (s 0 114), vi_ v6] [vi_ 0] s5))
  else
    ((mm_a 4 113 (s 0 114) s3).bind fun v7 =>
    ((mm_a 24000 110 ((6000 * (s 0 114)) + v7) s3).bind fun v8 =>
    ((mm_w 4 113 (s 0 114) v8 s3).bind fun s9 =>
    (mm_bI (ca 112 [vr_ (some 0)] s9) fun v11 s10 =>
    (if v11 = 45 then
      jm 54 [vr_ (some 0), vi_ (s 0 114), vi_ v11] [vi_ 1] s10
    else
      jm 54 [vr_ (some 0), vi_ (s 0 114), vi_ v11] [vi_ 0] s10)))))))) := by rfl
set_option maxRecDepth 100000 in
theorem mb_readNumber_54 (x1 x2 y0 : Int32) (s : mm_S) : mm_B mt_lc mt_ln mt_ty mt_sg mt_st 1 mt_readNumber ca jm 1000 (pj_at mt_readNumber 54) [some (vr_ (some 0)), some (vi_ x1), some (vi_ x2), none, none] [vi_ y0] s =
  (if y0 = 0 then
    (if x2 = 43 then
      (mm_bI (ca 111 [vr_ (some 0)] s) fun v2 s1 =>
      jm 70 [vr_ (some 0), vi_ x1, vi_ y0] [] s1)
    else
      jm 70 [vr_ (some 0), vi_ x1, vi_ y0] [] s)
  else
    (mm_bI (ca 111 [vr_ (some 0)] s) fun v4 s3 =>
    jm 70 [vr_ (some 0), vi_ x1, vi_ y0] [] s3)) := by rfl
set_option maxRecDepth 100000 in
theorem mb_readNumber_70 (x1 x3 : Int32) (s : mm_S) : mm_B mt_lc mt_ln mt_ty mt_sg mt_st 1 mt_readNumber ca jm 1000 (pj_at mt_readNumber 70) [some (vr_ (some 0)), some (vi_ x1), none, some (vi_ x3), none] [] s =
  (mm_bI (ca 112 [vr_ (some 0)] s) fun v2 s1 =>
  (mm_bI (ca 6 [vi_ v2] s1) fun v4 s3 =>
  (if v4 = 0 then
    some (some (vi_ 0), s3)
  else
    ((mm_a 4 113 x1 s3).bind fun v5 =>
    ((mm_a 24000 110 ((6000 * x1) + v5) s3).bind fun v6 =>
    ((mm_w 4 113 x1 v6 s3).bind fun s7 =>
    (if x3 = 0 then
      ((mm_a 24000 111 ((6000 * x1) + v5) s7).bind fun v8 =>
      some (some (vi_ v8), s7))
    else
      ((mm_a 24000 111 ((6000 * x1) + v5) s7).bind fun v9 =>
      some (some (vi_ (-v9)), s7))))))))) := by rfl
set_option maxRecDepth 100000 in
theorem mb_isBlank (x0 : Int32) (s : mm_S) : mm_B mt_lc mt_ln mt_ty mt_sg mt_st 4 mt_isBlank ca jm 1000 mt_isBlank [some (vi_ x0)] [] s =
  (if x0 = 32 then
    some (some (vi_ 1), s)
  else
    (if x0 = 9 then
      some (some (vi_ 1), s)
    else
      (if x0 = 10 then
        some (some (vi_ 1), s)
      else
        (if x0 = 13 then
          some (some (vi_ 1), s)
        else
          some (some (vi_ 0), s))))) := by rfl
set_option maxRecDepth 100000 in
theorem mb_rowsOf (x1 : Int32) (s : mm_S) : mm_B mt_lc mt_ln mt_ty mt_sg mt_st 0 mt_rowsOf ca jm 1000 mt_rowsOf [some (vr_ (some 0)), some (vi_ x1), none, none, none, none, none, none, none] [] s =
  ((mm_a 4 112 x1 s).bind fun v1 =>
  jm 11 [vr_ (some 0), vi_ x1, vi_ 1, vi_ (v1 - 1)] [] s) := by rfl
set_option maxRecDepth 100000 in
theorem mb_rowsOf_11 (x1 x2 x3 : Int32) (s : mm_S) : mm_B mt_lc mt_ln mt_ty mt_sg mt_st 0 mt_rowsOf ca jm 1000 (pj_at mt_rowsOf 11) [some (vr_ (some 0)), some (vi_ x1), some (vi_ x2), some (vi_ x3), none, none, none, none, none] [] s =
  (if x3 < 0 then
    some (none, s)
  else
    ((mm_a 24000 109 ((6000 * x1) + x3) s).bind fun v1 =>
    ((mm_a 4 112 x1 s).bind fun v2 =>
    (if (x3 + 1) < v2 then
      jm 54 [vr_ (some 0), vi_ x1, vi_ x2, vi_ x3, vi_ ((6000 * x1) + x3), vi_ (v1 &&& 255)] [vi_ 1] s
    else
      jm 54 [vr_ (some 0), vi_ x1, vi_ x2, vi_ x3, vi_ ((6000 * x1) + x3), vi_ (v1 &&& 255)] [vi_ 0] s)))) := by rfl
set_option maxRecDepth 100000 in
theorem mb_rowsOf_54 (x1 x2 x3 x4 x5 y0 : Int32) (s : mm_S) : mm_B mt_lc mt_ln mt_ty mt_sg mt_st 0 mt_rowsOf ca jm 1000 (pj_at mt_rowsOf 54) [some (vr_ (some 0)), some (vi_ x1), some (vi_ x2), some (vi_ x3), some (vi_ x4), some (vi_ x5), none, none, none] [vi_ y0] s =
  (if y0 = 0 then
    jm 78 [vr_ (some 0), vi_ x1, vi_ x2, vi_ x3, vi_ x4, vi_ x5] [vi_ (-1)] s
  else
    ((mm_a 24000 109 (x4 + 1) s).bind fun v1 =>
    jm 78 [vr_ (some 0), vi_ x1, vi_ x2, vi_ x3, vi_ x4, vi_ x5] [vi_ (v1 &&& 255)] s)) := by rfl
set_option maxRecDepth 100000 in
theorem mb_rowsOf_78 (x1 x2 x3 x4 x5 y0 : Int32) (s : mm_S) : mm_B mt_lc mt_ln mt_ty mt_sg mt_st 0 mt_rowsOf ca jm 1000 (pj_at mt_rowsOf 78) [some (vr_ (some 0)), some (vi_ x1), some (vi_ x2), some (vi_ x3), some (vi_ x4), some (vi_ x5), none, none, none] [vi_ y0] s =
  (mm_bI (ca 114 [vi_ x5] s) fun v2 s1 =>
  (if v2 = 0 then
    (mm_bI (ca 6 [vi_ x5] s1) fun v4 s3 =>
    (if v4 = 0 then
      jm 117 [vr_ (some 0), vi_ x1, vi_ x2, vi_ x3, vi_ x4, vi_ x5] [vi_ 0] s3
    else
      (mm_bI (ca 6 [vi_ y0] s3) fun v6 s5 =>
      (if v6 = 0 then
        jm 117 [vr_ (some 0), vi_ x1, vi_ x2, vi_ x3, vi_ x4, vi_ x5] [vi_ 0] s5
      else
        jm 117 [vr_ (some 0), vi_ x1, vi_ x2, vi_ x3, vi_ x4, vi_ x5] [vi_ 1] s5))))
  else
    (mm_bI (ca 114 [vi_ y0] s1) fun v8 s7 =>
    (if v8 = 0 then
      (mm_bI (ca 6 [vi_ x5] s7) fun v10 s9 =>
      (if v10 = 0 then
        jm 117 [vr_ (some 0), vi_ x1, vi_ x2, vi_ x3, vi_ x4, vi_ x5] [vi_ 0] s9
      else
        (mm_bI (ca 6 [vi_ y0] s9) fun v12 s11 =>
        (if v12 = 0 then
          jm 117 [vr_ (some 0), vi_ x1, vi_ x2, vi_ x3, vi_ x4, vi_ x5] [vi_ 0] s11
        else
          jm 117 [vr_ (some 0), vi_ x1, vi_ x2, vi_ x3, vi_ x4, vi_ x5] [vi_ 1] s11))))
    else
      jm 117 [vr_ (some 0), vi_ x1, vi_ x2, vi_ x3, vi_ x4, vi_ x5] [vi_ 1] s7)))) := by rfl
set_option maxRecDepth 100000 in
theorem mb_rowsOf_117 (x1 x2 x3 x4 x5 y0 : Int32) (s : mm_S) : mm_B mt_lc mt_ln mt_ty mt_sg mt_st 0 mt_rowsOf ca jm 1000 (pj_at mt_rowsOf 117) [some (vr_ (some 0)), some (vi_ x1), some (vi_ x2), some (vi_ x3), some (vi_ x4), some (vi_ x5), none, none, none] [vi_ y0] s =
  (if y0 = 0 then
    ((mm_w 24000 110 x4 (x3 + 1) s).bind fun s1 =>
    (if y0 = 0 then
      jm 159 [vr_ (some 0), vi_ x1, vi_ x3, vi_ x4, vi_ x5, vi_ y0] [vi_ 1] s1
    else
      jm 159 [vr_ (some 0), vi_ x1, vi_ x3, vi_ x4, vi_ x5, vi_ y0] [vi_ (x2 * 10)] s1))
  else
    ((mm_a 24000 110 (x4 + 1) s).bind fun v2 =>
    ((mm_w 24000 110 x4 v2 s).bind fun s3 =>
    (if y0 = 0 then
      jm 159 [vr_ (some 0), vi_ x1, vi_ x3, vi_ x4, vi_ x5, vi_ y0] [vi_ 1] s3
    else
      jm 159 [vr_ (some 0), vi_ x1, vi_ x3, vi_ x4, vi_ x5, vi_ y0] [vi_ (x2 * 10)] s3)))) := by rfl
set_option maxRecDepth 100000 in
theorem mb_rowsOf_159 (x1 x3 x4 x5 x8 y0 : Int32) (s : mm_S) : mm_B mt_lc mt_ln mt_ty mt_sg mt_st 0 mt_rowsOf ca jm 1000 (pj_at mt_rowsOf 159) [some (vr_ (some 0)), some (vi_ x1), none, some (vi_ x3), some (vi_ x4), some (vi_ x5), none, none, some (vi_ x8)] [vi_ y0] s =
  (mm_bI (ca 6 [vi_ x5] s) fun v2 s1 =>
  (if v2 = 0 then
    ((mm_w 24000 111 x4 0 s1).bind fun s3 =>
    jm 11 [vr_ (some 0), vi_ x1, vi_ y0, vi_ (x3 + (-1))] [] s3)
  else
    (if x8 = 0 then
      ((mm_w 24000 111 x4 (0 + ((x5 - 48) * y0)) s1).bind fun s4 =>
      jm 11 [vr_ (some 0), vi_ x1, vi_ y0, vi_ (x3 + (-1))] [] s4)
    else
      ((mm_a 24000 111 (x4 + 1) s1).bind fun v5 =>
      ((mm_w 24000 111 x4 (v5 + ((x5 - 48) * y0)) s1).bind fun s6 =>
      jm 11 [vr_ (some 0), vi_ x1, vi_ y0, vi_ (x3 + (-1))] [] s6))))) := by rfl
set_option maxRecDepth 100000 in
theorem mb_writeString (x1 : Int32) (s : mm_S) : mm_B mt_lc mt_ln mt_ty mt_sg mt_st 0 mt_writeString ca jm 1000 mt_writeString [some (vr_ (some 0)), some (vi_ x1), none, none] [] s =
  (if x1 < 0 then
    (mm_bV (ca 93 [vr_ (some 0), vi_ 2] s) fun s1 =>
    some (none, s1))
  else
    (if x1 < (s 0 99) then
      ((mm_a 65536 98 x1 s).bind fun v2 =>
      ((pj_div (v2 &&& 255) 4).bind fun v3 =>
      (if (lg_cmp ((x1 : Int32).toInt64 + (v3 : Int32).toInt64) ((s 0 99) : Int32).toInt64) < 0 then
        ((mm_a 2 116 (s 0 117) s).bind fun v4 =>
        (if v4 = 4096 then
          some (none, s)
        else
          jm 69 [vr_ (some 0), vi_ x1, vi_ (v2 &&& 255), vi_ 1] [] s))
      else
        (mm_bV (ca 93 [vr_ (some 0), vi_ 2] s) fun s5 =>
        some (none, s5)))))
    else
      (mm_bV (ca 93 [vr_ (some 0), vi_ 2] s) fun s6 =>
      some (none, s6)))) := by rfl
set_option maxRecDepth 100000 in
theorem mb_writeString_69 (x1 x2 x3 : Int32) (s : mm_S) : mm_B mt_lc mt_ln mt_ty mt_sg mt_st 0 mt_writeString ca jm 1000 (pj_at mt_writeString 69) [some (vr_ (some 0)), some (vi_ x1), some (vi_ x2), some (vi_ x3)] [] s =
  (if x2 < x3 then
    some (none, s)
  else
    ((pj_div x3 4).bind fun v1 =>
    ((mm_a 65536 98 (x1 + v1) s).bind fun v2 =>
    (mm_bV (ca 109 [vr_ (some 0), vi_ (((v2 : Int32).toUInt32 >>> (((8 * (x3 &&& 3)) : Int32).toUInt32 &&& Int32.toUInt32 31)).toInt32 &&& 255)] s) fun s3 =>
    jm 69 [vr_ (some 0), vi_ x1, vi_ x2, vi_ (x3 + 1)] [] s3)))) := by rfl
set_option maxRecDepth 100000 in
theorem mb_getVector (x1 : Int32) (s : mm_S) : mm_B mt_lc mt_ln mt_ty mt_sg mt_st 1 mt_getVector ca jm 1000 mt_getVector [some (vr_ (some 0)), some (vi_ x1), none, none, none, none, none, none] [] s =
  (if x1 < 0 then
    some (some (vi_ 0), s)
  else
    (if (s 0 106) = 100 then
      some (some (vi_ 0), s)
    else
      ((mm_a 3100 70 (s 0 97) s).bind fun v1 =>
      jm 46 [vr_ (some 0), vl_ ((x1 : Int32).toInt64 + 1), vi_ ((s 0 96) + v1), vl_ ((s 0 99) : Int32).toInt64, vi_ 0] [] s))) := by rfl
set_option maxRecDepth 100000 in
theorem mb_getVector_46 (x4 x7 : Int32) (x2 x5 : Int64) (s : mm_S) : mm_B mt_lc mt_ln mt_ty mt_sg mt_st 1 mt_getVector ca jm 1000 (pj_at mt_getVector 46) [some (vr_ (some 0)), none, some (vl_ x2), none, some (vi_ x4), some (vl_ x5), none, some (vi_ x7)] [] s =
  (if x7 < (s 0 106) then
    ((mm_a 100 107 x7 s).bind fun v1 =>
    ((mm_a 100 108 x7 s).bind fun v2 =>
    (if (lg_cmp (x5 - x2) ((v1 : Int32).toInt64 + (v2 : Int32).toInt64)) < 0 then
      ((mm_a 100 107 x7 s).bind fun v3 =>
      jm 46 [vr_ (some 0), vl_ x2, vi_ x4, vl_ (v3 : Int32).toInt64, vi_ (x7 + 1)] [] s)
    else
      (mm_bI (ca 118 [vr_ (some 0), vi_ x7, vl_ (x5 - x2), vl_ x2, vi_ x4] s) fun v5 s4 =>
      some (some (vi_ v5), s4)))))
  else
    (mm_bI (ca 118 [vr_ (some 0), vi_ (s 0 106), vl_ (x5 - x2), vl_ x2, vi_ x4] s) fun v7 s6 =>
    some (some (vi_ v7), s6))) := by rfl
set_option maxRecDepth 100000 in
theorem mb_layVector (x1 x6 : Int32) (x2 x4 : Int64) (s : mm_S) : mm_B mt_lc mt_ln mt_ty mt_sg mt_st 1 mt_layVector ca jm 1000 mt_layVector [some (vr_ (some 0)), some (vi_ x1), some (vl_ x2), none, some (vl_ x4), none, some (vi_ x6), none] [] s =
  (if (lg_cmp x2 (x6 : Int32).toInt64) < 0 then
    some (some (vi_ 0), s)
  else
    jm 16 [vr_ (some 0), vi_ x1, vl_ x2, vl_ x4, vi_ (s 0 106)] [] s) := by rfl
set_option maxRecDepth 100000 in
theorem mb_layVector_16 (x1 x7 : Int32) (x2 x4 : Int64) (s : mm_S) : mm_B mt_lc mt_ln mt_ty mt_sg mt_st 1 mt_layVector ca jm 1000 (pj_at mt_layVector 16) [some (vr_ (some 0)), some (vi_ x1), some (vl_ x2), none, some (vl_ x4), none, none, some (vi_ x7)] [] s =
  (if x1 < x7 then
    ((mm_a 100 107 (x7 - 1) s).bind fun v1 =>
    ((mm_w 100 107 x7 v1 s).bind fun s2 =>
    ((mm_a 100 108 (x7 - 1) s2).bind fun v3 =>
    ((mm_w 100 108 x7 v3 s2).bind fun s4 =>
    jm 16 [vr_ (some 0), vi_ x1, vl_ x2, vl_ x4, vi_ (x7 + (-1))] [] s4))))
  else
    ((mm_w 100 107 x1 (x2 : Int64).toInt32 s).bind fun s5 =>
    ((mm_w 100 108 x1 (x4 : Int64).toInt32 s5).bind fun s6 =>
    some (some (vi_ (x2 : Int64).toInt32), (mm_u s6 0 106 ((s6 0 106) + 1)))))) := by rfl
set_option maxRecDepth 100000 in
theorem mb_freeVector (x1 : Int32) (s : mm_S) : mm_B mt_lc mt_ln mt_ty mt_sg mt_st 0 mt_freeVector ca jm 1000 mt_freeVector [some (vr_ (some 0)), some (vi_ x1), none] [] s =
  (if x1 = 0 then
    some (none, s)
  else
    jm 7 [vr_ (some 0), vi_ x1, vi_ 0] [] s) := by rfl
set_option maxRecDepth 100000 in
theorem mb_freeVector_7 (x1 x2 : Int32) (s : mm_S) : mm_B mt_lc mt_ln mt_ty mt_sg mt_st 0 mt_freeVector ca jm 1000 (pj_at mt_freeVector 7) [some (vr_ (some 0)), some (vi_ x1), some (vi_ x2)] [] s =
  (if x2 < (s 0 106) then
    ((mm_a 100 107 x2 s).bind fun v1 =>
    (if v1 = x1 then
      jm 31 [vr_ (some 0), vi_ x2] [] s
    else
      jm 7 [vr_ (some 0), vi_ x1, vi_ (x2 + 1)] [] s))
  else
    jm 31 [vr_ (some 0), vi_ x2] [] s) := by rfl
set_option maxRecDepth 100000 in
theorem mb_freeVector_31 (x2 : Int32) (s : mm_S) : mm_B mt_lc mt_ln mt_ty mt_sg mt_st 0 mt_freeVector ca jm 1000 (pj_at mt_freeVector 31) [some (vr_ (some 0)), none, some (vi_ x2)] [] s =
  (if x2 = (s 0 106) then
    (mm_bV (ca 93 [vr_ (some 0), vi_ 2] s) fun s1 =>
    some (none, s1))
  else
    jm 55 [vr_ (some 0), vi_ x2] [] (mm_u s 0 106 ((s 0 106) - 1))) := by rfl
set_option maxRecDepth 100000 in
theorem mb_freeVector_55 (x2 : Int32) (s : mm_S) : mm_B mt_lc mt_ln mt_ty mt_sg mt_st 0 mt_freeVector ca jm 1000 (pj_at mt_freeVector 55) [some (vr_ (some 0)), none, some (vi_ x2)] [] s =
  (if x2 < (s 0 106) then
    ((mm_a 100 107 (x2 + 1) s).bind fun v1 =>
    ((mm_w 100 107 x2 v1 s).bind fun s2 =>
    ((mm_a 100 108 (x2 + 1) s2).bind fun v3 =>
    ((mm_w 100 108 x2 v3 s2).bind fun s4 =>
    jm 55 [vr_ (some 0), vi_ (x2 + 1)] [] s4))))
  else
    some (none, s)) := by rfl
set_option maxRecDepth 100000 in
theorem mb_toVector (x1 x2 x3 : Int32) (s : mm_S) : mm_B mt_lc mt_ln mt_ty mt_sg mt_st 0 mt_toVector ca jm 1000 mt_toVector [some (vr_ (some 0)), some (vi_ x1), some (vi_ x2), some (vi_ x3), none] [] s =
  (if x1 < 2000000 then
    jm 19 [vr_ (some 0), vi_ x1, vi_ x2, vi_ x3] [vi_ 0] s
  else
    (if x1 < 2000018 then
      jm 19 [vr_ (some 0), vi_ x1, vi_ x2, vi_ x3] [vi_ 1] s
    else
      jm 19 [vr_ (some 0), vi_ x1, vi_ x2, vi_ x3] [vi_ 0] s)) := by rfl
set_option maxRecDepth 100000 in
theorem mb_toVector_19 (x1 x2 x3 y0 : Int32) (s : mm_S) : mm_B mt_lc mt_ln mt_ty mt_sg mt_st 0 mt_toVector ca jm 1000 (pj_at mt_toVector 19) [some (vr_ (some 0)), some (vi_ x1), some (vi_ x2), some (vi_ x3), none] [vi_ y0] s =
  (if y0 = 0 then
    (if x1 < 1000000 then
      (mm_bV (ca 93 [vr_ (some 0), vi_ 4] s) fun s1 =>
      some (none, s1))
    else
      (if x1 < (1000000 + (s 0 69)) then
        jm 51 [vr_ (some 0), vi_ x1, vi_ x2, vi_ x3, vi_ y0] [] s
      else
        (mm_bV (ca 93 [vr_ (some 0), vi_ 4] s) fun s2 =>
        some (none, s2))))
  else
    jm 51 [vr_ (some 0), vi_ x1, vi_ x2, vi_ x3, vi_ y0] [] s) := by rfl
set_option maxRecDepth 100000 in
theorem mb_toVector_51 (x1 x2 x3 x4 : Int32) (s : mm_S) : mm_B mt_lc mt_ln mt_ty mt_sg mt_st 0 mt_toVector ca jm 1000 (pj_at mt_toVector 51) [some (vr_ (some 0)), some (vi_ x1), some (vi_ x2), some (vi_ x3), some (vi_ x4)] [] s =
  (if x2 < 0 then
    (mm_bV (ca 93 [vr_ (some 0), vi_ 2] s) fun s1 =>
    some (none, s1))
  else
    (if x2 < (s 0 99) then
      (mm_bV (ca 95 [vr_ (some 0), vi_ x3] s) fun s2 =>
      (mm_bV (ca 95 [vr_ (some 0), vi_ x2] s2) fun s3 =>
      (if x4 = 0 then
        (mm_bV (ca 106 [vr_ (some 0), vi_ (x1 - 1000000), vi_ ((x3 + x2) + 1), vi_ 2] s3) fun s4 =>
        some (none, s4))
      else
        (mm_bI (ca 105 [vr_ (some 0)] s3) fun v6 s5 =>
        (if v6 < ((x3 + x2) + 1) then
          (mm_bV (ca 93 [vr_ (some 0), vi_ 5] s5) fun s7 =>
          some (none, s7))
        else
          (mm_bV (ca 92 [vr_ (some 0), vi_ 23, vi_ (x1 - 2000000), vi_ ((x3 + x2) + 1)] s5) fun s8 =>
          some (none, s8)))))))
    else
      (mm_bV (ca 93 [vr_ (some 0), vi_ 2] s) fun s9 =>
      some (none, s9)))) := by rfl
set_option maxRecDepth 100000 in
theorem mb_libraryCall (x1 x2 x3 : Int32) (s : mm_S) : mm_B mt_lc mt_ln mt_ty mt_sg mt_st 0 mt_libraryCall ca jm 1000 mt_libraryCall [some (vr_ (some 0)), some (vi_ x1), some (vi_ x2), some (vi_ x3), none, none, none, none, none, none, none, none, none, none] [] s =
  (mm_bI (ca 108 [vr_ (some 0), vi_ 0, vi_ x2] s) fun v2 s1 =>
  (mm_bI (ca 108 [vr_ (some 0), vi_ 1, vi_ x2] s1) fun v4 s3 =>
  (mm_bI (ca 108 [vr_ (some 0), vi_ 2, vi_ x2] s3) fun v6 s5 =>
  (if x1 = 0 then
    (mm_bV (ca 110 [vr_ (some 0), vi_ v2, vi_ 0] (mm_u s5 0 91 ((s5 0 91) - x2))) fun s7 =>
    (mm_bV (ca 95 [vr_ (some 0), vi_ 0] s7) fun s8 =>
    some (none, s8)))
  else
    (if x1 = 15 then
      (if 100 < v4 then
        (mm_bV (ca 110 [vr_ (some 0), vi_ v2, vi_ 100] (mm_u s5 0 91 ((s5 0 91) - x2))) fun s9 =>
        (mm_bV (ca 95 [vr_ (some 0), vi_ 0] s9) fun s10 =>
        some (none, s10)))
      else
        (mm_bV (ca 110 [vr_ (some 0), vi_ v2, vi_ v4] (mm_u s5 0 91 ((s5 0 91) - x2))) fun s11 =>
        (mm_bV (ca 95 [vr_ (some 0), vi_ 0] s11) fun s12 =>
        some (none, s12))))
    else
      (if x1 = 16 then
        (if v4 < 1 then
          jm 134 [vr_ (some 0), vi_ v2, vi_ 0, vi_ (1 - 1)] [] (mm_u s5 0 91 ((s5 0 91) - x2))
        else
          (if 8 < v4 then
            jm 134 [vr_ (some 0), vi_ v2, vi_ 0, vi_ (8 - 1)] [] (mm_u s5 0 91 ((s5 0 91) - x2))
          else
            jm 134 [vr_ (some 0), vi_ v2, vi_ 0, vi_ (v4 - 1)] [] (mm_u s5 0 91 ((s5 0 91) - x2))))
      else
        (if x1 = 1 then
          (mm_bV (ca 116 [vr_ (some 0), vi_ v2] (mm_u s5 0 91 ((s5 0 91) - x2))) fun s13 =>
          (mm_bV (ca 95 [vr_ (some 0), vi_ 0] s13) fun s14 =>
          some (none, s14)))
        else
          (if x1 = 2 then
            (mm_bV (ca 109 [vr_ (some 0), vi_ v2] (mm_u s5 0 91 ((s5 0 91) - x2))) fun s15 =>
            (mm_bV (ca 95 [vr_ (some 0), vi_ 0] s15) fun s16 =>
            some (none, s16)))
          else
            (if x1 = 3 then
              (mm_bV (ca 109 [vr_ (some 0), vi_ 10] (mm_u s5 0 91 ((s5 0 91) - x2))) fun s17 =>
              (mm_bV (ca 95 [vr_ (some 0), vi_ 0] s17) fun s18 =>
              some (none, s18)))
            else
              (if x1 = 4 then
                (mm_bI (ca 111 [vr_ (some 0)] (mm_u s5 0 91 ((s5 0 91) - x2))) fun v20 s19 =>
                (mm_bV (ca 95 [vr_ (some 0), vi_ v20] s19) fun s21 =>
                some (none, s21)))
              else
                (if x1 = 5 then
                  (mm_bV (ca 95 [vr_ (some 0), vi_ 0] (mm_u (mm_u (mm_u (mm_u s5 0 91 ((s5 0 91) - x2)) 0 102 1) 0 103 6) 0 104 v2)) fun s22 =>
                  some (none, s22))
                else
                  (if x1 = 6 then
                    (if v2 < 0 then
                      (mm_bV (ca 95 [vr_ (some 0), vi_ (-v2)] (mm_u s5 0 91 ((s5 0 91) - x2))) fun s23 =>
                      some (none, s23))
                    else
                      (mm_bV (ca 95 [vr_ (some 0), vi_ v2] (mm_u s5 0 91 ((s5 0 91) - x2))) fun s24 =>
                      some (none, s24)))
                  else
                    (if x1 = 7 then
                      ((mm_a 4 113 (s5 0 114) (mm_u s5 0 91 ((s5 0 91) - x2))).bind fun v25 =>
                      (if 0 < v25 then
                        ((mm_a 4 113 (s5 0 114) (mm_u s5 0 91 ((s5 0 91) - x2))).bind fun v26 =>
                        ((mm_w 4 113 (s5 0 114) (v26 - 1) (mm_u s5 0 91 ((s5 0 91) - x2))).bind fun s27 =>
                        (mm_bV (ca 95 [vr_ (some 0), vi_ (-1)] s27) fun s28 =>
                        some (none, s28))))
                      else
                        (mm_bV (ca 95 [vr_ (some 0), vi_ 0] (mm_u s5 0 91 ((s5 0 91) - x2))) fun s29 =>
                        some (none, s29))))
                    else
                      (if x1 = 8 then
                        (if v2 < 0 then
                          (mm_bV (ca 95 [vr_ (some 0), vi_ 0] (mm_u s5 0 91 ((s5 0 91) - x2))) fun s30 =>
                          some (none, s30))
                        else
                          (if 3 < v2 then
                            (mm_bV (ca 95 [vr_ (some 0), vi_ 0] (mm_u s5 0 91 ((s5 0 91) - x2))) fun s31 =>
                            some (none, s31))
                          else
                            (mm_bV (ca 95 [vr_ (some 0), vi_ (-1)] (mm_u (mm_u s5 0 91 ((s5 0 91) - x2)) 0 114 v2)) fun s32 =>
                            some (none, s32))))
                      else
                        (if x1 = 9 then
                          (if v2 = 0 then
                            (mm_bV (ca 95 [vr_ (some 0), vi_ (-1)] (mm_u (mm_u s5 0 91 ((s5 0 91) - x2)) 0 117 v2)) fun s33 =>
                            some (none, s33))
                          else
                            (if v2 = 1 then
                              (mm_bV (ca 95 [vr_ (some 0), vi_ (-1)] (mm_u (mm_u s5 0 91 ((s5 0 91) - x2)) 0 117 v2)) fun s34 =>
                              some (none, s34))
                            else
                              (mm_bV (ca 95 [vr_ (some 0), vi_ 0] (mm_u s5 0 91 ((s5 0 91) - x2))) fun s35 =>
                              some (none, s35))))
                        else
                          (if x1 = 10 then
                            ((mm_w 4 113 (s5 0 114) 0 (mm_u s5 0 91 ((s5 0 91) - x2))).bind fun s36 =>
                            (mm_bV (ca 95 [vr_ (some 0), vi_ 0] s36) fun s37 =>
                            some (none, s37)))
                          else
                            (if x1 = 11 then
                              (mm_bI (ca 117 [vr_ (some 0), vi_ v2] (mm_u s5 0 91 ((s5 0 91) - x2))) fun v39 s38 =>
                              (mm_bV (ca 95 [vr_ (some 0), vi_ v39] s38) fun s40 =>
                              some (none, s40)))
                            else
                              (if x1 = 12 then
                                (mm_bV (ca 119 [vr_ (some 0), vi_ v2] (mm_u s5 0 91 ((s5 0 91) - x2))) fun s41 =>
                                (mm_bV (ca 95 [vr_ (some 0), vi_ 0] s41) fun s42 =>
                                some (none, s42)))
                              else
                                (if x1 = 14 then
                                  (if v6 = 0 then
                                    (mm_bV (ca 93 [vr_ (some 0), vi_ 3] (mm_u s5 0 91 ((s5 0 91) - x2))) fun s43 =>
                                    (mm_bV (ca 95 [vr_ (some 0), vi_ 0] s43) fun s44 =>
                                    some (none, s44)))
                                  else
                                    ((pj_ldiv ((v2 : Int32).toInt64 * (v4 : Int32).toInt64) (v6 : Int32).toInt64).bind fun v45 =>
                                    (mm_bV (ca 95 [vr_ (some 0), vi_ (v45 : Int64).toInt32] (mm_u s5 0 91 ((s5 0 91) - x2))) fun s46 =>
                                    some (none, s46))))
                                else
                                  (if x1 = 17 then
                                    (mm_bI (ca 113 [vr_ (some 0)] (mm_u s5 0 91 ((s5 0 91) - x2))) fun v48 s47 =>
                                    (mm_bV (ca 95 [vr_ (some 0), vi_ v48] s47) fun s49 =>
                                    some (none, s49)))
                                  else
                                    (mm_bV (ca 120 [vr_ (some 0), vi_ v2, vi_ v4, vi_ x3] (mm_u s5 0 91 ((s5 0 91) - x2))) fun s50 =>
                                    some (none, s50)))))))))))))))))))))) := by rfl
set_option maxRecDepth 100000 in
theorem mb_libraryCall_134 (x7 x10 x12 : Int32) (s : mm_S) : mm_B mt_lc mt_ln mt_ty mt_sg mt_st 0 mt_libraryCall ca jm 1000 (pj_at mt_libraryCall 134) [some (vr_ (some 0)), none, none, none, none, none, none, some (vi_ x7), none, none, some (vi_ x10), none, some (vi_ x12), none] [] s =
  (if x12 < 0 then
    (mm_bV (ca 95 [vr_ (some 0), vi_ x10] s) fun s1 =>
    some (none, s1))
  else
    (if (((x7 : Int32).toUInt32 >>> (((4 * x12) : Int32).toUInt32 &&& Int32.toUInt32 31)).toInt32 &&& 15) < 10 then
      (mm_bV (ca 109 [vr_ (some 0), vi_ (48 + (((x7 : Int32).toUInt32 >>> (((4 * x12) : Int32).toUInt32 &&& Int32.toUInt32 31)).toInt32 &&& 15))] s) fun s2 =>
      jm 134 [vr_ (some 0), vi_ x7, vi_ x10, vi_ (x12 + (-1))] [] s2)
    else
      (mm_bV (ca 109 [vr_ (some 0), vi_ (55 + (((x7 : Int32).toUInt32 >>> (((4 * x12) : Int32).toUInt32 &&& Int32.toUInt32 31)).toInt32 &&& 15))] s) fun s3 =>
      jm 134 [vr_ (some 0), vi_ x7, vi_ x10, vi_ (x12 + (-1))] [] s3))) := by rfl
set_option maxRecDepth 100000 in
theorem mb_perform (x1 : Int32) (s : mm_S) : mm_B mt_lc mt_ln mt_ty mt_sg mt_st 0 mt_perform ca jm 1000 mt_perform [some (vr_ (some 0)), some (vi_ x1), none, none, none] [] s =
  ((mm_a 26000 25 x1 s).bind fun v1 =>
  ((mm_a 26000 27 x1 s).bind fun v2 =>
  (if v1 = 37 then
    some (none, s)
  else
    (if v1 = 36 then
      (mm_bV (ca 92 [vr_ (some 0), vi_ 17, vi_ x1, vi_ v2] s) fun s3 =>
      some (none, s3))
    else
      (if v1 = 38 then
        (mm_bV (ca 92 [vr_ (some 0), vi_ 15, vi_ x1, vi_ 0] s) fun s4 =>
        (mm_bV (ca 92 [vr_ (some 0), vi_ 10, vi_ v2, vi_ 0] s4) fun s5 =>
        some (none, s5)))
      else
        (if v1 = 39 then
          (mm_bV (ca 92 [vr_ (some 0), vi_ 15, vi_ x1, vi_ 0] s) fun s6 =>
          (mm_bV (ca 92 [vr_ (some 0), vi_ 10, vi_ v2, vi_ 0] s6) fun s7 =>
          some (none, s7)))
        else
          (if v1 = 40 then
            (mm_bV (ca 92 [vr_ (some 0), vi_ 15, vi_ x1, vi_ 0] s) fun s8 =>
            (mm_bV (ca 92 [vr_ (some 0), vi_ 10, vi_ v2, vi_ 0] s8) fun s9 =>
            some (none, s9)))
          else
            (mm_bI (ca 94 [vr_ (some 0)] s) fun v11 s10 =>
            (if v11 = 0 then
              some (none, s10)
            else
              (if v1 = 20 then
                (mm_bV (ca 123 [vr_ (some 0), vi_ x1, vi_ v2] s10) fun s12 =>
                some (none, s12))
              else
                (if v1 = 21 then
                  (mm_bV (ca 92 [vr_ (some 0), vi_ 13, vi_ x1, vi_ 0] s10) fun s13 =>
                  (mm_bV (ca 92 [vr_ (some 0), vi_ 1, vi_ v2, vi_ 0] s13) fun s14 =>
                  some (none, s14)))
                else
                  (if v1 = 22 then
                    (mm_bV (ca 92 [vr_ (some 0), vi_ 14, vi_ x1, vi_ 0] s10) fun s15 =>
                    (mm_bV (ca 92 [vr_ (some 0), vi_ 1, vi_ v2, vi_ 0] s15) fun s16 =>
                    some (none, s16)))
                  else
                    (if v1 = 23 then
                      (mm_bV (ca 92 [vr_ (some 0), vi_ 14, vi_ x1, vi_ 0] s10) fun s17 =>
                      (mm_bV (ca 92 [vr_ (some 0), vi_ 1, vi_ v2, vi_ 0] s17) fun s18 =>
                      some (none, s18)))
                    else
                      (if v1 = 24 then
                        (mm_bV (ca 92 [vr_ (some 0), vi_ 14, vi_ x1, vi_ 0] s10) fun s19 =>
                        (mm_bV (ca 92 [vr_ (some 0), vi_ 1, vi_ v2, vi_ 0] s19) fun s20 =>
                        some (none, s20)))
                      else
                        (if v1 = 25 then
                          (mm_bV (ca 92 [vr_ (some 0), vi_ 15, vi_ x1, vi_ 0] s10) fun s21 =>
                          some (none, s21))
                        else
                          (if v1 = 26 then
                            (mm_bV (ca 92 [vr_ (some 0), vi_ 15, vi_ x1, vi_ 0] s10) fun s22 =>
                            some (none, s22))
                          else
                            (if v1 = 27 then
                              (mm_bV (ca 92 [vr_ (some 0), vi_ 20, vi_ x1, vi_ 0] s10) fun s23 =>
                              ((mm_a 26000 28 v2 s23).bind fun v24 =>
                              ((mm_a 26000 28 v24 s23).bind fun v25 =>
                              (mm_bV (ca 92 [vr_ (some 0), vi_ 1, vi_ v25, vi_ 0] s23) fun s26 =>
                              ((mm_a 26000 28 v2 s26).bind fun v27 =>
                              (mm_bV (ca 92 [vr_ (some 0), vi_ 1, vi_ v27, vi_ 0] s26) fun s28 =>
                              some (none, s28)))))))
                            else
                              (if v1 = 28 then
                                (mm_bV (ca 92 [vr_ (some 0), vi_ 21, vi_ x1, vi_ 0] s10) fun s29 =>
                                (mm_bV (ca 92 [vr_ (some 0), vi_ 1, vi_ v2, vi_ 0] s29) fun s30 =>
                                some (none, s30)))
                              else
                                (if v1 = 29 then
                                  jm 253 [vr_ (some 0)] [] s10
                                else
                                  (if v1 = 30 then
                                    jm 301 [vr_ (some 0)] [] s10
                                  else
                                    (if v1 = 31 then
                                      jm 336 [vr_ (some 0)] [] s10
                                    else
                                      (if v1 = 32 then
                                        jm 405 [vr_ (some 0)] [] s10
                                      else
                                        (if v1 = 33 then
                                          (mm_bV (ca 92 [vr_ (some 0), vi_ 22, vi_ x1, vi_ 0] s10) fun s31 =>
                                          (mm_bV (ca 92 [vr_ (some 0), vi_ 1, vi_ v2, vi_ 0] s31) fun s32 =>
                                          some (none, s32)))
                                        else
                                          (if v1 = 35 then
                                            ((mm_a 26000 31 x1 s10).bind fun v33 =>
                                            jm 472 [vr_ (some 0), vi_ v33] [] s10)
                                          else
                                            some (none, (mm_u (mm_u (mm_u s10 0 102 1) 0 103 0) 0 104 0)))))))))))))))))))))))))) := by rfl
set_option maxRecDepth 100000 in
theorem mb_perform_253 (s : mm_S) : mm_B mt_lc mt_ln mt_ty mt_sg mt_st 0 mt_perform ca jm 1000 (pj_at mt_perform 253) [some (vr_ (some 0)), none, none, none, none] [] s =
  ((mm_a 620000 88 ((s 0 87) - 1) s).bind fun v1 =>
  (if v1 = 15 then
    some (none, (mm_u s 0 87 ((s 0 87) - 1)))
  else
    jm 253 [vr_ (some 0)] [] (mm_u s 0 87 ((s 0 87) - 1)))) := by rfl
set_option maxRecDepth 100000 in
theorem mb_perform_301 (s : mm_S) : mm_B mt_lc mt_ln mt_ty mt_sg mt_st 0 mt_perform ca jm 1000 (pj_at mt_perform 301) [some (vr_ (some 0)), none, none, none, none] [] s =
  ((mm_a 620000 88 ((s 0 87) - 1) s).bind fun v1 =>
  (if v1 = 15 then
    some (none, s)
  else
    jm 301 [vr_ (some 0)] [] (mm_u s 0 87 ((s 0 87) - 1)))) := by rfl
set_option maxRecDepth 100000 in
theorem mb_perform_336 (s : mm_S) : mm_B mt_lc mt_ln mt_ty mt_sg mt_st 0 mt_perform ca jm 1000 (pj_at mt_perform 336) [some (vr_ (some 0)), none, none, none, none] [] s =
  ((mm_a 620000 88 ((s 0 87) - 1) s).bind fun v1 =>
  (if v1 = 17 then
    ((mm_a 620000 89 ((s 0 87) - 1) s).bind fun v2 =>
    ((mm_a 26000 25 v2 s).bind fun v3 =>
    (if v3 = 28 then
      some (none, (mm_u s 0 87 ((s 0 87) - 1)))
    else
      jm 336 [vr_ (some 0)] [] (mm_u s 0 87 ((s 0 87) - 1)))))
  else
    jm 336 [vr_ (some 0)] [] (mm_u s 0 87 ((s 0 87) - 1)))) := by rfl
set_option maxRecDepth 100000 in
theorem mb_perform_405 (s : mm_S) : mm_B mt_lc mt_ln mt_ty mt_sg mt_st 0 mt_perform ca jm 1000 (pj_at mt_perform 405) [some (vr_ (some 0)), none, none, none, none] [] s =
  ((mm_a 620000 88 ((s 0 87) - 1) s).bind fun v1 =>
  (if v1 = 18 then
    some (none, s)
  else
    jm 405 [vr_ (some 0)] [] (mm_u s 0 87 ((s 0 87) - 1)))) := by rfl
set_option maxRecDepth 100000 in
theorem mb_perform_472 (x4 : Int32) (s : mm_S) : mm_B mt_lc mt_ln mt_ty mt_sg mt_st 0 mt_perform ca jm 1000 (pj_at mt_perform 472) [some (vr_ (some 0)), none, none, none, some (vi_ x4)] [] s =
  ((mm_a 620000 88 ((s 0 87) - 1) s).bind fun v1 =>
  (if v1 = 17 then
    ((mm_a 620000 89 ((s 0 87) - 1) s).bind fun v2 =>
    ((mm_a 26000 30 x4 s).bind fun v3 =>
    (if v2 = v3 then
      ((mm_w 620000 90 ((s 0 87) - 1) x4 s).bind fun s4 =>
      some (none, s4))
    else
      jm 472 [vr_ (some 0), vi_ x4] [] (mm_u s 0 87 ((s 0 87) - 1)))))
  else
    jm 472 [vr_ (some 0), vi_ x4] [] (mm_u s 0 87 ((s 0 87) - 1)))) := by rfl
set_option maxRecDepth 100000 in
theorem mb_assign (x1 x2 : Int32) (s : mm_S) : mm_B mt_lc mt_ln mt_ty mt_sg mt_st 0 mt_assign ca jm 1000 mt_assign [some (vr_ (some 0)), some (vi_ x1), some (vi_ x2)] [] s =
  ((mm_a 26000 27 x1 s).bind fun v1 =>
  ((mm_a 26000 32 v1 s).bind fun v2 =>
  (if x2 = v2 then
    some (none, s)
  else
    ((mm_a 26000 28 x2 s).bind fun v3 =>
    (mm_bV (ca 92 [vr_ (some 0), vi_ 11, vi_ x1, vi_ v3] s) fun s4 =>
    (mm_bV (ca 92 [vr_ (some 0), vi_ 12, vi_ x2, vi_ 0] s4) fun s5 =>
    ((mm_a 26000 25 x2 s5).bind fun v6 =>
    (if v6 = 9 then
      ((mm_a 26000 27 x2 s5).bind fun v7 =>
      ((mm_a 26000 28 v7 s5).bind fun v8 =>
      (mm_bV (ca 92 [vr_ (some 0), vi_ 1, vi_ v8, vi_ 0] s5) fun s9 =>
      ((mm_a 26000 27 x2 s9).bind fun v10 =>
      (mm_bV (ca 92 [vr_ (some 0), vi_ 1, vi_ v10, vi_ 0] s9) fun s11 =>
      ((mm_a 26000 32 x2 s11).bind fun v12 =>
      (mm_bV (ca 92 [vr_ (some 0), vi_ 1, vi_ v12, vi_ 0] s11) fun s13 =>
      some (none, s13))))))))
    else
      ((mm_a 26000 25 x2 s5).bind fun v14 =>
      (if v14 = 7 then
        ((mm_a 26000 27 x2 s5).bind fun v15 =>
        (mm_bV (ca 92 [vr_ (some 0), vi_ 1, vi_ v15, vi_ 0] s5) fun s16 =>
        ((mm_a 26000 32 x2 s16).bind fun v17 =>
        (mm_bV (ca 92 [vr_ (some 0), vi_ 1, vi_ v17, vi_ 0] s16) fun s18 =>
        some (none, s18)))))
      else
        ((mm_a 26000 32 x2 s5).bind fun v19 =>
        (mm_bV (ca 92 [vr_ (some 0), vi_ 1, vi_ v19, vi_ 0] s5) fun s20 =>
        some (none, s20))))))))))))) := by rfl
set_option maxRecDepth 100000 in
theorem mb_stores (x1 : Int32) (s : mm_S) : mm_B mt_lc mt_ln mt_ty mt_sg mt_st 0 mt_stores ca jm 1000 mt_stores [some (vr_ (some 0)), some (vi_ x1), none, none, none, none, none, none] [] s =
  ((mm_a 26000 25 x1 s).bind fun v1 =>
  (if v1 = 1 then
    (mm_bI (ca 99 [vr_ (some 0), vi_ x1] s) fun v3 s2 =>
    (mm_bI (ca 96 [vr_ (some 0)] s2) fun v5 s4 =>
    ((mm_w 65536 98 v3 v5 s4).bind fun s6 =>
    some (none, s6))))
  else
    ((mm_a 26000 25 x1 s).bind fun v7 =>
    (if v7 = 7 then
      (mm_bI (ca 96 [vr_ (some 0)] s) fun v9 s8 =>
      (mm_bI (ca 96 [vr_ (some 0)] s8) fun v11 s10 =>
      (mm_bV (ca 98 [vr_ (some 0), vl_ (v9 : Int32).toInt64, vi_ v11] s10) fun s12 =>
      some (none, s12))))
    else
      (mm_bI (ca 96 [vr_ (some 0)] s) fun v14 s13 =>
      (mm_bI (ca 96 [vr_ (some 0)] s13) fun v16 s15 =>
      (mm_bI (ca 96 [vr_ (some 0)] s15) fun v18 s17 =>
      ((mm_a 26000 29 x1 s17).bind fun v19 =>
      (if v19 = 18 then
        (mm_bV (ca 98 [vr_ (some 0), vl_ ((v16 + v14) : Int32).toInt64, vi_ v18] s17) fun s20 =>
        some (none, s20))
      else
        (mm_bI (ca 97 [vr_ (some 0), vl_ ((v16 : Int32).toInt64 + ((v14 >>> (2 &&& 31)) : Int32).toInt64)] s17) fun v22 s21 =>
        (mm_bV (ca 98 [vr_ (some 0), vl_ ((v16 : Int32).toInt64 + ((v14 >>> (2 &&& 31)) : Int32).toInt64), vi_ ((v22 &&& ((255 <<< ((8 * (v14 &&& 3)) &&& 31)) ^^^ (-1))) ||| ((v18 &&& 255) <<< ((8 * (v14 &&& 3)) &&& 31)))] s21) fun s23 =>
        some (none, s23)))))))))))) := by rfl
set_option maxRecDepth 100000 in
theorem mb_loop (x1 x2 : Int32) (s : mm_S) : mm_B mt_lc mt_ln mt_ty mt_sg mt_st 0 mt_loop ca jm 1000 mt_loop [some (vr_ (some 0)), some (vi_ x1), some (vi_ x2), none, none, none, none] [] s =
  ((mm_a 26000 25 x1 s).bind fun v1 =>
  ((mm_a 26000 27 x1 s).bind fun v2 =>
  (mm_bI (ca 126 [vr_ (some 0), vi_ v1, vi_ x1, vi_ x2] s) fun v4 s3 =>
  (if v4 = 0 then
    some (none, s3)
  else
    (mm_bI (ca 94 [vr_ (some 0)] s3) fun v6 s5 =>
    (if v6 = 0 then
      some (none, s5)
    else
      (if v1 = 25 then
        jm 45 [vr_ (some 0), vi_ x1, vi_ v2] [] s5
      else
        (if v1 = 26 then
          jm 45 [vr_ (some 0), vi_ x1, vi_ v2] [] s5
        else
          (if v1 = 38 then
            (mm_bV (ca 92 [vr_ (some 0), vi_ 15, vi_ x1, vi_ 0] s5) fun s7 =>
            (mm_bV (ca 92 [vr_ (some 0), vi_ 10, vi_ v2, vi_ 0] s7) fun s8 =>
            some (none, s8)))
          else
            (if v1 = 27 then
              ((mm_a 26000 31 x1 s5).bind fun v9 =>
              ((mm_a 65536 98 ((s5 0 96) + v9) s5).bind fun v10 =>
              ((mm_a 26000 31 x1 s5).bind fun v11 =>
              ((mm_a 65536 98 (((s5 0 96) + v11) + 1) s5).bind fun v12 =>
              ((mm_a 26000 30 x1 s5).bind fun v13 =>
              (if v13 < 0 then
                (if v10 < v12 then
                  some (none, s5)
                else
                  jm 169 [vr_ (some 0), vi_ x1] [] s5)
              else
                (if v12 < v10 then
                  some (none, s5)
                else
                  jm 169 [vr_ (some 0), vi_ x1] [] s5)))))))
            else
              (mm_bV (ca 92 [vr_ (some 0), vi_ 16, vi_ x1, vi_ 0] s5) fun s14 =>
              ((mm_a 26000 28 v2 s14).bind fun v15 =>
              (mm_bV (ca 92 [vr_ (some 0), vi_ 1, vi_ v15, vi_ 0] s14) fun s16 =>
              some (none, s16)))))))))))))) := by rfl
set_option maxRecDepth 100000 in
theorem mb_loop_45 (x1 x4 : Int32) (s : mm_S) : mm_B mt_lc mt_ln mt_ty mt_sg mt_st 0 mt_loop ca jm 1000 (pj_at mt_loop 45) [some (vr_ (some 0)), some (vi_ x1), none, none, some (vi_ x4), none, none] [] s =
  (mm_bV (ca 92 [vr_ (some 0), vi_ 15, vi_ x1, vi_ 0] s) fun s1 =>
  (mm_bV (ca 92 [vr_ (some 0), vi_ 16, vi_ x1, vi_ 0] s1) fun s2 =>
  (mm_bV (ca 92 [vr_ (some 0), vi_ 1, vi_ x4, vi_ 0] s2) fun s3 =>
  some (none, s3)))) := by rfl
set_option maxRecDepth 100000 in
theorem mb_loop_169 (x1 : Int32) (s : mm_S) : mm_B mt_lc mt_ln mt_ty mt_sg mt_st 0 mt_loop ca jm 1000 (pj_at mt_loop 169) [some (vr_ (some 0)), some (vi_ x1), none, none, none, none, none] [] s =
  (mm_bV (ca 92 [vr_ (some 0), vi_ 15, vi_ x1, vi_ 1] s) fun s1 =>
  ((mm_a 26000 29 x1 s1).bind fun v2 =>
  (mm_bV (ca 92 [vr_ (some 0), vi_ 10, vi_ v2, vi_ 0] s1) fun s3 =>
  some (none, s3)))) := by rfl
set_option maxRecDepth 100000 in
theorem mb_isStep (x1 x2 x3 : Int32) (s : mm_S) : mm_B mt_lc mt_ln mt_ty mt_sg mt_st 4 mt_isStep ca jm 1000 mt_isStep [some (vr_ (some 0)), some (vi_ x1), some (vi_ x2), some (vi_ x3)] [] s =
  (if x1 = 27 then
    (if x3 = 1 then
      ((mm_a 26000 31 x2 s).bind fun v1 =>
      ((mm_a 65536 98 ((s 0 96) + v1) s).bind fun v2 =>
      ((mm_a 26000 30 x2 s).bind fun v3 =>
      ((mm_w 65536 98 ((s 0 96) + v1) (v2 + v3) s).bind fun s4 =>
      some (some (vi_ 1), s4)))))
    else
      some (some (vi_ 1), s))
  else
    some (some (vi_ 1), s)) := by rfl
set_option maxRecDepth 100000 in
theorem mb_asked (x1 : Int32) (s : mm_S) : mm_B mt_lc mt_ln mt_ty mt_sg mt_st 0 mt_asked ca jm 1000 mt_asked [some (vr_ (some 0)), some (vi_ x1), none, none] [] s =
  (mm_bI (ca 96 [vr_ (some 0)] s) fun v2 s1 =>
  (if v2 = 0 then
    jm 12 [vr_ (some 0), vi_ x1] [vi_ 0] s1
  else
    jm 12 [vr_ (some 0), vi_ x1] [vi_ 1] s1)) := by rfl
set_option maxRecDepth 100000 in
theorem mb_asked_12 (x1 y0 : Int32) (s : mm_S) : mm_B mt_lc mt_ln mt_ty mt_sg mt_st 0 mt_asked ca jm 1000 (pj_at mt_asked 12) [some (vr_ (some 0)), some (vi_ x1), none, none] [vi_ y0] s =
  ((mm_a 26000 25 x1 s).bind fun v1 =>
  (if v1 = 25 then
    (if v1 = 25 then
      jm 44 [vr_ (some 0), vi_ x1] [vi_ 1, vi_ y0] s
    else
      jm 44 [vr_ (some 0), vi_ x1] [vi_ 0, vi_ y0] s)
  else
    (if v1 = 26 then
      (if v1 = 25 then
        jm 44 [vr_ (some 0), vi_ x1] [vi_ 1, vi_ y0] s
      else
        jm 44 [vr_ (some 0), vi_ x1] [vi_ 0, vi_ y0] s)
    else
      (if v1 = 39 then
        jm 91 [vr_ (some 0), vi_ x1] [vi_ 1, vi_ y0] s
      else
        jm 91 [vr_ (some 0), vi_ x1] [vi_ 0, vi_ y0] s)))) := by rfl
set_option maxRecDepth 100000 in
theorem mb_asked_44 (x1 y0 y1 : Int32) (s : mm_S) : mm_B mt_lc mt_ln mt_ty mt_sg mt_st 0 mt_asked ca jm 1000 (pj_at mt_asked 44) [some (vr_ (some 0)), some (vi_ x1), none, none] [vi_ y1, vi_ y0] s =
  (if y0 = y1 then
    ((mm_a 26000 27 x1 s).bind fun v1 =>
    ((mm_a 26000 28 v1 s).bind fun v2 =>
    (mm_bV (ca 92 [vr_ (some 0), vi_ 10, vi_ v2, vi_ 0] s) fun s3 =>
    some (none, s3))))
  else
    some (none, (mm_u s 0 87 ((s 0 87) - 1)))) := by rfl
set_option maxRecDepth 100000 in
theorem mb_asked_91 (x1 y0 y1 : Int32) (s : mm_S) : mm_B mt_lc mt_ln mt_ty mt_sg mt_st 0 mt_asked ca jm 1000 (pj_at mt_asked 91) [some (vr_ (some 0)), some (vi_ x1), none, none] [vi_ y1, vi_ y0] s =
  (if y0 = y1 then
    (mm_bV (ca 92 [vr_ (some 0), vi_ 15, vi_ x1, vi_ 0] s) fun s1 =>
    ((mm_a 26000 27 x1 s1).bind fun v2 =>
    (mm_bV (ca 92 [vr_ (some 0), vi_ 10, vi_ v2, vi_ 0] s1) fun s3 =>
    some (none, s3))))
  else
    some (none, s)) := by rfl
set_option maxRecDepth 100000 in
theorem mb_section (x1 x2 : Int32) (s : mm_S) : mm_B mt_lc mt_ln mt_ty mt_sg mt_st 0 mt_section ca jm 1000 mt_section [some (vr_ (some 0)), some (vi_ x1), some (vi_ x2), none, none, none] [] s =
  (if x2 < 0 then
    some (none, s)
  else
    ((mm_a 26000 28 x2 s).bind fun v1 =>
    (mm_bV (ca 92 [vr_ (some 0), vi_ 17, vi_ x1, vi_ v1] s) fun s2 =>
    ((mm_a 26000 25 x2 s2).bind fun v3 =>
    (if v3 = 41 then
      ((mm_a 26000 27 x2 s2).bind fun v4 =>
      jm 36 [vr_ (some 0), vi_ v4] [] s2)
    else
      ((mm_a 26000 25 x2 s2).bind fun v5 =>
      (if v5 = 53 then
        ((mm_a 26000 27 x2 s2).bind fun v6 =>
        ((mm_a 26000 25 v6 s2).bind fun v7 =>
        (if v7 = 55 then
          (mm_bI (ca 94 [vr_ (some 0)] s2) fun v9 s8 =>
          (if v9 = 0 then
            some (none, s8)
          else
            ((mm_a 26000 27 x2 s8).bind fun v10 =>
            (mm_bV (ca 92 [vr_ (some 0), vi_ 19, vi_ v10, vi_ 0] s8) fun s11 =>
            ((mm_a 26000 27 v10 s11).bind fun v12 =>
            jm 128 [vr_ (some 0), vi_ (s11 0 87), vi_ v12] [] s11)))))
        else
          some (none, s2))))
      else
        some (none, s2)))))))) := by rfl
set_option maxRecDepth 100000 in
theorem mb_section_36 (x3 : Int32) (s : mm_S) : mm_B mt_lc mt_ln mt_ty mt_sg mt_st 0 mt_section ca jm 1000 (pj_at mt_section 36) [some (vr_ (some 0)), none, none, some (vi_ x3), none, none] [] s =
  ((mm_a 26000 28 x3 s).bind fun v1 =>
  (if v1 < 0 then
    (mm_bV (ca 92 [vr_ (some 0), vi_ 10, vi_ x3, vi_ 0] s) fun s2 =>
    some (none, s2))
  else
    ((mm_a 26000 28 x3 s).bind fun v3 =>
    jm 36 [vr_ (some 0), vi_ v3] [] s))) := by rfl
set_option maxRecDepth 100000 in
theorem mb_section_128 (x4 x5 : Int32) (s : mm_S) : mm_B mt_lc mt_ln mt_ty mt_sg mt_st 0 mt_section ca jm 1000 (pj_at mt_section 128) [some (vr_ (some 0)), none, none, none, some (vi_ x4), some (vi_ x5)] [] s =
  (if x5 < 0 then
    (mm_bV (ca 101 [vr_ (some 0), vi_ x4] s) fun s1 =>
    some (none, s1))
  else
    ((mm_a 26000 25 x5 s).bind fun v2 =>
    (if v2 = 58 then
      ((mm_a 26000 28 x5 s).bind fun v3 =>
      jm 128 [vr_ (some 0), vi_ x4, vi_ v3] [] s)
    else
      ((mm_a 26000 25 x5 s).bind fun v4 =>
      (if v4 = 59 then
        ((mm_a 26000 28 x5 s).bind fun v5 =>
        jm 128 [vr_ (some 0), vi_ x4, vi_ v5] [] s)
      else
        (mm_bV (ca 92 [vr_ (some 0), vi_ 1, vi_ x5, vi_ 0] s) fun s6 =>
        ((mm_a 26000 28 x5 s6).bind fun v7 =>
        jm 128 [vr_ (some 0), vi_ x4, vi_ v7] [] s6))))))) := by rfl
set_option maxRecDepth 100000 in
theorem mb_variables (x1 : Int32) (s : mm_S) : mm_B mt_lc mt_ln mt_ty mt_sg mt_st 0 mt_variables ca jm 1000 mt_variables [some (vr_ (some 0)), some (vi_ x1), none, none, none, none, none] [] s =
  ((mm_a 26000 27 x1 s).bind fun v1 =>
  jm 12 [vr_ (some 0), vi_ x1, vi_ 0, vi_ 0, vi_ v1] [] s) := by rfl
set_option maxRecDepth 100000 in
theorem mb_variables_12 (x1 x2 x3 x4 : Int32) (s : mm_S) : mm_B mt_lc mt_ln mt_ty mt_sg mt_st 0 mt_variables ca jm 1000 (pj_at mt_variables 12) [some (vr_ (some 0)), some (vi_ x1), some (vi_ x2), some (vi_ x3), some (vi_ x4), none, none] [] s =
  (if x4 < 0 then
    ((mm_a 26000 30 x1 s).bind fun v1 =>
    ((mm_a 26000 27 x1 s).bind fun v2 =>
    jm 91 [vr_ (some 0), vi_ x3, vi_ ((s 0 91) - x3), vi_ ((s 0 96) + v1), vi_ v2] [] s))
  else
    ((mm_a 26000 25 x4 s).bind fun v3 =>
    (if v3 = 58 then
      ((mm_a 26000 28 x4 s).bind fun v4 =>
      jm 12 [vr_ (some 0), vi_ x1, vi_ (x2 + 1), vi_ x3, vi_ v4] [] s)
    else
      ((mm_a 26000 25 x4 s).bind fun v5 =>
      (if v5 = 59 then
        ((mm_a 26000 28 x4 s).bind fun v6 =>
        jm 12 [vr_ (some 0), vi_ x1, vi_ x2, vi_ x3, vi_ v6] [] s)
      else
        ((mm_a 26000 28 x4 s).bind fun v7 =>
        jm 12 [vr_ (some 0), vi_ x1, vi_ x2, vi_ (x3 + 1), vi_ v7] [] s)))))) := by rfl
set_option maxRecDepth 100000 in
theorem mb_variables_91 (x3 x4 x5 x6 : Int32) (s : mm_S) : mm_B mt_lc mt_ln mt_ty mt_sg mt_st 0 mt_variables ca jm 1000 (pj_at mt_variables 91) [some (vr_ (some 0)), none, none, some (vi_ x3), some (vi_ x4), some (vi_ x5), some (vi_ x6)] [] s =
  (if x6 < 0 then
    some (none, (mm_u s 0 91 ((s 0 91) - x3)))
  else
    ((mm_a 26000 25 x6 s).bind fun v1 =>
    (if v1 = 58 then
      ((mm_a 26000 28 x6 s).bind fun v2 =>
      jm 91 [vr_ (some 0), vi_ x3, vi_ x4, vi_ x5, vi_ v2] [] s)
    else
      ((mm_a 26000 25 x6 s).bind fun v3 =>
      (if v3 = 59 then
        ((mm_a 26000 31 x6 s).bind fun v4 =>
        ((mm_w 65536 98 x5 ((s 0 96) + v4) s).bind fun s5 =>
        ((mm_a 26000 28 x6 s5).bind fun v6 =>
        jm 91 [vr_ (some 0), vi_ x3, vi_ x4, vi_ (x5 + 1), vi_ v6] [] s5)))
      else
        ((mm_a 300000 92 x4 s).bind fun v7 =>
        ((mm_w 65536 98 x5 v7 s).bind fun s8 =>
        ((mm_a 26000 28 x6 s8).bind fun v9 =>
        jm 91 [vr_ (some 0), vi_ x3, vi_ (x4 + 1), vi_ (x5 + 1), vi_ v9] [] s8)))))))) := by rfl
set_option maxRecDepth 100000 in
theorem mb_choose (x1 : Int32) (s : mm_S) : mm_B mt_lc mt_ln mt_ty mt_sg mt_st 0 mt_choose ca jm 1000 mt_choose [some (vr_ (some 0)), some (vi_ x1), none, none, none, none, none] [] s =
  (mm_bI (ca 96 [vr_ (some 0)] s) fun v2 s1 =>
  ((mm_a 26000 27 x1 s1).bind fun v3 =>
  ((mm_a 26000 28 v3 s1).bind fun v4 =>
  jm 23 [vr_ (some 0), vi_ x1, vi_ v2, vi_ (-1), vi_ (-1), vi_ v4] [] s1))) := by rfl
set_option maxRecDepth 100000 in
theorem mb_choose_23 (x1 x2 x3 x4 x5 : Int32) (s : mm_S) : mm_B mt_lc mt_ln mt_ty mt_sg mt_st 0 mt_choose ca jm 1000 (pj_at mt_choose 23) [some (vr_ (some 0)), some (vi_ x1), some (vi_ x2), some (vi_ x3), some (vi_ x4), some (vi_ x5), none] [] s =
  (if x5 < 0 then
    (if x3 < 0 then
      (if x4 < 0 then
        some (none, s)
      else
        (mm_bV (ca 92 [vr_ (some 0), vi_ 17, vi_ x1, vi_ x4] s) fun s1 =>
        some (none, s1)))
    else
      (if x3 < 0 then
        some (none, s)
      else
        (mm_bV (ca 92 [vr_ (some 0), vi_ 17, vi_ x1, vi_ x3] s) fun s2 =>
        some (none, s2))))
  else
    ((mm_a 26000 27 x5 s).bind fun v3 =>
    jm 37 [vr_ (some 0), vi_ x1, vi_ x2, vi_ x3, vi_ x4, vi_ x5, vi_ v3] [] s)) := by rfl
set_option maxRecDepth 100000 in
theorem mb_choose_37 (x1 x2 x3 x4 x5 x6 : Int32) (s : mm_S) : mm_B mt_lc mt_ln mt_ty mt_sg mt_st 0 mt_choose ca jm 1000 (pj_at mt_choose 37) [some (vr_ (some 0)), some (vi_ x1), some (vi_ x2), some (vi_ x3), some (vi_ x4), some (vi_ x5), some (vi_ x6)] [] s =
  (if x6 < 0 then
    ((mm_a 26000 28 x5 s).bind fun v1 =>
    jm 23 [vr_ (some 0), vi_ x1, vi_ x2, vi_ x3, vi_ x4, vi_ v1] [] s)
  else
    ((mm_a 26000 25 x6 s).bind fun v2 =>
    (if v2 = 43 then
      ((mm_a 26000 29 x6 s).bind fun v3 =>
      (if v3 = x2 then
        (if x3 < 0 then
          jm 72 [vr_ (some 0), vi_ x1, vi_ x2, vi_ x5, vi_ x4, vi_ x5, vi_ x6] [] s
        else
          jm 72 [vr_ (some 0), vi_ x1, vi_ x2, vi_ x3, vi_ x4, vi_ x5, vi_ x6] [] s)
      else
        jm 72 [vr_ (some 0), vi_ x1, vi_ x2, vi_ x3, vi_ x4, vi_ x5, vi_ x6] [] s))
    else
      jm 72 [vr_ (some 0), vi_ x1, vi_ x2, vi_ x3, vi_ x4, vi_ x5, vi_ x6] [] s))) := by rfl
set_option maxRecDepth 100000 in
theorem mb_choose_72 (x1 x2 x3 x4 x5 x6 : Int32) (s : mm_S) : mm_B mt_lc mt_ln mt_ty mt_sg mt_st 0 mt_choose ca jm 1000 (pj_at mt_choose 72) [some (vr_ (some 0)), some (vi_ x1), some (vi_ x2), some (vi_ x3), some (vi_ x4), some (vi_ x5), some (vi_ x6)] [] s =
  ((mm_a 26000 25 x6 s).bind fun v1 =>
  (if v1 = 44 then
    ((mm_a 26000 28 x6 s).bind fun v2 =>
    jm 37 [vr_ (some 0), vi_ x1, vi_ x2, vi_ x3, vi_ x5, vi_ x5, vi_ v2] [] s)
  else
    ((mm_a 26000 28 x6 s).bind fun v3 =>
    jm 37 [vr_ (some 0), vi_ x1, vi_ x2, vi_ x3, vi_ x4, vi_ x5, vi_ v3] [] s))) := by rfl
set_option maxRecDepth 100000 in
theorem mb_doNext (s : mm_S) : mm_B mt_lc mt_ln mt_ty mt_sg mt_st 0 mt_doNext ca jm 1000 mt_doNext [some (vr_ (some 0)), none, none, none, none, none] [] s =
  ((mm_a 620000 88 ((s 0 87) - 1) (mm_u s 0 87 ((s 0 87) - 1))).bind fun v1 =>
  ((mm_a 620000 89 ((s 0 87) - 1) (mm_u s 0 87 ((s 0 87) - 1))).bind fun v2 =>
  ((mm_a 620000 90 ((s 0 87) - 1) (mm_u s 0 87 ((s 0 87) - 1))).bind fun v3 =>
  (if v1 = 1 then
    (mm_bV (ca 100 [vr_ (some 0), vi_ v2] (mm_u s 0 87 ((s 0 87) - 1))) fun s4 =>
    some (none, s4))
  else
    (if v1 = 2 then
      (mm_bV (ca 103 [vr_ (some 0), vi_ v2] (mm_u s 0 87 ((s 0 87) - 1))) fun s5 =>
      some (none, s5))
    else
      (if v1 = 3 then
        ((mm_a 26000 29 v2 (mm_u s 0 87 ((s 0 87) - 1))).bind fun v6 =>
        (mm_bI (ca 96 [vr_ (some 0)] (mm_u s 0 87 ((s 0 87) - 1))) fun v8 s7 =>
        (mm_bI (ca 58 [vi_ v6, vi_ v8] s7) fun v10 s9 =>
        (mm_bV (ca 95 [vr_ (some 0), vi_ v10] s9) fun s11 =>
        some (none, s11)))))
      else
        (if v1 = 4 then
          (mm_bI (ca 96 [vr_ (some 0)] (mm_u s 0 87 ((s 0 87) - 1))) fun v13 s12 =>
          (mm_bI (ca 97 [vr_ (some 0), vl_ (v13 : Int32).toInt64] s12) fun v15 s14 =>
          (mm_bV (ca 95 [vr_ (some 0), vi_ v15] s14) fun s16 =>
          some (none, s16))))
        else
          (if v1 = 9 then
            (mm_bI (ca 96 [vr_ (some 0)] (mm_u s 0 87 ((s 0 87) - 1))) fun v18 s17 =>
            (mm_bI (ca 96 [vr_ (some 0)] s17) fun v20 s19 =>
            (mm_bV (ca 95 [vr_ (some 0), vi_ (v18 + v20)] s19) fun s21 =>
            some (none, s21))))
          else
            (if v1 = 5 then
              ((mm_a 26000 27 v2 (mm_u s 0 87 ((s 0 87) - 1))).bind fun v22 =>
              ((mm_a 26000 28 v22 (mm_u s 0 87 ((s 0 87) - 1))).bind fun v23 =>
              (mm_bI (ca 96 [vr_ (some 0)] (mm_u s 0 87 ((s 0 87) - 1))) fun v25 s24 =>
              (if v25 = 0 then
                ((mm_a 26000 28 v23 s24).bind fun v26 =>
                (mm_bV (ca 92 [vr_ (some 0), vi_ 1, vi_ v26, vi_ 0] s24) fun s27 =>
                some (none, s27)))
              else
                (mm_bV (ca 92 [vr_ (some 0), vi_ 1, vi_ v23, vi_ 0] s24) fun s28 =>
                some (none, s28))))))
            else
              (if v1 = 6 then
                (mm_bV (ca 104 [vr_ (some 0), vi_ v2, vi_ v3] (mm_u s 0 87 ((s 0 87) - 1))) fun s29 =>
                some (none, s29))
              else
                (if v1 = 7 then
                  (mm_bV (ca 107 [vr_ (some 0), vi_ v2, vi_ v3] (mm_u s 0 87 ((s 0 87) - 1))) fun s30 =>
                  some (none, s30))
                else
                  (if v1 = 8 then
                    (mm_bV (ca 95 [vr_ (some 0), vi_ 0] (mm_u s 0 87 ((s 0 87) - 1))) fun s31 =>
                    some (none, s31))
                  else
                    (if v1 = 10 then
                      (mm_bV (ca 122 [vr_ (some 0), vi_ v2] (mm_u s 0 87 ((s 0 87) - 1))) fun s32 =>
                      some (none, s32))
                    else
                      (if v1 = 11 then
                        (mm_bV (ca 123 [vr_ (some 0), vi_ v2, vi_ v3] (mm_u s 0 87 ((s 0 87) - 1))) fun s33 =>
                        some (none, s33))
                      else
                        (if v1 = 12 then
                          (mm_bV (ca 124 [vr_ (some 0), vi_ v2] (mm_u s 0 87 ((s 0 87) - 1))) fun s34 =>
                          some (none, s34))
                        else
                          (if v1 = 13 then
                            (mm_bI (ca 96 [vr_ (some 0)] (mm_u s 0 87 ((s 0 87) - 1))) fun v36 s35 =>
                            some (none, s35))
                          else
                            (if v1 = 14 then
                              (mm_bI (ca 96 [vr_ (some 0)] (mm_u s 0 87 ((s 0 87) - 1))) fun v38 s37 =>
                              (if v38 = 0 then
                                jm 299 [vr_ (some 0), vi_ v2] [vi_ 0] s37
                              else
                                jm 299 [vr_ (some 0), vi_ v2] [vi_ 1] s37))
                            else
                              (if v1 = 15 then
                                (mm_bV (ca 125 [vr_ (some 0), vi_ v2, vi_ v3] (mm_u s 0 87 ((s 0 87) - 1))) fun s39 =>
                                some (none, s39))
                              else
                                (if v1 = 16 then
                                  (mm_bV (ca 127 [vr_ (some 0), vi_ v2] (mm_u s 0 87 ((s 0 87) - 1))) fun s40 =>
                                  some (none, s40))
                                else
                                  (if v1 = 17 then
                                    (mm_bV (ca 128 [vr_ (some 0), vi_ v2, vi_ v3] (mm_u s 0 87 ((s 0 87) - 1))) fun s41 =>
                                    some (none, s41))
                                  else
                                    (if v1 = 18 then
                                      (mm_bV (ca 132 [vr_ (some 0), vi_ v2, vi_ v3] (mm_u s 0 87 ((s 0 87) - 1))) fun s42 =>
                                      some (none, s42))
                                    else
                                      (if v1 = 19 then
                                        (mm_bV (ca 129 [vr_ (some 0), vi_ v2] (mm_u s 0 87 ((s 0 87) - 1))) fun s43 =>
                                        some (none, s43))
                                      else
                                        (if v1 = 20 then
                                          (mm_bI (ca 96 [vr_ (some 0)] (mm_u s 0 87 ((s 0 87) - 1))) fun v45 s44 =>
                                          ((mm_a 26000 31 v2 s44).bind fun v46 =>
                                          (mm_bI (ca 96 [vr_ (some 0)] s44) fun v48 s47 =>
                                          ((mm_w 65536 98 ((s44 0 96) + v46) v48 s47).bind fun s49 =>
                                          ((mm_a 26000 31 v2 s49).bind fun v50 =>
                                          ((mm_w 65536 98 (((s49 0 96) + v50) + 1) v45 s49).bind fun s51 =>
                                          (mm_bV (ca 92 [vr_ (some 0), vi_ 15, vi_ v2, vi_ 0] s51) fun s52 =>
                                          some (none, s52))))))))
                                        else
                                          (if v1 = 21 then
                                            (mm_bV (ca 130 [vr_ (some 0), vi_ v2] (mm_u s 0 87 ((s 0 87) - 1))) fun s53 =>
                                            some (none, s53))
                                          else
                                            (if v1 = 23 then
                                              (mm_bV (ca 121 [vr_ (some 0), vi_ v2, vi_ 2, vi_ v3] (mm_u s 0 87 ((s 0 87) - 1))) fun s54 =>
                                              some (none, s54))
                                            else
                                              (mm_bI (ca 96 [vr_ (some 0)] (mm_u s 0 87 ((s 0 87) - 1))) fun v56 s55 =>
                                              jm 557 [vr_ (some 0), vi_ v56] [] s55)))))))))))))))))))))))))) := by rfl
set_option maxRecDepth 100000 in
theorem mb_doNext_299 (x2 y0 : Int32) (s : mm_S) : mm_B mt_lc mt_ln mt_ty mt_sg mt_st 0 mt_doNext ca jm 1000 (pj_at mt_doNext 299) [some (vr_ (some 0)), none, some (vi_ x2), none, none, none] [vi_ y0] s =
  ((mm_a 26000 27 x2 s).bind fun v1 =>
  ((mm_a 26000 28 v1 s).bind fun v2 =>
  ((mm_a 26000 25 x2 s).bind fun v3 =>
  (if v3 = 24 then
    (if y0 = 0 then
      ((mm_a 26000 28 v2 s).bind fun v4 =>
      (mm_bV (ca 92 [vr_ (some 0), vi_ 10, vi_ v4, vi_ 0] s) fun s5 =>
      some (none, s5)))
    else
      (mm_bV (ca 92 [vr_ (some 0), vi_ 10, vi_ v2, vi_ 0] s) fun s6 =>
      some (none, s6)))
  else
    ((mm_a 26000 25 x2 s).bind fun v7 =>
    (if v7 = 22 then
      (if y0 = 1 then
        (mm_bV (ca 92 [vr_ (some 0), vi_ 10, vi_ v2, vi_ 0] s) fun s8 =>
        some (none, s8))
      else
        some (none, s))
    else
      (if y0 = 0 then
        (mm_bV (ca 92 [vr_ (some 0), vi_ 10, vi_ v2, vi_ 0] s) fun s9 =>
        some (none, s9))
      else
        some (none, s)))))))) := by rfl
set_option maxRecDepth 100000 in
theorem mb_doNext_557 (x4 : Int32) (s : mm_S) : mm_B mt_lc mt_ln mt_ty mt_sg mt_st 0 mt_doNext ca jm 1000 (pj_at mt_doNext 557) [some (vr_ (some 0)), none, none, none, some (vi_ x4), none] [] s =
  ((mm_a 620000 88 ((s 0 87) - 1) s).bind fun v1 =>
  (if v1 = 8 then
    ((mm_a 620000 90 ((s 0 87) - 1) s).bind fun v2 =>
    (mm_bV (ca 95 [vr_ (some 0), vi_ x4] (mm_u (mm_u s 0 91 v2) 0 87 ((s 0 87) - 1))) fun s3 =>
    some (none, s3)))
  else
    jm 557 [vr_ (some 0), vi_ x4] [] (mm_u s 0 87 ((s 0 87) - 1)))) := by rfl
set_option maxRecDepth 100000 in
theorem mb_returns (x1 x2 : Int32) (s : mm_S) : mm_B mt_lc mt_ln mt_ty mt_sg mt_st 0 mt_returns ca jm 1000 mt_returns [some (vr_ (some 0)), some (vi_ x1), some (vi_ x2), none] [] s =
  (if x1 = 1 then
    (mm_bI (ca 96 [vr_ (some 0)] s) fun v2 s1 =>
    jm 13 [vr_ (some 0), vi_ x2] [vi_ v2] s1)
  else
    jm 13 [vr_ (some 0), vi_ x2] [vi_ 0] s) := by rfl
set_option maxRecDepth 100000 in
theorem mb_returns_13 (x2 y0 : Int32) (s : mm_S) : mm_B mt_lc mt_ln mt_ty mt_sg mt_st 0 mt_returns ca jm 1000 (pj_at mt_returns 13) [some (vr_ (some 0)), none, some (vi_ x2), none] [vi_ y0] s =
  ((mm_a 600 93 ((s 0 95) - 1) (mm_u (mm_u s 0 91 x2) 0 95 ((s 0 95) - 1))).bind fun v1 =>
  ((mm_a 600 94 ((s 0 95) - 1) (mm_u (mm_u (mm_u s 0 91 x2) 0 95 ((s 0 95) - 1)) 0 96 v1)).bind fun v2 =>
  (mm_bV (ca 95 [vr_ (some 0), vi_ y0] (mm_u (mm_u (mm_u (mm_u s 0 91 x2) 0 95 ((s 0 95) - 1)) 0 96 v1) 0 97 v2)) fun s3 =>
  some (none, s3)))) := by rfl
set_option maxRecDepth 100000 in
theorem mb_feed (x1 x2 x3 x4 x5 : Int32) (s : mm_S) : mm_B mt_lc mt_ln mt_ty mt_sg mt_st 4 mt_feed ca jm 1000 mt_feed [some (vr_ (some 0)), some (vi_ x1), some (vi_ x2), some (vi_ x3), some (vi_ x4), some (vi_ x5), none, none] [] s =
  (if 6000 < ((s 0 2) + 20) then
    some (some (vi_ 0), (mm_u s 0 0 0))
  else
    jm 23 [vr_ (some 0), vi_ x1, vi_ x2, vi_ x3, vi_ x4, vi_ x5, vi_ 0] [] (mm_u s 0 0 0)) := by rfl
set_option maxRecDepth 100000 in
theorem mb_feed_23 (x1 x2 x3 x4 x5 x6 : Int32) (s : mm_S) : mm_B mt_lc mt_ln mt_ty mt_sg mt_st 4 mt_feed ca jm 1000 (pj_at mt_feed 23) [some (vr_ (some 0)), some (vi_ x1), some (vi_ x2), some (vi_ x3), some (vi_ x4), some (vi_ x5), some (vi_ x6), none] [] s =
  (if x6 < 20 then
    (if x6 < 4 then
      (if x6 < 8 then
        jm 52 [vr_ (some 0), vi_ x1, vi_ x2, vi_ x3, vi_ x4, vi_ x5, vi_ x6, vi_ x1] [] s
      else
        jm 52 [vr_ (some 0), vi_ x1, vi_ x2, vi_ x3, vi_ x4, vi_ x5, vi_ x6, vi_ x3] [] s)
    else
      (if x6 < 8 then
        jm 52 [vr_ (some 0), vi_ x1, vi_ x2, vi_ x3, vi_ x4, vi_ x5, vi_ x6, vi_ x2] [] s
      else
        jm 52 [vr_ (some 0), vi_ x1, vi_ x2, vi_ x3, vi_ x4, vi_ x5, vi_ x6, vi_ x3] [] s))
  else
    some (some (vi_ 1), s)) := by rfl
set_option maxRecDepth 100000 in
theorem mb_feed_52 (x1 x2 x3 x4 x5 x6 x7 : Int32) (s : mm_S) : mm_B mt_lc mt_ln mt_ty mt_sg mt_st 4 mt_feed ca jm 1000 (pj_at mt_feed 52) [some (vr_ (some 0)), some (vi_ x1), some (vi_ x2), some (vi_ x3), some (vi_ x4), some (vi_ x5), some (vi_ x6), some (vi_ x7)] [] s =
  (if x6 < 12 then
    (if x6 < 16 then
      jm 74 [vr_ (some 0), vi_ x1, vi_ x2, vi_ x3, vi_ x4, vi_ x5, vi_ x6, vi_ x7] [] s
    else
      jm 74 [vr_ (some 0), vi_ x1, vi_ x2, vi_ x3, vi_ x4, vi_ x5, vi_ x6, vi_ x5] [] s)
  else
    (if x6 < 16 then
      jm 74 [vr_ (some 0), vi_ x1, vi_ x2, vi_ x3, vi_ x4, vi_ x5, vi_ x6, vi_ x4] [] s
    else
      jm 74 [vr_ (some 0), vi_ x1, vi_ x2, vi_ x3, vi_ x4, vi_ x5, vi_ x6, vi_ x5] [] s)) := by rfl
set_option maxRecDepth 100000 in
theorem mb_feed_74 (x1 x2 x3 x4 x5 x6 x7 : Int32) (s : mm_S) : mm_B mt_lc mt_ln mt_ty mt_sg mt_st 4 mt_feed ca jm 1000 (pj_at mt_feed 74) [some (vr_ (some 0)), some (vi_ x1), some (vi_ x2), some (vi_ x3), some (vi_ x4), some (vi_ x5), some (vi_ x6), some (vi_ x7)] [] s =
  ((mm_w 6000 1 (s 0 2) (((x7 >>> ((24 - (8 * (x6 &&& 3))) &&& 31)) : Int32).toInt8.toInt32).toInt8.toInt32 s).bind fun s1 =>
  jm 23 [vr_ (some 0), vi_ x1, vi_ x2, vi_ x3, vi_ x4, vi_ x5, vi_ (x6 + 1)] [] (mm_u s1 0 2 ((s1 0 2) + 1))) := by rfl
set_option maxRecDepth 100000 in
theorem mb_end (x1 : Int32) (s : mm_S) : mm_B mt_lc mt_ln mt_ty mt_sg mt_st 4 mt_end ca jm 1000 mt_end [some (vr_ (some 0)), some (vi_ x1)] [] s =
  (if x1 < 0 then
    some (some (vi_ 0), (mm_u s 0 0 0))
  else
    (if (s 0 2) < x1 then
      some (some (vi_ 0), (mm_u s 0 0 0))
    else
      some (some (vi_ 1), (mm_u (mm_u s 0 0 0) 0 2 x1)))) := by rfl
set_option maxRecDepth 100000 in
theorem mb_compile (s : mm_S) : mm_B mt_lc mt_ln mt_ty mt_sg mt_st 1 mt_compile ca jm 1000 mt_compile [some (vr_ (some 0)), none] [] s =
  jm 20 [vr_ (some 0), vi_ 0] [] (mm_u (mm_u (mm_u s 0 0 0) 0 4 (s 0 2)) 0 2 0) := by rfl
set_option maxRecDepth 100000 in
theorem mb_compile_20 (x1 : Int32) (s : mm_S) : mm_B mt_lc mt_ln mt_ty mt_sg mt_st 1 mt_compile ca jm 1000 (pj_at mt_compile 20) [some (vr_ (some 0)), some (vi_ x1)] [] s =
  (if x1 < (s 0 4) then
    ((mm_a 6000 1 x1 s).bind fun v1 =>
    ((mm_w 6000 3 x1 (v1).toInt8.toInt32 s).bind fun s2 =>
    jm 20 [vr_ (some 0), vi_ (x1 + 1)] [] s2))
  else
    (mm_bI (ca 18 [vr_ (some 0)] (mm_u (mm_u (mm_u s 0 105 0) 0 12 0) 0 13 0)) fun v4 s3 =>
    (mm_bI (ca 32 [vr_ (some 0)] (mm_u s3 0 48 v4)) fun v6 s5 =>
    (if v6 = 0 then
      (if (s5 0 43) = (s5 0 8) then
        (if (s5 0 48) < 0 then
          (if (0 : Int32) = 0 then
            jm 110 [vr_ (some 0), vi_ 0] [vi_ 2, vr_ (some 0)] s5
          else
            jm 110 [vr_ (some 0), vi_ 0] [vi_ 1, vr_ (some 0)] s5)
        else
          (if (1 : Int32) = 0 then
            jm 110 [vr_ (some 0), vi_ 1] [vi_ 2, vr_ (some 0)] s5
          else
            jm 110 [vr_ (some 0), vi_ 1] [vi_ 1, vr_ (some 0)] s5))
      else
        (if (0 : Int32) = 0 then
          jm 110 [vr_ (some 0), vi_ 0] [vi_ 2, vr_ (some 0)] s5
        else
          jm 110 [vr_ (some 0), vi_ 0] [vi_ 1, vr_ (some 0)] s5))
    else
      (mm_bV (ca 69 [vr_ (some 0)] s5) fun s7 =>
      (if (s7 0 12) = 0 then
        some (some (vi_ (s7 0 81)), (mm_u (mm_u s7 0 105 1) 0 99 (s7 0 100)))
      else
        some (some (vi_ ((-1) - (s7 0 13))), s7))))))) := by rfl
set_option maxRecDepth 100000 in
theorem mb_compile_110 (x1 y1 : Int32) (s : mm_S) : mm_B mt_lc mt_ln mt_ty mt_sg mt_st 1 mt_compile ca jm 1000 (pj_at mt_compile 110) [some (vr_ (some 0)), some (vi_ x1)] [vi_ y1, vr_ (some 0)] s =
  (if x1 = 0 then
    (if (s 0 43) = (s 0 8) then
      (mm_bV (ca 45 [vr_ (some 0), vi_ y1, vi_ (s 0 4)] s) fun s1 =>
      some (some (vi_ ((-1) - (s1 0 13))), s1))
    else
      ((mm_a 12100 10 (s 0 43) s).bind fun v2 =>
      (mm_bV (ca 45 [vr_ (some 0), vi_ y1, vi_ v2] s) fun s3 =>
      some (some (vi_ ((-1) - (s3 0 13))), s3))))
  else
    (mm_bV (ca 45 [vr_ (some 0), vi_ y1, vi_ (s 0 48)] s) fun s4 =>
    some (some (vi_ ((-1) - (s4 0 13))), s4))) := by rfl
set_option maxRecDepth 100000 in
theorem mb_fault_2 (s : mm_S) : mm_B mt_lc mt_ln mt_ty mt_sg mt_st 1 mt_fault_2 ca jm 1000 mt_fault_2 [some (vr_ (some 0))] [] s =
  some (some (vi_ (s 0 12)), (mm_u s 0 0 0)) := by rfl
set_option maxRecDepth 100000 in
theorem mb_store (x1 : Int32) (s : mm_S) : mm_B mt_lc mt_ln mt_ty mt_sg mt_st 4 mt_store ca jm 1000 mt_store [some (vr_ (some 0)), some (vi_ x1)] [] s =
  (if x1 = 4096 then
    some (some (vi_ 1), (mm_u (mm_u s 0 0 0) 0 100 x1))
  else
    (if x1 = 8192 then
      some (some (vi_ 1), (mm_u (mm_u s 0 0 0) 0 100 x1))
    else
      (if x1 = 16384 then
        some (some (vi_ 1), (mm_u (mm_u s 0 0 0) 0 100 x1))
      else
        (if x1 = 32768 then
          some (some (vi_ 1), (mm_u (mm_u s 0 0 0) 0 100 x1))
        else
          (if x1 = 65536 then
            some (some (vi_ 1), (mm_u (mm_u s 0 0 0) 0 100 x1))
          else
            some (some (vi_ 0), (mm_u s 0 0 0))))))) := by rfl
set_option maxRecDepth 100000 in
theorem mb_input (x1 : Int32) (s : mm_S) : mm_B mt_lc mt_ln mt_ty mt_sg mt_st 1 mt_input ca jm 1000 mt_input [some (vr_ (some 0)), some (vi_ x1), none, none] [] s =
  (if x1 < 0 then
    some (some (vi_ (-1)), (mm_u (mm_u s 0 0 0) 0 2 0))
  else
    (if 3 < x1 then
      some (some (vi_ (-1)), (mm_u (mm_u s 0 0 0) 0 2 0))
    else
      jm 28 [vr_ (some 0), vi_ x1, vi_ (s 0 2), vi_ 0] [] (mm_u (mm_u s 0 0 0) 0 2 0))) := by rfl
set_option maxRecDepth 100000 in
theorem mb_input_28 (x1 x2 x3 : Int32) (s : mm_S) : mm_B mt_lc mt_ln mt_ty mt_sg mt_st 1 mt_input ca jm 1000 (pj_at mt_input 28) [some (vr_ (some 0)), some (vi_ x1), some (vi_ x2), some (vi_ x3)] [] s =
  (if x3 < x2 then
    ((mm_a 6000 1 x3 s).bind fun v1 =>
    ((mm_w 24000 109 ((6000 * x1) + x3) (v1).toInt8.toInt32 s).bind fun s2 =>
    jm 28 [vr_ (some 0), vi_ x1, vi_ x2, vi_ (x3 + 1)] [] s2))
  else
    ((mm_w 4 112 x1 x2 s).bind fun s3 =>
    ((mm_w 4 113 x1 0 s3).bind fun s4 =>
    (mm_bV (ca 115 [vr_ (some 0), vi_ x1] s4) fun s5 =>
    some (some (vi_ x2), s5))))) := by rfl
set_option maxRecDepth 100000 in
theorem mb_run (x1 : Int32) (s : mm_S) : mm_B mt_lc mt_ln mt_ty mt_sg mt_st 1 mt_run ca jm 1000 mt_run [some (vr_ (some 0)), some (vi_ x1), none] [] s =
  (if (s 0 105) = 0 then
    some (some (vi_ (-1)), (mm_u s 0 0 0))
  else
    (if x1 < 0 then
      some (some (vi_ (-1)), (mm_u s 0 0 0))
    else
      (if 100000 < x1 then
        some (some (vi_ (-1)), (mm_u s 0 0 0))
      else
        jm 27 [vr_ (some 0), vi_ x1, vi_ 0] [] (mm_u s 0 0 0)))) := by rfl
set_option maxRecDepth 100000 in
theorem mb_run_27 (x1 x2 : Int32) (s : mm_S) : mm_B mt_lc mt_ln mt_ty mt_sg mt_st 1 mt_run ca jm 1000 (pj_at mt_run 27) [some (vr_ (some 0)), some (vi_ x1), some (vi_ x2)] [] s =
  (if x2 < 65536 then
    ((mm_w 65536 98 x2 0 s).bind fun s1 =>
    jm 27 [vr_ (some 0), vi_ x1, vi_ (x2 + 1)] [] s1)
  else
    jm 49 [vr_ (some 0), vi_ x1, vi_ 0] [] s) := by rfl
set_option maxRecDepth 100000 in
theorem mb_run_49 (x1 x2 : Int32) (s : mm_S) : mm_B mt_lc mt_ln mt_ty mt_sg mt_st 1 mt_run ca jm 1000 (pj_at mt_run 49) [some (vr_ (some 0)), some (vi_ x1), some (vi_ x2)] [] s =
  (if x2 < (s 0 84) then
    ((mm_a 9000 85 x2 s).bind fun v1 =>
    ((mm_a 9000 86 x2 s).bind fun v2 =>
    ((mm_w 65536 98 v1 v2 s).bind fun s3 =>
    jm 49 [vr_ (some 0), vi_ x1, vi_ (x2 + 1)] [] s3)))
  else
    ((mm_w 2 116 0 0 (mm_u (mm_u (mm_u s 0 106 0) 0 114 0) 0 117 0)).bind fun s4 =>
    ((mm_w 2 116 1 0 s4).bind fun s5 =>
    ((mm_a 26000 29 (s5 0 82) (mm_u (mm_u (mm_u (mm_u (mm_u (mm_u (mm_u (mm_u (mm_u s5 0 101 x1) 0 102 0) 0 103 0) 0 104 0) 0 87 0) 0 91 0) 0 95 0) 0 96 0) 0 97 0)).bind fun v6 =>
    (mm_bV (ca 106 [vr_ (some 0), vi_ v6, vi_ (s5 0 81), vi_ 0] (mm_u (mm_u (mm_u (mm_u (mm_u (mm_u (mm_u (mm_u (mm_u s5 0 101 x1) 0 102 0) 0 103 0) 0 104 0) 0 87 0) 0 91 0) 0 95 0) 0 96 0) 0 97 0)) fun s7 =>
    jm 172 [vr_ (some 0)] [] s7))))) := by rfl
set_option maxRecDepth 100000 in
theorem mb_run_172 (s : mm_S) : mm_B mt_lc mt_ln mt_ty mt_sg mt_st 1 mt_run ca jm 1000 (pj_at mt_run 172) [some (vr_ (some 0)), none, none] [] s =
  (if (s 0 102) = 0 then
    (if 0 < (s 0 87) then
      (mm_bV (ca 131 [vr_ (some 0)] s) fun s1 =>
      jm 172 [vr_ (some 0)] [] s1)
    else
      (if (s 0 102) = 0 then
        (mm_bI (ca 96 [vr_ (some 0)] s) fun v3 s2 =>
        some (some (vi_ (s2 0 103)), (mm_u s2 0 104 v3)))
      else
        some (some (vi_ (s 0 103)), s)))
  else
    (if (s 0 102) = 0 then
      (mm_bI (ca 96 [vr_ (some 0)] s) fun v5 s4 =>
      some (some (vi_ (s4 0 103)), (mm_u s4 0 104 v5)))
    else
      some (some (vi_ (s 0 103)), s))) := by rfl
set_option maxRecDepth 100000 in
theorem mb_value (s : mm_S) : mm_B mt_lc mt_ln mt_ty mt_sg mt_st 1 mt_value ca jm 1000 mt_value [some (vr_ (some 0))] [] s =
  some (some (vi_ (s 0 104)), (mm_u s 0 0 0)) := by rfl
set_option maxRecDepth 100000 in
theorem mb_out (x1 : Int32) (s : mm_S) : mm_B mt_lc mt_ln mt_ty mt_sg mt_st 1 mt_out ca jm 1000 mt_out [some (vr_ (some 0)), some (vi_ x1)] [] s =
  (if x1 < 0 then
    some (some (vi_ (-1)), (mm_u s 0 0 0))
  else
    (if 1 < x1 then
      some (some (vi_ (-1)), (mm_u s 0 0 0))
    else
      ((mm_a 2 116 x1 (mm_u s 0 0 0)).bind fun v1 =>
      some (some (vi_ v1), (mm_u s 0 0 0))))) := by rfl
set_option maxRecDepth 100000 in
theorem mb_outAt (x1 x2 : Int32) (s : mm_S) : mm_B mt_lc mt_ln mt_ty mt_sg mt_st 1 mt_outAt ca jm 1000 mt_outAt [some (vr_ (some 0)), some (vi_ x1), some (vi_ x2)] [] s =
  (if x1 < 0 then
    some (some (vi_ 0), (mm_u (mm_u s 0 0 0) 0 0 1))
  else
    (if 1 < x1 then
      some (some (vi_ 0), (mm_u (mm_u s 0 0 0) 0 0 1))
    else
      (if x2 < 0 then
        some (some (vi_ 0), (mm_u (mm_u s 0 0 0) 0 0 1))
      else
        ((mm_a 2 116 x1 (mm_u s 0 0 0)).bind fun v1 =>
        (if x2 < v1 then
          ((mm_a 8192 115 ((4096 * x1) + x2) (mm_u s 0 0 0)).bind fun v2 =>
          some (some (vi_ (v2 &&& 255)), (mm_u s 0 0 0)))
        else
          some (some (vi_ 0), (mm_u (mm_u s 0 0 0) 0 0 1))))))) := by rfl
set_option maxRecDepth 100000 in
theorem mb_word (x1 : Int32) (s : mm_S) : mm_B mt_lc mt_ln mt_ty mt_sg mt_st 1 mt_word ca jm 1000 mt_word [some (vr_ (some 0)), some (vi_ x1)] [] s =
  (if x1 < 0 then
    some (some (vi_ 0), (mm_u (mm_u s 0 0 0) 0 0 1))
  else
    (if x1 < (s 0 99) then
      ((mm_a 65536 98 x1 (mm_u s 0 0 0)).bind fun v1 =>
      some (some (vi_ v1), (mm_u s 0 0 0)))
    else
      some (some (vi_ 0), (mm_u (mm_u s 0 0 0) 0 0 1)))) := by rfl
set_option maxRecDepth 100000 in
theorem mb_fuel (s : mm_S) : mm_B mt_lc mt_ln mt_ty mt_sg mt_st 1 mt_fuel ca jm 1000 mt_fuel [some (vr_ (some 0))] [] s =
  some (some (vi_ (s 0 101)), (mm_u s 0 0 0)) := by rfl
end mbq
