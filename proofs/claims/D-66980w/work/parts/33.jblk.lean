/-! block equations of the component and of the JDK: by gen/cemit.py -/
section cbq
variable {σ : Type} (lc : Nat → Int64) (gi : Nat → Option Nat → σ → Option Int32) (gr : Nat → Option Nat → σ → Option (Option Nat)) (pi : Nat → Option Nat → Int32 → σ → Option σ) (pr : Nat → Option Nat → Option Nat → σ → Option σ) (ai : Nat → Option Nat → Int32 → σ → Option Int32) (ar : Option Nat → Int32 → σ → Option (Option Nat)) (wi : Nat → Option Nat → Int32 → Int32 → σ → Option σ) (wr : Option Nat → Int32 → Option Nat → σ → Option σ) (an : Option Nat → σ → Option Int32) (nw : Nat → σ → Nat × σ) (na : Nat → Int32 → σ → Option (Nat × σ)) (io : Nat → Option Nat → σ → Option Bool) (dp : Nat → Option Nat → σ → Option Nat) (ca : Nat → List pj_V → σ → cx_O σ) (jm : Nat → List pj_V → List pj_V → σ → cx_O σ)
set_option maxRecDepth 100000 in
theorem cb_J0_init (x0 : Nat) (s : σ) : cx_B ct_lc gi gr pi pr ai ar wi wr an nw na io dp ct_ft ct_sg 0 [] ct_J0_init ca jm 1000 ct_J0_init [some (vr_ (some x0))] [] s =
  (cx_bV cx_th (ca 151 [vr_ (some x0)] s) fun s1 =>
  some (.inl none, s1)) := by rfl
set_option maxRecDepth 100000 in
theorem cb_J1_init (x0 : Nat) (s : σ) : cx_B ct_lc gi gr pi pr ai ar wi wr an nw na io dp ct_ft ct_sg 0 [] ct_J1_init ca jm 1000 ct_J1_init [some (vr_ (some x0))] [] s =
  (cx_bV cx_th (ca 0 [vr_ (some x0)] s) fun s1 =>
  ((pi 7 (some x0) 0 s1).bind fun s2 =>
  some (.inl none, s2))) := by rfl
set_option maxRecDepth 100000 in
theorem cb_J1_put (x1 x2 : Option Nat) (x0 : Nat) (s : σ) : cx_B ct_lc gi gr pi pr ai ar wi wr an nw na io dp ct_ft ct_sg 3 [] ct_J1_put ca jm 1000 ct_J1_put [some (vr_ (some x0)), some (vr_ x1), some (vr_ x2)] [] s =
  (cx_bI cx_th (ca 3 [vr_ x1] s) fun v2 s1 =>
  ((dp 4 (some x0) s1).bind fun m3 =>
  (cx_bR cx_th (ca m3 [vr_ (some x0), vi_ v2, vr_ x1, vr_ x2, vi_ 0, vi_ 1] s1) fun v5 s4 =>
  some (.inl (some (vr_ v5)), s4)))) := by rfl
set_option maxRecDepth 100000 in
theorem cb_J1_hash (x0 : Option Nat) (s : σ) : cx_B ct_lc gi gr pi pr ai ar wi wr an nw na io dp ct_ft ct_sg 1 [] ct_J1_hash ca jm 1000 ct_J1_hash [some (vr_ x0), none] [] s =
  (if x0 = none then
    some (.inl (some (vi_ 0)), s)
  else
    ((dp 408 x0 s).bind fun m1 =>
    (cx_bI cx_th (ca m1 [vr_ x0] s) fun v3 s2 =>
    some (.inl (some (vi_ (v3 ^^^ ((v3 : Int32).toUInt32 >>> ((16 : Int32).toUInt32 &&& Int32.toUInt32 31)).toInt32))), s2)))) := by rfl
set_option maxRecDepth 100000 in
theorem cb_J1_putVal (x1 x4 x5 : Int32) (x2 x3 : Option Nat) (x0 : Nat) (s : σ) : cx_B ct_lc gi gr pi pr ai ar wi wr an nw na io dp ct_ft ct_sg 3 [] ct_J1_putVal ca jm 1000 ct_J1_putVal [some (vr_ (some x0)), some (vi_ x1), some (vr_ x2), some (vr_ x3), some (vi_ x4), some (vi_ x5), none, none, none, none, none, none, none] [] s =
  ((gr 2 (some x0) s).bind fun v1 =>
  (if v1 = none then
    ((dp 5 (some x0) s).bind fun m2 =>
    (cx_bR cx_th (ca m2 [vr_ (some x0)] s) fun v4 s3 =>
    ((an v4 s3).bind fun v5 =>
    jm 29 [vr_ (some x0), vi_ x1, vr_ x2, vr_ x3, vi_ x4, vi_ x5, vr_ v4, vi_ v5] [] s3)))
  else
    ((an v1 s).bind fun v6 =>
    (if v6 = 0 then
      ((dp 5 (some x0) s).bind fun m7 =>
      (cx_bR cx_th (ca m7 [vr_ (some x0)] s) fun v9 s8 =>
      ((an v9 s8).bind fun v10 =>
      jm 29 [vr_ (some x0), vi_ x1, vr_ x2, vr_ x3, vi_ x4, vi_ x5, vr_ v9, vi_ v10] [] s8)))
    else
      jm 29 [vr_ (some x0), vi_ x1, vr_ x2, vr_ x3, vi_ x4, vi_ x5, vr_ v1, vi_ v6] [] s)))) := by rfl
set_option maxRecDepth 100000 in
theorem cb_J1_putVal_29 (x1 x4 x5 x8 : Int32) (x2 x3 x6 : Option Nat) (x0 : Nat) (s : σ) : cx_B ct_lc gi gr pi pr ai ar wi wr an nw na io dp ct_ft ct_sg 3 [] ct_J1_putVal ca jm 1000 (pj_at ct_J1_putVal 29) [some (vr_ (some x0)), some (vi_ x1), some (vr_ x2), some (vr_ x3), some (vi_ x4), some (vi_ x5), some (vr_ x6), none, some (vi_ x8), none, none, none, none] [] s =
  ((ar x6 ((x8 - 1) &&& x1) s).bind fun v1 =>
  (if v1 = none then
    ((dp 9 (some x0) s).bind fun m2 =>
    (cx_bR cx_th (ca m2 [vr_ (some x0), vi_ x1, vr_ x2, vr_ x3, vr_ none] s) fun v4 s3 =>
    ((wr x6 ((x8 - 1) &&& x1) v4 s3).bind fun s5 =>
    jm 259 [vr_ (some x0), vi_ x5] [] s5)))
  else
    ((gi 9 v1 s).bind fun v6 =>
    (if v6 = x1 then
      ((gr 10 v1 s).bind fun v7 =>
      (if v7 = x2 then
        jm 222 [vr_ (some x0), vr_ x3, vi_ x4, vi_ x5, vr_ v1] [] s
      else
        (if x2 = none then
          jm 104 [vr_ (some x0), vi_ x1, vr_ x2, vr_ x3, vi_ x4, vi_ x5, vr_ x6, vr_ v1] [] s
        else
          ((dp 152 x2 s).bind fun m8 =>
          (cx_bI cx_th (ca m8 [vr_ x2, vr_ v7] s) fun v10 s9 =>
          (if v10 = 0 then
            jm 104 [vr_ (some x0), vi_ x1, vr_ x2, vr_ x3, vi_ x4, vi_ x5, vr_ x6, vr_ v1] [] s9
          else
            jm 222 [vr_ (some x0), vr_ x3, vi_ x4, vi_ x5, vr_ v1] [] s9))))))
    else
      jm 104 [vr_ (some x0), vi_ x1, vr_ x2, vr_ x3, vi_ x4, vi_ x5, vr_ x6, vr_ v1] [] s)))) := by rfl
set_option maxRecDepth 100000 in
theorem cb_J1_putVal_104 (x1 x4 x5 : Int32) (x2 x3 x6 x7 : Option Nat) (x0 : Nat) (s : σ) : cx_B ct_lc gi gr pi pr ai ar wi wr an nw na io dp ct_ft ct_sg 3 [] ct_J1_putVal ca jm 1000 (pj_at ct_J1_putVal 104) [some (vr_ (some x0)), some (vi_ x1), some (vr_ x2), some (vr_ x3), some (vi_ x4), some (vi_ x5), some (vr_ x6), some (vr_ x7), none, none, none, none, none] [] s =
  ((io 40 x7 s).bind fun b1 =>
  (if (cx_ib b1 (1 : Int32) 0) = 0 then
    jm 134 [vr_ (some x0), vi_ x1, vr_ x2, vr_ x3, vi_ x4, vi_ x5, vr_ x6, vr_ x7, vi_ 0] [] s
  else
    ((cx_cst io 40 x7 s).bind fun _ =>
    ((dp 65 x7 s).bind fun m2 =>
    (cx_bR cx_th (ca m2 [vr_ x7, vr_ (some x0), vr_ x6, vi_ x1, vr_ x2, vr_ x3] s) fun v4 s3 =>
    jm 222 [vr_ (some x0), vr_ x3, vi_ x4, vi_ x5, vr_ v4] [] s3))))) := by rfl
set_option maxRecDepth 100000 in
theorem cb_J1_putVal_134 (x1 x4 x5 x12 : Int32) (x2 x3 x6 x7 : Option Nat) (x0 : Nat) (s : σ) : cx_B ct_lc gi gr pi pr ai ar wi wr an nw na io dp ct_ft ct_sg 3 [] ct_J1_putVal ca jm 1000 (pj_at ct_J1_putVal 134) [some (vr_ (some x0)), some (vi_ x1), some (vr_ x2), some (vr_ x3), some (vi_ x4), some (vi_ x5), some (vr_ x6), some (vr_ x7), none, none, none, none, some (vi_ x12)] [] s =
  ((gr 12 x7 s).bind fun v1 =>
  (if v1 = none then
    ((dp 9 (some x0) s).bind fun m2 =>
    (cx_bR cx_th (ca m2 [vr_ (some x0), vi_ x1, vr_ x2, vr_ x3, vr_ none] s) fun v4 s3 =>
    ((pr 12 x7 v4 s3).bind fun s5 =>
    (if x12 < 7 then
      jm 222 [vr_ (some x0), vr_ x3, vi_ x4, vi_ x5, vr_ v1] [] s5
    else
      ((dp 11 (some x0) s5).bind fun m6 =>
      (cx_bV cx_th (ca m6 [vr_ (some x0), vr_ x6, vi_ x1] s5) fun s7 =>
      jm 222 [vr_ (some x0), vr_ x3, vi_ x4, vi_ x5, vr_ v1] [] s7))))))
  else
    ((gi 9 v1 s).bind fun v8 =>
    (if v8 = x1 then
      ((gr 10 v1 s).bind fun v9 =>
      (if v9 = x2 then
        jm 222 [vr_ (some x0), vr_ x3, vi_ x4, vi_ x5, vr_ v1] [] s
      else
        (if x2 = none then
          jm 134 [vr_ (some x0), vi_ x1, vr_ x2, vr_ x3, vi_ x4, vi_ x5, vr_ x6, vr_ v1, vi_ (x12 + 1)] [] s
        else
          ((dp 152 x2 s).bind fun m10 =>
          (cx_bI cx_th (ca m10 [vr_ x2, vr_ v9] s) fun v12 s11 =>
          (if v12 = 0 then
            jm 134 [vr_ (some x0), vi_ x1, vr_ x2, vr_ x3, vi_ x4, vi_ x5, vr_ x6, vr_ v1, vi_ (x12 + 1)] [] s11
          else
            jm 222 [vr_ (some x0), vr_ x3, vi_ x4, vi_ x5, vr_ v1] [] s11))))))
    else
      jm 134 [vr_ (some x0), vi_ x1, vr_ x2, vr_ x3, vi_ x4, vi_ x5, vr_ x6, vr_ v1, vi_ (x12 + 1)] [] s)))) := by rfl
set_option maxRecDepth 100000 in
theorem cb_J1_putVal_222 (x4 x5 : Int32) (x3 x10 : Option Nat) (x0 : Nat) (s : σ) : cx_B ct_lc gi gr pi pr ai ar wi wr an nw na io dp ct_ft ct_sg 3 [] ct_J1_putVal ca jm 1000 (pj_at ct_J1_putVal 222) [some (vr_ (some x0)), none, none, some (vr_ x3), some (vi_ x4), some (vi_ x5), none, none, none, none, some (vr_ x10), none, none] [] s =
  (if x10 = none then
    jm 259 [vr_ (some x0), vi_ x5] [] s
  else
    ((gr 11 x10 s).bind fun v1 =>
    (if x4 = 0 then
      ((pr 11 x10 x3 s).bind fun s2 =>
      ((dp 13 (some x0) s2).bind fun m3 =>
      (cx_bV cx_th (ca m3 [vr_ (some x0), vr_ x10] s2) fun s4 =>
      some (.inl (some (vr_ v1)), s4))))
    else
      (if v1 = none then
        ((pr 11 x10 x3 s).bind fun s5 =>
        ((dp 13 (some x0) s5).bind fun m6 =>
        (cx_bV cx_th (ca m6 [vr_ (some x0), vr_ x10] s5) fun s7 =>
        some (.inl (some (vr_ v1)), s7))))
      else
        ((dp 13 (some x0) s).bind fun m8 =>
        (cx_bV cx_th (ca m8 [vr_ (some x0), vr_ x10] s) fun s9 =>
        some (.inl (some (vr_ v1)), s9))))))) := by rfl
set_option maxRecDepth 100000 in
theorem cb_J1_putVal_259 (x5 : Int32) (x0 : Nat) (s : σ) : cx_B ct_lc gi gr pi pr ai ar wi wr an nw na io dp ct_ft ct_sg 3 [] ct_J1_putVal ca jm 1000 (pj_at ct_J1_putVal 259) [some (vr_ (some x0)), none, none, none, none, some (vi_ x5), none, none, none, none, none, none, none] [] s =
  ((gi 5 (some x0) s).bind fun v1 =>
  ((pi 5 (some x0) (v1 + 1) s).bind fun s2 =>
  ((gi 4 (some x0) s2).bind fun v3 =>
  ((pi 4 (some x0) (v3 + 1) s2).bind fun s4 =>
  ((gi 6 (some x0) s4).bind fun v5 =>
  (if v5 < (v3 + 1) then
    ((dp 5 (some x0) s4).bind fun m6 =>
    (cx_bR cx_th (ca m6 [vr_ (some x0)] s4) fun v8 s7 =>
    ((dp 14 (some x0) s7).bind fun m9 =>
    (cx_bV cx_th (ca m9 [vr_ (some x0), vi_ x5] s7) fun s10 =>
    some (.inl (some (vr_ none)), s10)))))
  else
    ((dp 14 (some x0) s4).bind fun m11 =>
    (cx_bV cx_th (ca m11 [vr_ (some x0), vi_ x5] s4) fun s12 =>
    some (.inl (some (vr_ none)), s12))))))))) := by rfl
set_option maxRecDepth 100000 in
theorem cb_J1_resize (x0 : Nat) (s : σ) : cx_B ct_lc gi gr pi pr ai ar wi wr an nw na io dp ct_ft ct_sg 3 [] ct_J1_resize ca jm 1000 ct_J1_resize [some (vr_ (some x0)), none, none, none, none, none, none, none, none, none, none, none, none, none] [] s =
  ((gr 2 (some x0) s).bind fun v1 =>
  (if v1 = none then
    jm 15 [vr_ (some x0), vr_ v1] [vi_ 0] s
  else
    ((an v1 s).bind fun v2 =>
    jm 15 [vr_ (some x0), vr_ v1] [vi_ v2] s))) := by rfl
set_option maxRecDepth 100000 in
theorem cb_J1_resize_15 (y0 : Int32) (x1 : Option Nat) (x0 : Nat) (s : σ) : cx_B ct_lc gi gr pi pr ai ar wi wr an nw na io dp ct_ft ct_sg 3 [] ct_J1_resize ca jm 1000 (pj_at ct_J1_resize 15) [some (vr_ (some x0)), some (vr_ x1), none, none, none, none, none, none, none, none, none, none, none, none] [vi_ y0] s =
  ((gi 6 (some x0) s).bind fun v1 =>
  (if 0 < y0 then
    (if y0 < 1073741824 then
      (if (y0 <<< (1 &&& 31)) < 1073741824 then
        (if y0 < 16 then
          jm 85 [vr_ (some x0), vr_ x1, vi_ y0, vi_ (y0 <<< (1 &&& 31)), vi_ 0] [] s
        else
          jm 85 [vr_ (some x0), vr_ x1, vi_ y0, vi_ (y0 <<< (1 &&& 31)), vi_ (v1 <<< (1 &&& 31))] [] s)
      else
        jm 85 [vr_ (some x0), vr_ x1, vi_ y0, vi_ (y0 <<< (1 &&& 31)), vi_ 0] [] s)
    else
      ((pi 6 (some x0) 2147483647 s).bind fun s2 =>
      some (.inl (some (vr_ x1)), s2)))
  else
    (if 0 < v1 then
      jm 85 [vr_ (some x0), vr_ x1, vi_ y0, vi_ v1, vi_ 0] [] s
    else
      jm 85 [vr_ (some x0), vr_ x1, vi_ y0, vi_ 16, vi_ 12] [] s))) := by rfl
set_option maxRecDepth 100000 in
theorem cb_J1_resize_85 (x2 x4 x5 : Int32) (x1 : Option Nat) (x0 : Nat) (s : σ) : cx_B ct_lc gi gr pi pr ai ar wi wr an nw na io dp ct_ft ct_sg 3 [] ct_J1_resize ca jm 1000 (pj_at ct_J1_resize 85) [some (vr_ (some x0)), some (vr_ x1), some (vi_ x2), none, some (vi_ x4), some (vi_ x5), none, none, none, none, none, none, none, none] [] s =
  (if x5 = 0 then
    none
  else
    ((pi 6 (some x0) x5 s).bind fun s1 =>
    ((na 211 x4 s1).bind fun q2 =>
    ((pr 2 (some x0) (some q2.1) q2.2).bind fun s3 =>
    (if x1 = none then
      some (.inl (some (vr_ (some q2.1))), s3)
    else
      jm 151 [vr_ (some x0), vr_ x1, vi_ x2, vi_ x4, vr_ (some q2.1), vi_ 0] [] s3))))) := by rfl
set_option maxRecDepth 100000 in
theorem cb_J1_resize_151 (x2 x4 x7 : Int32) (x1 x6 : Option Nat) (x0 : Nat) (s : σ) : cx_B ct_lc gi gr pi pr ai ar wi wr an nw na io dp ct_ft ct_sg 3 [] ct_J1_resize ca jm 1000 (pj_at ct_J1_resize 151) [some (vr_ (some x0)), some (vr_ x1), some (vi_ x2), none, some (vi_ x4), none, some (vr_ x6), some (vi_ x7), none, none, none, none, none, none] [] s =
  (if x7 < x2 then
    ((ar x1 x7 s).bind fun v1 =>
    (if v1 = none then
      jm 151 [vr_ (some x0), vr_ x1, vi_ x2, vi_ x4, vr_ x6, vi_ (x7 + 1)] [] s
    else
      ((wr x1 x7 none s).bind fun s2 =>
      ((gr 12 v1 s2).bind fun v3 =>
      (if v3 = none then
        ((gi 9 v1 s2).bind fun v4 =>
        ((wr x6 (v4 &&& (x4 - 1)) v1 s2).bind fun s5 =>
        jm 151 [vr_ (some x0), vr_ x1, vi_ x2, vi_ x4, vr_ x6, vi_ (x7 + 1)] [] s5))
      else
        ((io 40 v1 s2).bind fun b6 =>
        (if (cx_ib b6 (1 : Int32) 0) = 0 then
          jm 235 [vr_ (some x0), vr_ x1, vi_ x2, vi_ x4, vr_ x6, vi_ x7, vr_ v1, vr_ none, vr_ none, vr_ none, vr_ none] [] s2
        else
          ((cx_cst io 40 v1 s2).bind fun _ =>
          ((dp 58 v1 s2).bind fun m7 =>
          (cx_bV cx_th (ca m7 [vr_ v1, vr_ (some x0), vr_ x6, vi_ x7, vi_ x2] s2) fun s8 =>
          jm 151 [vr_ (some x0), vr_ x1, vi_ x2, vi_ x4, vr_ x6, vi_ (x7 + 1)] [] s8))))))))))
  else
    some (.inl (some (vr_ x6)), s)) := by rfl
set_option maxRecDepth 100000 in
theorem cb_J1_resize_235 (x2 x4 x7 : Int32) (x1 x6 x8 x9 x10 x11 x12 : Option Nat) (x0 : Nat) (s : σ) : cx_B ct_lc gi gr pi pr ai ar wi wr an nw na io dp ct_ft ct_sg 3 [] ct_J1_resize ca jm 1000 (pj_at ct_J1_resize 235) [some (vr_ (some x0)), some (vr_ x1), some (vi_ x2), none, some (vi_ x4), none, some (vr_ x6), some (vi_ x7), some (vr_ x8), some (vr_ x9), some (vr_ x10), some (vr_ x11), some (vr_ x12), none] [] s =
  ((gr 12 x8 s).bind fun v1 =>
  ((gi 9 x8 s).bind fun v2 =>
  (if (v2 &&& x2) = 0 then
    (if x10 = none then
      jm 301 [vr_ (some x0), vr_ x1, vi_ x2, vi_ x4, vr_ x6, vi_ x7, vr_ x8, vr_ x8, vr_ x11, vr_ x12, vr_ v1] [] s
    else
      ((pr 12 x10 x8 s).bind fun s3 =>
      jm 301 [vr_ (some x0), vr_ x1, vi_ x2, vi_ x4, vr_ x6, vi_ x7, vr_ x9, vr_ x8, vr_ x11, vr_ x12, vr_ v1] [] s3))
  else
    (if x12 = none then
      jm 301 [vr_ (some x0), vr_ x1, vi_ x2, vi_ x4, vr_ x6, vi_ x7, vr_ x9, vr_ x10, vr_ x8, vr_ x8, vr_ v1] [] s
    else
      ((pr 12 x12 x8 s).bind fun s4 =>
      jm 301 [vr_ (some x0), vr_ x1, vi_ x2, vi_ x4, vr_ x6, vi_ x7, vr_ x9, vr_ x10, vr_ x11, vr_ x8, vr_ v1] [] s4))))) := by rfl
set_option maxRecDepth 100000 in
theorem cb_J1_resize_301 (x2 x4 x7 : Int32) (x1 x6 x9 x10 x11 x12 x13 : Option Nat) (x0 : Nat) (s : σ) : cx_B ct_lc gi gr pi pr ai ar wi wr an nw na io dp ct_ft ct_sg 3 [] ct_J1_resize ca jm 1000 (pj_at ct_J1_resize 301) [some (vr_ (some x0)), some (vr_ x1), some (vi_ x2), none, some (vi_ x4), none, some (vr_ x6), some (vi_ x7), none, some (vr_ x9), some (vr_ x10), some (vr_ x11), some (vr_ x12), some (vr_ x13)] [] s =
  (if x13 = none then
    (if x10 = none then
      jm 327 [vr_ (some x0), vr_ x1, vi_ x2, vi_ x4, vr_ x6, vi_ x7, vr_ x11, vr_ x12] [] s
    else
      ((pr 12 x10 none s).bind fun s1 =>
      ((wr x6 x7 x9 s1).bind fun s2 =>
      jm 327 [vr_ (some x0), vr_ x1, vi_ x2, vi_ x4, vr_ x6, vi_ x7, vr_ x11, vr_ x12] [] s2)))
  else
    jm 235 [vr_ (some x0), vr_ x1, vi_ x2, vi_ x4, vr_ x6, vi_ x7, vr_ x13, vr_ x9, vr_ x10, vr_ x11, vr_ x12] [] s) := by rfl
set_option maxRecDepth 100000 in
theorem cb_J1_resize_327 (x2 x4 x7 : Int32) (x1 x6 x11 x12 : Option Nat) (x0 : Nat) (s : σ) : cx_B ct_lc gi gr pi pr ai ar wi wr an nw na io dp ct_ft ct_sg 3 [] ct_J1_resize ca jm 1000 (pj_at ct_J1_resize 327) [some (vr_ (some x0)), some (vr_ x1), some (vi_ x2), none, some (vi_ x4), none, some (vr_ x6), some (vi_ x7), none, none, none, some (vr_ x11), some (vr_ x12), none] [] s =
  (if x12 = none then
    jm 151 [vr_ (some x0), vr_ x1, vi_ x2, vi_ x4, vr_ x6, vi_ (x7 + 1)] [] s
  else
    ((pr 12 x12 none s).bind fun s1 =>
    ((wr x6 (x7 + x2) x11 s1).bind fun s2 =>
    jm 151 [vr_ (some x0), vr_ x1, vi_ x2, vi_ x4, vr_ x6, vi_ (x7 + 1)] [] s2))) := by rfl
set_option maxRecDepth 100000 in
theorem cb_J1_replacementNode (x1 x2 : Option Nat) (x0 : Nat) (s : σ) : cx_B ct_lc gi gr pi pr ai ar wi wr an nw na io dp ct_ft ct_sg 3 [] ct_J1_replacementNode ca jm 1000 ct_J1_replacementNode [some (vr_ (some x0)), some (vr_ x1), some (vr_ x2)] [] s =
  ((gi 9 x1 (nw 39 s).2).bind fun v1 =>
  ((gr 10 x1 (nw 39 s).2).bind fun v2 =>
  ((gr 11 x1 (nw 39 s).2).bind fun v3 =>
  (cx_bV cx_th (ca 41 [vr_ (some (nw 39 s).1), vi_ v1, vr_ v2, vr_ v3, vr_ x2] (nw 39 s).2) fun s4 =>
  some (.inl (some (vr_ (some (nw 39 s).1))), s4))))) := by rfl
set_option maxRecDepth 100000 in
theorem cb_J1_comparableClassFor (x0 : Option Nat) (s : σ) : cx_B ct_lc gi gr pi pr ai ar wi wr an nw na io dp ct_ft ct_sg 3 [] ct_J1_comparableClassFor ca jm 1000 ct_J1_comparableClassFor [some (vr_ x0), none, none, none, none, none, none, none, none] [] s =
  ((io 49 x0 s).bind fun b1 =>
  (if (cx_ib b1 (1 : Int32) 0) = 0 then
    some (.inl (some (vr_ none)), s)
  else
    ((dp 409 x0 s).bind fun m2 =>
    (cx_bR cx_th (ca m2 [vr_ x0] s) fun v4 s3 =>
    (if v4 = (some 1000) then
      some (.inl (some (vr_ v4)), s3)
    else
      none))))) := by rfl
set_option maxRecDepth 100000 in
theorem cb_J1_compareComparables (x0 x1 x2 : Option Nat) (s : σ) : cx_B ct_lc gi gr pi pr ai ar wi wr an nw na io dp ct_ft ct_sg 1 [] ct_J1_compareComparables ca jm 1000 ct_J1_compareComparables [some (vr_ x0), some (vr_ x1), some (vr_ x2)] [] s =
  (if x2 = none then
    some (.inl (some (vi_ 0)), s)
  else
    ((dp 409 x2 s).bind fun m1 =>
    (cx_bR cx_th (ca m1 [vr_ x2] s) fun v3 s2 =>
    (if v3 = x0 then
      ((cx_cst io 49 x1 s2).bind fun _ =>
      ((dp 410 x1 s2).bind fun m4 =>
      (cx_bI cx_th (ca m4 [vr_ x1, vr_ x2] s2) fun v6 s5 =>
      some (.inl (some (vi_ v6)), s5))))
    else
      some (.inl (some (vi_ 0)), s2))))) := by rfl
set_option maxRecDepth 100000 in
theorem cb_J1_newNode (x1 : Int32) (x2 x3 x4 : Option Nat) (x0 : Nat) (s : σ) : cx_B ct_lc gi gr pi pr ai ar wi wr an nw na io dp ct_ft ct_sg 3 [] ct_J1_newNode ca jm 1000 ct_J1_newNode [some (vr_ (some x0)), some (vi_ x1), some (vr_ x2), some (vr_ x3), some (vr_ x4)] [] s =
  (cx_bV cx_th (ca 41 [vr_ (some (nw 39 s).1), vi_ x1, vr_ x2, vr_ x3, vr_ x4] (nw 39 s).2) fun s1 =>
  some (.inl (some (vr_ (some (nw 39 s).1))), s1)) := by rfl
set_option maxRecDepth 100000 in
theorem cb_J1_newTreeNode (x1 : Int32) (x2 x3 x4 : Option Nat) (x0 : Nat) (s : σ) : cx_B ct_lc gi gr pi pr ai ar wi wr an nw na io dp ct_ft ct_sg 3 [] ct_J1_newTreeNode ca jm 1000 ct_J1_newTreeNode [some (vr_ (some x0)), some (vi_ x1), some (vr_ x2), some (vr_ x3), some (vr_ x4)] [] s =
  (cx_bV cx_th (ca 68 [vr_ (some (nw 40 s).1), vi_ x1, vr_ x2, vr_ x3, vr_ x4] (nw 40 s).2) fun s1 =>
  some (.inl (some (vr_ (some (nw 40 s).1))), s1)) := by rfl
set_option maxRecDepth 100000 in
theorem cb_J1_treeifyBin (x2 : Int32) (x1 : Option Nat) (x0 : Nat) (s : σ) : cx_B ct_lc gi gr pi pr ai ar wi wr an nw na io dp ct_ft ct_sg 0 [] ct_J1_treeifyBin ca jm 1000 ct_J1_treeifyBin [some (vr_ (some x0)), some (vr_ x1), some (vi_ x2), none, none, none, none, none, none] [] s =
  (if x1 = none then
    ((dp 5 (some x0) s).bind fun m1 =>
    (cx_bR cx_th (ca m1 [vr_ (some x0)] s) fun v3 s2 =>
    some (.inl none, s2)))
  else
    ((an x1 s).bind fun v4 =>
    (if v4 < 64 then
      ((dp 5 (some x0) s).bind fun m5 =>
      (cx_bR cx_th (ca m5 [vr_ (some x0)] s) fun v7 s6 =>
      some (.inl none, s6)))
    else
      ((ar x1 ((v4 - 1) &&& x2) s).bind fun v8 =>
      (if v8 = none then
        some (.inl none, s)
      else
        jm 43 [vr_ (some x0), vr_ x1, vi_ ((v4 - 1) &&& x2), vr_ v8, vr_ none, vr_ none] [] s))))) := by rfl
set_option maxRecDepth 100000 in
theorem cb_J1_treeifyBin_43 (x4 : Int32) (x1 x5 x6 x7 : Option Nat) (x0 : Nat) (s : σ) : cx_B ct_lc gi gr pi pr ai ar wi wr an nw na io dp ct_ft ct_sg 0 [] ct_J1_treeifyBin ca jm 1000 (pj_at ct_J1_treeifyBin 43) [some (vr_ (some x0)), some (vr_ x1), none, none, some (vi_ x4), some (vr_ x5), some (vr_ x6), some (vr_ x7), none] [] s =
  ((dp 12 (some x0) s).bind fun m1 =>
  (cx_bR cx_th (ca m1 [vr_ (some x0), vr_ x5, vr_ none] s) fun v3 s2 =>
  (if x7 = none then
    ((gr 12 x5 s2).bind fun v4 =>
    (if v4 = none then
      none
    else
      jm 43 [vr_ (some x0), vr_ x1, vi_ x4, vr_ v4, vr_ v3, vr_ v3] [] s2))
  else
    ((pr 18 v3 x7 s2).bind fun s5 =>
    ((pr 12 x7 v3 s5).bind fun s6 =>
    ((gr 12 x5 s6).bind fun v7 =>
    (if v7 = none then
      none
    else
      jm 43 [vr_ (some x0), vr_ x1, vi_ x4, vr_ v7, vr_ x6, vr_ v3] [] s6))))))) := by rfl
set_option maxRecDepth 100000 in
theorem cb_J1_replacementTreeNode (x1 x2 : Option Nat) (x0 : Nat) (s : σ) : cx_B ct_lc gi gr pi pr ai ar wi wr an nw na io dp ct_ft ct_sg 3 [] ct_J1_replacementTreeNode ca jm 1000 ct_J1_replacementTreeNode [some (vr_ (some x0)), some (vr_ x1), some (vr_ x2)] [] s =
  ((gi 9 x1 (nw 40 s).2).bind fun v1 =>
  ((gr 10 x1 (nw 40 s).2).bind fun v2 =>
  ((gr 11 x1 (nw 40 s).2).bind fun v3 =>
  (cx_bV cx_th (ca 68 [vr_ (some (nw 40 s).1), vi_ v1, vr_ v2, vr_ v3, vr_ x2] (nw 40 s).2) fun s4 =>
  some (.inl (some (vr_ (some (nw 40 s).1))), s4))))) := by rfl
set_option maxRecDepth 100000 in
theorem cb_J1_afterNodeAccess (x1 : Option Nat) (x0 : Nat) (s : σ) : cx_B ct_lc gi gr pi pr ai ar wi wr an nw na io dp ct_ft ct_sg 0 [] ct_J1_afterNodeAccess ca jm 1000 ct_J1_afterNodeAccess [some (vr_ (some x0)), some (vr_ x1)] [] s =
  some (.inl none, s) := by rfl
set_option maxRecDepth 100000 in
theorem cb_J1_afterNodeInsertion (x1 : Int32) (x0 : Nat) (s : σ) : cx_B ct_lc gi gr pi pr ai ar wi wr an nw na io dp ct_ft ct_sg 0 [] ct_J1_afterNodeInsertion ca jm 1000 ct_J1_afterNodeInsertion [some (vr_ (some x0)), some (vi_ x1)] [] s =
  some (.inl none, s) := by rfl
set_option maxRecDepth 100000 in
theorem cb_J1_containsKey (x1 : Option Nat) (x0 : Nat) (s : σ) : cx_B ct_lc gi gr pi pr ai ar wi wr an nw na io dp ct_ft ct_sg 4 [] ct_J1_containsKey ca jm 1000 ct_J1_containsKey [some (vr_ (some x0)), some (vr_ x1)] [] s =
  ((dp 16 (some x0) s).bind fun m1 =>
  (cx_bR cx_th (ca m1 [vr_ (some x0), vr_ x1] s) fun v3 s2 =>
  (if v3 = none then
    some (.inl (some (vi_ 0)), s2)
  else
    some (.inl (some (vi_ 1)), s2)))) := by rfl
set_option maxRecDepth 100000 in
theorem cb_J1_getNode (x1 : Option Nat) (x0 : Nat) (s : σ) : cx_B ct_lc gi gr pi pr ai ar wi wr an nw na io dp ct_ft ct_sg 3 [] ct_J1_getNode ca jm 1000 ct_J1_getNode [some (vr_ (some x0)), some (vr_ x1), none, none, none, none, none, none] [] s =
  ((gr 2 (some x0) s).bind fun v1 =>
  (if v1 = none then
    some (.inl (some (vr_ none)), s)
  else
    ((an v1 s).bind fun v2 =>
    (if 0 < v2 then
      (cx_bI cx_th (ca 3 [vr_ x1] s) fun v4 s3 =>
      ((ar v1 ((v2 - 1) &&& v4) s3).bind fun v5 =>
      (if v5 = none then
        some (.inl (some (vr_ none)), s3)
      else
        ((gi 9 v5 s3).bind fun v6 =>
        (if v6 = v4 then
          ((gr 10 v5 s3).bind fun v7 =>
          (if v7 = x1 then
            some (.inl (some (vr_ v5)), s3)
          else
            (if x1 = none then
              jm 71 [vr_ x1, vr_ v5, vi_ v4] [] s3
            else
              ((dp 152 x1 s3).bind fun m8 =>
              (cx_bI cx_th (ca m8 [vr_ x1, vr_ v7] s3) fun v10 s9 =>
              (if v10 = 0 then
                jm 71 [vr_ x1, vr_ v5, vi_ v4] [] s9
              else
                some (.inl (some (vr_ v5)), s9)))))))
        else
          jm 71 [vr_ x1, vr_ v5, vi_ v4] [] s3)))))
    else
      some (.inl (some (vr_ none)), s))))) := by rfl
set_option maxRecDepth 100000 in
theorem cb_J1_getNode_71 (x6 : Int32) (x1 x3 : Option Nat) (s : σ) : cx_B ct_lc gi gr pi pr ai ar wi wr an nw na io dp ct_ft ct_sg 3 [] ct_J1_getNode ca jm 1000 (pj_at ct_J1_getNode 71) [none, some (vr_ x1), none, some (vr_ x3), none, none, some (vi_ x6), none] [] s =
  ((gr 12 x3 s).bind fun v1 =>
  (if v1 = none then
    some (.inl (some (vr_ none)), s)
  else
    ((io 40 x3 s).bind fun b2 =>
    (if (cx_ib b2 (1 : Int32) 0) = 0 then
      jm 99 [vr_ x1, vr_ v1, vi_ x6] [] s
    else
      ((cx_cst io 40 x3 s).bind fun _ =>
      ((dp 69 x3 s).bind fun m3 =>
      (cx_bR cx_th (ca m3 [vr_ x3, vi_ x6, vr_ x1] s) fun v5 s4 =>
      some (.inl (some (vr_ v5)), s4)))))))) := by rfl
set_option maxRecDepth 100000 in
theorem cb_J1_getNode_99 (x6 : Int32) (x1 x4 : Option Nat) (s : σ) : cx_B ct_lc gi gr pi pr ai ar wi wr an nw na io dp ct_ft ct_sg 3 [] ct_J1_getNode ca jm 1000 (pj_at ct_J1_getNode 99) [none, some (vr_ x1), none, none, some (vr_ x4), none, some (vi_ x6), none] [] s =
  ((gi 9 x4 s).bind fun v1 =>
  (if v1 = x6 then
    ((gr 10 x4 s).bind fun v2 =>
    (if v2 = x1 then
      some (.inl (some (vr_ x4)), s)
    else
      (if x1 = none then
        ((gr 12 x4 s).bind fun v3 =>
        (if v3 = none then
          some (.inl (some (vr_ none)), s)
        else
          jm 99 [vr_ x1, vr_ v3, vi_ x6] [] s))
      else
        ((dp 152 x1 s).bind fun m4 =>
        (cx_bI cx_th (ca m4 [vr_ x1, vr_ v2] s) fun v6 s5 =>
        (if v6 = 0 then
          ((gr 12 x4 s5).bind fun v7 =>
          (if v7 = none then
            some (.inl (some (vr_ none)), s5)
          else
            jm 99 [vr_ x1, vr_ v7, vi_ x6] [] s5))
        else
          some (.inl (some (vr_ x4)), s5)))))))
  else
    ((gr 12 x4 s).bind fun v8 =>
    (if v8 = none then
      some (.inl (some (vr_ none)), s)
    else
      jm 99 [vr_ x1, vr_ v8, vi_ x6] [] s)))) := by rfl
set_option maxRecDepth 100000 in
theorem cb_J1_get (x1 : Option Nat) (x0 : Nat) (s : σ) : cx_B ct_lc gi gr pi pr ai ar wi wr an nw na io dp ct_ft ct_sg 3 [] ct_J1_get ca jm 1000 ct_J1_get [some (vr_ (some x0)), some (vr_ x1), none] [] s =
  ((dp 16 (some x0) s).bind fun m1 =>
  (cx_bR cx_th (ca m1 [vr_ (some x0), vr_ x1] s) fun v3 s2 =>
  (if v3 = none then
    some (.inl (some (vr_ none)), s2)
  else
    ((gr 11 v3 s2).bind fun v4 =>
    some (.inl (some (vr_ v4)), s2))))) := by rfl
set_option maxRecDepth 100000 in
theorem cb_J10_hashCode (x0 : Nat) (s : σ) : cx_B ct_lc gi gr pi pr ai ar wi wr an nw na io dp ct_ft ct_sg 1 [] ct_J10_hashCode ca jm 1000 ct_J10_hashCode [some (vr_ (some x0))] [] s =
  ((gi 8 (some x0) s).bind fun v1 =>
  (cx_bI cx_th (ca 19 [vi_ v1] s) fun v3 s2 =>
  some (.inl (some (vi_ v3)), s2))) := by rfl
set_option maxRecDepth 100000 in
theorem cb_J10_hashCode_2 (x0 : Int32) (s : σ) : cx_B ct_lc gi gr pi pr ai ar wi wr an nw na io dp ct_ft ct_sg 1 [] ct_J10_hashCode_2 ca jm 1000 ct_J10_hashCode_2 [some (vi_ x0)] [] s =
  some (.inl (some (vi_ x0)), s) := by rfl
set_option maxRecDepth 100000 in
theorem cb_J10_compareTo (x1 : Option Nat) (x0 : Nat) (s : σ) : cx_B ct_lc gi gr pi pr ai ar wi wr an nw na io dp ct_ft ct_sg 1 [] ct_J10_compareTo ca jm 1000 ct_J10_compareTo [some (vr_ (some x0)), some (vr_ x1)] [] s =
  ((cx_cst io 20 x1 s).bind fun _ =>
  ((dp 21 (some x0) s).bind fun m1 =>
  (cx_bI cx_th (ca m1 [vr_ (some x0), vr_ x1] s) fun v3 s2 =>
  some (.inl (some (vi_ v3)), s2)))) := by rfl
set_option maxRecDepth 100000 in
theorem cb_J10_compareTo_2 (x1 : Option Nat) (x0 : Nat) (s : σ) : cx_B ct_lc gi gr pi pr ai ar wi wr an nw na io dp ct_ft ct_sg 1 [] ct_J10_compareTo_2 ca jm 1000 ct_J10_compareTo_2 [some (vr_ (some x0)), some (vr_ x1)] [] s =
  ((gi 8 (some x0) s).bind fun v1 =>
  ((gi 8 x1 s).bind fun v2 =>
  (cx_bI cx_th (ca 22 [vi_ v1, vi_ v2] s) fun v4 s3 =>
  some (.inl (some (vi_ v4)), s3)))) := by rfl
set_option maxRecDepth 100000 in
theorem cb_J10_compare (x0 x1 : Int32) (s : σ) : cx_B ct_lc gi gr pi pr ai ar wi wr an nw na io dp ct_ft ct_sg 1 [] ct_J10_compare ca jm 1000 ct_J10_compare [some (vi_ x0), some (vi_ x1)] [] s =
  (if x0 < x1 then
    some (.inl (some (vi_ (-1))), s)
  else
    (if x0 = x1 then
      some (.inl (some (vi_ 0)), s)
    else
      some (.inl (some (vi_ 1)), s))) := by rfl
set_option maxRecDepth 100000 in
theorem cb_J10_numberOfLeadingZeros (x0 : Int32) (s : σ) : cx_B ct_lc gi gr pi pr ai ar wi wr an nw na io dp ct_ft ct_sg 1 [] ct_J10_numberOfLeadingZeros ca jm 1000 ct_J10_numberOfLeadingZeros [some (vi_ x0), none] [] s =
  (if 0 < x0 then
    (if x0 < 65536 then
      jm 33 [vi_ x0, vi_ 31] [] s
    else
      jm 33 [vi_ ((x0 : Int32).toUInt32 >>> ((16 : Int32).toUInt32 &&& Int32.toUInt32 31)).toInt32, vi_ (31 + (-16))] [] s)
  else
    (if x0 = 0 then
      some (.inl (some (vi_ 32)), s)
    else
      some (.inl (some (vi_ 0)), s))) := by rfl
set_option maxRecDepth 100000 in
theorem cb_J10_numberOfLeadingZeros_33 (x0 x1 : Int32) (s : σ) : cx_B ct_lc gi gr pi pr ai ar wi wr an nw na io dp ct_ft ct_sg 1 [] ct_J10_numberOfLeadingZeros ca jm 1000 (pj_at ct_J10_numberOfLeadingZeros 33) [some (vi_ x0), some (vi_ x1)] [] s =
  (if x0 < 256 then
    (if x0 < 16 then
      jm 61 [vi_ x0, vi_ x1] [] s
    else
      jm 61 [vi_ ((x0 : Int32).toUInt32 >>> ((4 : Int32).toUInt32 &&& Int32.toUInt32 31)).toInt32, vi_ (x1 + (-4))] [] s)
  else
    (if ((x0 : Int32).toUInt32 >>> ((8 : Int32).toUInt32 &&& Int32.toUInt32 31)).toInt32 < 16 then
      jm 61 [vi_ ((x0 : Int32).toUInt32 >>> ((8 : Int32).toUInt32 &&& Int32.toUInt32 31)).toInt32, vi_ (x1 + (-8))] [] s
    else
      jm 61 [vi_ ((((x0 : Int32).toUInt32 >>> ((8 : Int32).toUInt32 &&& Int32.toUInt32 31)).toInt32 : Int32).toUInt32 >>> ((4 : Int32).toUInt32 &&& Int32.toUInt32 31)).toInt32, vi_ ((x1 + (-8)) + (-4))] [] s)) := by rfl
set_option maxRecDepth 100000 in
theorem cb_J10_numberOfLeadingZeros_61 (x0 x1 : Int32) (s : σ) : cx_B ct_lc gi gr pi pr ai ar wi wr an nw na io dp ct_ft ct_sg 1 [] ct_J10_numberOfLeadingZeros ca jm 1000 (pj_at ct_J10_numberOfLeadingZeros 61) [some (vi_ x0), some (vi_ x1)] [] s =
  (if x0 < 4 then
    some (.inl (some (vi_ (x1 - ((x0 : Int32).toUInt32 >>> ((1 : Int32).toUInt32 &&& Int32.toUInt32 31)).toInt32))), s)
  else
    some (.inl (some (vi_ ((x1 + (-2)) - ((((x0 : Int32).toUInt32 >>> ((2 : Int32).toUInt32 &&& Int32.toUInt32 31)).toInt32 : Int32).toUInt32 >>> ((1 : Int32).toUInt32 &&& Int32.toUInt32 31)).toInt32))), s)) := by rfl
set_option maxRecDepth 100000 in
theorem cb_J10_numberOfTrailingZeros (x0 : Int32) (s : σ) : cx_B ct_lc gi gr pi pr ai ar wi wr an nw na io dp ct_ft ct_sg 1 [] ct_J10_numberOfTrailingZeros ca jm 1000 ct_J10_numberOfTrailingZeros [some (vi_ x0), none] [] s =
  (if 0 < ((x0 ^^^ (-1)) &&& (x0 - 1)) then
    (if 65536 < ((x0 ^^^ (-1)) &&& (x0 - 1)) then
      jm 34 [vi_ ((((x0 ^^^ (-1)) &&& (x0 - 1)) : Int32).toUInt32 >>> ((16 : Int32).toUInt32 &&& Int32.toUInt32 31)).toInt32, vi_ (1 + 16)] [] s
    else
      jm 34 [vi_ ((x0 ^^^ (-1)) &&& (x0 - 1)), vi_ 1] [] s)
  else
    some (.inl (some (vi_ (((x0 ^^^ (-1)) &&& (x0 - 1)) &&& 32))), s)) := by rfl
set_option maxRecDepth 100000 in
theorem cb_J10_numberOfTrailingZeros_34 (x0 x1 : Int32) (s : σ) : cx_B ct_lc gi gr pi pr ai ar wi wr an nw na io dp ct_ft ct_sg 1 [] ct_J10_numberOfTrailingZeros ca jm 1000 (pj_at ct_J10_numberOfTrailingZeros 34) [some (vi_ x0), some (vi_ x1)] [] s =
  (if 256 < x0 then
    (if 16 < ((x0 : Int32).toUInt32 >>> ((8 : Int32).toUInt32 &&& Int32.toUInt32 31)).toInt32 then
      jm 62 [vi_ ((((x0 : Int32).toUInt32 >>> ((8 : Int32).toUInt32 &&& Int32.toUInt32 31)).toInt32 : Int32).toUInt32 >>> ((4 : Int32).toUInt32 &&& Int32.toUInt32 31)).toInt32, vi_ ((x1 + 8) + 4)] [] s
    else
      jm 62 [vi_ ((x0 : Int32).toUInt32 >>> ((8 : Int32).toUInt32 &&& Int32.toUInt32 31)).toInt32, vi_ (x1 + 8)] [] s)
  else
    (if 16 < x0 then
      jm 62 [vi_ ((x0 : Int32).toUInt32 >>> ((4 : Int32).toUInt32 &&& Int32.toUInt32 31)).toInt32, vi_ (x1 + 4)] [] s
    else
      jm 62 [vi_ x0, vi_ x1] [] s)) := by rfl
set_option maxRecDepth 100000 in
theorem cb_J10_numberOfTrailingZeros_62 (x0 x1 : Int32) (s : σ) : cx_B ct_lc gi gr pi pr ai ar wi wr an nw na io dp ct_ft ct_sg 1 [] ct_J10_numberOfTrailingZeros ca jm 1000 (pj_at ct_J10_numberOfTrailingZeros 62) [some (vi_ x0), some (vi_ x1)] [] s =
  (if 4 < x0 then
    some (.inl (some (vi_ ((x1 + 2) + ((((x0 : Int32).toUInt32 >>> ((2 : Int32).toUInt32 &&& Int32.toUInt32 31)).toInt32 : Int32).toUInt32 >>> ((1 : Int32).toUInt32 &&& Int32.toUInt32 31)).toInt32))), s)
  else
    some (.inl (some (vi_ (x1 + ((x0 : Int32).toUInt32 >>> ((1 : Int32).toUInt32 &&& Int32.toUInt32 31)).toInt32))), s)) := by rfl
set_option maxRecDepth 100000 in
theorem cb_J10_equals (x1 : Option Nat) (x0 : Nat) (s : σ) : cx_B ct_lc gi gr pi pr ai ar wi wr an nw na io dp ct_ft ct_sg 4 [] ct_J10_equals ca jm 1000 ct_J10_equals [some (vr_ (some x0)), some (vr_ x1)] [] s =
  ((io 20 x1 s).bind fun b1 =>
  (if (cx_ib b1 (1 : Int32) 0) = 0 then
    some (.inl (some (vi_ 0)), s)
  else
    ((gi 8 (some x0) s).bind fun v2 =>
    ((cx_cst io 20 x1 s).bind fun _ =>
    ((dp 26 x1 s).bind fun m3 =>
    (cx_bI cx_th (ca m3 [vr_ x1] s) fun v5 s4 =>
    (if v2 = v5 then
      some (.inl (some (vi_ 1)), s4)
    else
      some (.inl (some (vi_ 0)), s4)))))))) := by rfl
set_option maxRecDepth 100000 in
theorem cb_J10_intValue (x0 : Nat) (s : σ) : cx_B ct_lc gi gr pi pr ai ar wi wr an nw na io dp ct_ft ct_sg 1 [] ct_J10_intValue ca jm 1000 ct_J10_intValue [some (vr_ (some x0))] [] s =
  ((gi 8 (some x0) s).bind fun v1 =>
  some (.inl (some (vi_ v1)), s)) := by rfl
set_option maxRecDepth 100000 in
theorem cb_J10_bitCount (x0 : Int32) (s : σ) : cx_B ct_lc gi gr pi pr ai ar wi wr an nw na io dp ct_ft ct_sg 1 [] ct_J10_bitCount ca jm 1000 ct_J10_bitCount [some (vi_ x0)] [] s =
  some (.inl (some (vi_ ((((((((x0 - (((x0 : Int32).toUInt32 >>> ((1 : Int32).toUInt32 &&& Int32.toUInt32 31)).toInt32 &&& 1431655765)) &&& 858993459) + ((((x0 - (((x0 : Int32).toUInt32 >>> ((1 : Int32).toUInt32 &&& Int32.toUInt32 31)).toInt32 &&& 1431655765)) : Int32).toUInt32 >>> ((2 : Int32).toUInt32 &&& Int32.toUInt32 31)).toInt32 &&& 858993459)) + (((((x0 - (((x0 : Int32).toUInt32 >>> ((1 : Int32).toUInt32 &&& Int32.toUInt32 31)).toInt32 &&& 1431655765)) &&& 858993459) + ((((x0 - (((x0 : Int32).toUInt32 >>> ((1 : Int32).toUInt32 &&& Int32.toUInt32 31)).toInt32 &&& 1431655765)) : Int32).toUInt32 >>> ((2 : Int32).toUInt32 &&& Int32.toUInt32 31)).toInt32 &&& 858993459)) : Int32).toUInt32 >>> ((4 : Int32).toUInt32 &&& Int32.toUInt32 31)).toInt32) &&& 252645135) + (((((((x0 - (((x0 : Int32).toUInt32 >>> ((1 : Int32).toUInt32 &&& Int32.toUInt32 31)).toInt32 &&& 1431655765)) &&& 858993459) + ((((x0 - (((x0 : Int32).toUInt32 >>> ((1 : Int32).toUInt32 &&& Int32.toUInt32 31)).toInt32 &&& 1431655765)) : Int32).toUInt32 >>> ((2 : Int32).toUInt32 &&& Int32.toUInt32 31)).toInt32 &&& 858993459)) + (((((x0 - (((x0 : Int32).toUInt32 >>> ((1 : Int32).toUInt32 &&& Int32.toUInt32 31)).toInt32 &&& 1431655765)) &&& 858993459) + ((((x0 - (((x0 : Int32).toUInt32 >>> ((1 : Int32).toUInt32 &&& Int32.toUInt32 31)).toInt32 &&& 1431655765)) : Int32).toUInt32 >>> ((2 : Int32).toUInt32 &&& Int32.toUInt32 31)).toInt32 &&& 858993459)) : Int32).toUInt32 >>> ((4 : Int32).toUInt32 &&& Int32.toUInt32 31)).toInt32) &&& 252645135) : Int32).toUInt32 >>> ((8 : Int32).toUInt32 &&& Int32.toUInt32 31)).toInt32) + ((((((((x0 - (((x0 : Int32).toUInt32 >>> ((1 : Int32).toUInt32 &&& Int32.toUInt32 31)).toInt32 &&& 1431655765)) &&& 858993459) + ((((x0 - (((x0 : Int32).toUInt32 >>> ((1 : Int32).toUInt32 &&& Int32.toUInt32 31)).toInt32 &&& 1431655765)) : Int32).toUInt32 >>> ((2 : Int32).toUInt32 &&& Int32.toUInt32 31)).toInt32 &&& 858993459)) + (((((x0 - (((x0 : Int32).toUInt32 >>> ((1 : Int32).toUInt32 &&& Int32.toUInt32 31)).toInt32 &&& 1431655765)) &&& 858993459) + ((((x0 - (((x0 : Int32).toUInt32 >>> ((1 : Int32).toUInt32 &&& Int32.toUInt32 31)).toInt32 &&& 1431655765)) : Int32).toUInt32 >>> ((2 : Int32).toUInt32 &&& Int32.toUInt32 31)).toInt32 &&& 858993459)) : Int32).toUInt32 >>> ((4 : Int32).toUInt32 &&& Int32.toUInt32 31)).toInt32) &&& 252645135) + (((((((x0 - (((x0 : Int32).toUInt32 >>> ((1 : Int32).toUInt32 &&& Int32.toUInt32 31)).toInt32 &&& 1431655765)) &&& 858993459) + ((((x0 - (((x0 : Int32).toUInt32 >>> ((1 : Int32).toUInt32 &&& Int32.toUInt32 31)).toInt32 &&& 1431655765)) : Int32).toUInt32 >>> ((2 : Int32).toUInt32 &&& Int32.toUInt32 31)).toInt32 &&& 858993459)) + (((((x0 - (((x0 : Int32).toUInt32 >>> ((1 : Int32).toUInt32 &&& Int32.toUInt32 31)).toInt32 &&& 1431655765)) &&& 858993459) + ((((x0 - (((x0 : Int32).toUInt32 >>> ((1 : Int32).toUInt32 &&& Int32.toUInt32 31)).toInt32 &&& 1431655765)) : Int32).toUInt32 >>> ((2 : Int32).toUInt32 &&& Int32.toUInt32 31)).toInt32 &&& 858993459)) : Int32).toUInt32 >>> ((4 : Int32).toUInt32 &&& Int32.toUInt32 31)).toInt32) &&& 252645135) : Int32).toUInt32 >>> ((8 : Int32).toUInt32 &&& Int32.toUInt32 31)).toInt32) : Int32).toUInt32 >>> ((16 : Int32).toUInt32 &&& Int32.toUInt32 31)).toInt32) &&& 63))), s) := by rfl
set_option maxRecDepth 100000 in
theorem cb_J10_valueOf (x0 : Int32) (s : σ) : cx_B ct_lc gi gr pi pr ai ar wi wr an nw na io dp ct_ft ct_sg 3 [] ct_J10_valueOf ca jm 1000 ct_J10_valueOf [some (vi_ x0)] [] s =
  (if x0 < (-128) then
    (cx_bV cx_th (ca 29 [vr_ (some (nw 20 s).1), vi_ x0] (nw 20 s).2) fun s1 =>
    some (.inl (some (vr_ (some (nw 20 s).1))), s1))
  else
    (if 127 < x0 then
      (cx_bV cx_th (ca 29 [vr_ (some (nw 20 s).1), vi_ x0] (nw 20 s).2) fun s2 =>
      some (.inl (some (vr_ (some (nw 20 s).1))), s2))
    else
      ((ar (some 1002) (x0 + 128) s).bind fun v3 =>
      some (.inl (some (vr_ v3)), s)))) := by rfl
set_option maxRecDepth 100000 in
theorem cb_J10_init (x1 : Int32) (x0 : Nat) (s : σ) : cx_B ct_lc gi gr pi pr ai ar wi wr an nw na io dp ct_ft ct_sg 0 [] ct_J10_init ca jm 1000 ct_J10_init [some (vr_ (some x0)), some (vi_ x1)] [] s =
  (cx_bV cx_th (ca 201 [vr_ (some x0)] s) fun s1 =>
  ((pi 8 (some x0) x1 s1).bind fun s2 =>
  some (.inl none, s2))) := by rfl
set_option maxRecDepth 100000 in
theorem cb_J11_vectorizedHashCode (x1 x2 x3 x4 : Int32) (x0 : Option Nat) (s : σ) : cx_B ct_lc gi gr pi pr ai ar wi wr an nw na io dp ct_ft ct_sg 1 [] ct_J11_vectorizedHashCode ca jm 1000 ct_J11_vectorizedHashCode [some (vr_ x0), some (vi_ x1), some (vi_ x2), some (vi_ x3), some (vi_ x4)] [] s =
  (if x4 = Int32.ofInt 4 then
    ((cx_cst io 201 x0 s).bind fun _ =>
    (cx_bI cx_th (ca 31 [vi_ x3, vr_ x0, vi_ x1, vi_ x2] s) fun v2 s1 =>
    some (.inl (some (vi_ v2)), s1)))
  else
  (if x4 = Int32.ofInt 5 then
    ((io 201 x0 s).bind fun b3 =>
    (if (cx_ib b3 (1 : Int32) 0) = 0 then
      ((cx_cst io 203 x0 s).bind fun _ =>
      (cx_bI cx_th (ca 33 [vi_ x3, vr_ x0, vi_ x1, vi_ x2] s) fun v5 s4 =>
      some (.inl (some (vi_ v5)), s4)))
    else
      ((cx_cst io 201 x0 s).bind fun _ =>
      (cx_bI cx_th (ca 32 [vi_ x3, vr_ x0, vi_ x1, vi_ x2] s) fun v7 s6 =>
      some (.inl (some (vi_ v7)), s6)))))
  else
  (if x4 = Int32.ofInt 6 then
    none
  else
  (if x4 = Int32.ofInt 7 then
    none
  else
  (if x4 = Int32.ofInt 8 then
    ((cx_cst io 201 x0 s).bind fun _ =>
    (cx_bI cx_th (ca 34 [vi_ x3, vr_ x0, vi_ x1, vi_ x2] s) fun v9 s8 =>
    some (.inl (some (vi_ v9)), s8)))
  else
  (if x4 = Int32.ofInt 9 then
    ((cx_cst io 52 x0 s).bind fun _ =>
    (cx_bI cx_th (ca 35 [vi_ x3, vr_ x0, vi_ x1, vi_ x2] s) fun v11 s10 =>
    some (.inl (some (vi_ v11)), s10)))
  else
  (if x4 = Int32.ofInt 10 then
    ((cx_cst io 200 x0 s).bind fun _ =>
    (cx_bI cx_th (ca 36 [vi_ x3, vr_ x0, vi_ x1, vi_ x2] s) fun v13 s12 =>
    some (.inl (some (vi_ v13)), s12)))
  else
  none))))))) := by rfl
set_option maxRecDepth 100000 in
theorem cb_J11_signedHashCode (x0 x2 x3 : Int32) (x1 : Option Nat) (s : σ) : cx_B ct_lc gi gr pi pr ai ar wi wr an nw na io dp ct_ft ct_sg 1 [] ct_J11_signedHashCode ca jm 1000 ct_J11_signedHashCode [some (vi_ x0), some (vr_ x1), some (vi_ x2), some (vi_ x3), none, none] [] s =
  jm 8 [vi_ x0, vr_ x1, vi_ (x2 + x3), vi_ x2] [] s := by rfl
set_option maxRecDepth 100000 in
theorem cb_J11_signedHashCode_8 (x0 x4 x5 : Int32) (x1 : Option Nat) (s : σ) : cx_B ct_lc gi gr pi pr ai ar wi wr an nw na io dp ct_ft ct_sg 1 [] ct_J11_signedHashCode ca jm 1000 (pj_at ct_J11_signedHashCode 8) [some (vi_ x0), some (vr_ x1), none, none, some (vi_ x4), some (vi_ x5)] [] s =
  (if x5 < x4 then
    ((ai 1 x1 x5 s).bind fun v1 =>
    jm 8 [vi_ ((31 * x0) + (v1 &&& 255)), vr_ x1, vi_ x4, vi_ (x5 + 1)] [] s)
  else
    some (.inl (some (vi_ x0)), s)) := by rfl
set_option maxRecDepth 100000 in
theorem cb_J11_utf16hashCode (x0 x2 x3 : Int32) (x1 : Option Nat) (s : σ) : cx_B ct_lc gi gr pi pr ai ar wi wr an nw na io dp ct_ft ct_sg 1 [] ct_J11_utf16hashCode ca jm 1000 ct_J11_utf16hashCode [some (vi_ x0), some (vr_ x1), some (vi_ x2), some (vi_ x3), none, none] [] s =
  jm 8 [vi_ x0, vr_ x1, vi_ (x2 + x3), vi_ x2] [] s := by rfl
set_option maxRecDepth 100000 in
theorem cb_J11_utf16hashCode_8 (x0 x4 x5 : Int32) (x1 : Option Nat) (s : σ) : cx_B ct_lc gi gr pi pr ai ar wi wr an nw na io dp ct_ft ct_sg 1 [] ct_J11_utf16hashCode ca jm 1000 (pj_at ct_J11_utf16hashCode 8) [some (vi_ x0), some (vr_ x1), none, none, some (vi_ x4), some (vi_ x5)] [] s =
  (if x5 < x4 then
    ((dp 411 (some 1003) s).bind fun m1 =>
    (cx_bI cx_th (ca m1 [vr_ (some 1003), vr_ x1, vi_ x5] s) fun v3 s2 =>
    jm 8 [vi_ ((31 * x0) + v3), vr_ x1, vi_ x4, vi_ (x5 + 1)] [] s2))
  else
    some (.inl (some (vi_ x0)), s)) := by rfl
set_option maxRecDepth 100000 in
theorem cb_J11_hashCode (x0 x2 x3 : Int32) (x1 : Option Nat) (s : σ) : cx_B ct_lc gi gr pi pr ai ar wi wr an nw na io dp ct_ft ct_sg 1 [] ct_J11_hashCode ca jm 1000 ct_J11_hashCode [some (vi_ x0), some (vr_ x1), some (vi_ x2), some (vi_ x3), none, none] [] s =
  jm 8 [vi_ x0, vr_ x1, vi_ (x2 + x3), vi_ x2] [] s := by rfl
set_option maxRecDepth 100000 in
theorem cb_J11_hashCode_8 (x0 x4 x5 : Int32) (x1 : Option Nat) (s : σ) : cx_B ct_lc gi gr pi pr ai ar wi wr an nw na io dp ct_ft ct_sg 1 [] ct_J11_hashCode ca jm 1000 (pj_at ct_J11_hashCode 8) [some (vi_ x0), some (vr_ x1), none, none, some (vi_ x4), some (vi_ x5)] [] s =
  (if x5 < x4 then
    ((ai 2 x1 x5 s).bind fun v1 =>
    jm 8 [vi_ ((31 * x0) + v1), vr_ x1, vi_ x4, vi_ (x5 + 1)] [] s)
  else
    some (.inl (some (vi_ x0)), s)) := by rfl
set_option maxRecDepth 100000 in
theorem cb_J11_hashCode_2 (x0 x2 x3 : Int32) (x1 : Option Nat) (s : σ) : cx_B ct_lc gi gr pi pr ai ar wi wr an nw na io dp ct_ft ct_sg 1 [] ct_J11_hashCode_2 ca jm 1000 ct_J11_hashCode_2 [some (vi_ x0), some (vr_ x1), some (vi_ x2), some (vi_ x3), none, none] [] s =
  jm 8 [vi_ x0, vr_ x1, vi_ (x2 + x3), vi_ x2] [] s := by rfl
set_option maxRecDepth 100000 in
theorem cb_J11_hashCode_2_8 (x0 x4 x5 : Int32) (x1 : Option Nat) (s : σ) : cx_B ct_lc gi gr pi pr ai ar wi wr an nw na io dp ct_ft ct_sg 1 [] ct_J11_hashCode_2 ca jm 1000 (pj_at ct_J11_hashCode_2 8) [some (vi_ x0), some (vr_ x1), none, none, some (vi_ x4), some (vi_ x5)] [] s =
  (if x5 < x4 then
    ((ai 1 x1 x5 s).bind fun v1 =>
    jm 8 [vi_ ((31 * x0) + v1), vr_ x1, vi_ x4, vi_ (x5 + 1)] [] s)
  else
    some (.inl (some (vi_ x0)), s)) := by rfl
set_option maxRecDepth 100000 in
theorem cb_J11_hashCode_3 (x0 x2 x3 : Int32) (x1 : Option Nat) (s : σ) : cx_B ct_lc gi gr pi pr ai ar wi wr an nw na io dp ct_ft ct_sg 1 [] ct_J11_hashCode_3 ca jm 1000 ct_J11_hashCode_3 [some (vi_ x0), some (vr_ x1), some (vi_ x2), some (vi_ x3), none, none] [] s =
  (if x2 < (x2 + x3) then
    none
  else
    some (.inl (some (vi_ x0)), s)) := by rfl
set_option maxRecDepth 100000 in
theorem cb_J11_hashCode_4 (x0 x2 x3 : Int32) (x1 : Option Nat) (s : σ) : cx_B ct_lc gi gr pi pr ai ar wi wr an nw na io dp ct_ft ct_sg 1 [] ct_J11_hashCode_4 ca jm 1000 ct_J11_hashCode_4 [some (vi_ x0), some (vr_ x1), some (vi_ x2), some (vi_ x3), none, none] [] s =
  jm 8 [vi_ x0, vr_ x1, vi_ (x2 + x3), vi_ x2] [] s := by rfl
set_option maxRecDepth 100000 in
theorem cb_J11_hashCode_4_8 (x0 x4 x5 : Int32) (x1 : Option Nat) (s : σ) : cx_B ct_lc gi gr pi pr ai ar wi wr an nw na io dp ct_ft ct_sg 1 [] ct_J11_hashCode_4 ca jm 1000 (pj_at ct_J11_hashCode_4 8) [some (vi_ x0), some (vr_ x1), none, none, some (vi_ x4), some (vi_ x5)] [] s =
  (if x5 < x4 then
    ((ai 0 x1 x5 s).bind fun v1 =>
    jm 8 [vi_ ((31 * x0) + v1), vr_ x1, vi_ x4, vi_ (x5 + 1)] [] s)
  else
    some (.inl (some (vi_ x0)), s)) := by rfl
set_option maxRecDepth 100000 in
theorem cb_J11_mismatch (x2 : Int32) (x0 x1 : Option Nat) (s : σ) : cx_B ct_lc gi gr pi pr ai ar wi wr an nw na io dp ct_ft ct_sg 1 [] ct_J11_mismatch ca jm 1000 ct_J11_mismatch [some (vr_ x0), some (vr_ x1), some (vi_ x2), none] [] s =
  (if 7 < x2 then
    ((ai 1 x0 0 s).bind fun v1 =>
    ((ai 1 x1 0 s).bind fun v2 =>
    (if v1 = v2 then
      (cx_bI cx_th (ca 38 [vr_ x0, vl_ (16 : Int32).toInt64, vr_ x1, vl_ (16 : Int32).toInt64, vi_ x2, vi_ 0] s) fun v4 s3 =>
      (if v4 < 0 then
        jm 49 [vr_ x0, vr_ x1, vi_ x2, vi_ (x2 - (v4 ^^^ (-1)))] [] s3
      else
        some (.inl (some (vi_ v4)), s3)))
    else
      some (.inl (some (vi_ 0)), s))))
  else
    jm 49 [vr_ x0, vr_ x1, vi_ x2, vi_ 0] [] s) := by rfl
set_option maxRecDepth 100000 in
theorem cb_J11_mismatch_49 (x2 x3 : Int32) (x0 x1 : Option Nat) (s : σ) : cx_B ct_lc gi gr pi pr ai ar wi wr an nw na io dp ct_ft ct_sg 1 [] ct_J11_mismatch ca jm 1000 (pj_at ct_J11_mismatch 49) [some (vr_ x0), some (vr_ x1), some (vi_ x2), some (vi_ x3)] [] s =
  (if x3 < x2 then
    ((ai 1 x0 x3 s).bind fun v1 =>
    ((ai 1 x1 x3 s).bind fun v2 =>
    (if v1 = v2 then
      jm 49 [vr_ x0, vr_ x1, vi_ x2, vi_ (x3 + 1)] [] s
    else
      some (.inl (some (vi_ x3)), s))))
  else
    some (.inl (some (vi_ (-1))), s)) := by rfl
set_option maxRecDepth 100000 in
theorem cb_J11_vectorizedMismatch (x6 x7 : Int32) (x1 x4 : Int64) (x0 x3 : Option Nat) (s : σ) : cx_B ct_lc gi gr pi pr ai ar wi wr an nw na io dp ct_ft ct_sg 1 [] ct_J11_vectorizedMismatch ca jm 1000 ct_J11_vectorizedMismatch [some (vr_ x0), some (vl_ x1), none, some (vr_ x3), some (vl_ x4), none, some (vi_ x6), some (vi_ x7), none, none, none, none, none, none, none, none, none, none, none] [] s =
  (if 0 < (x6 >>> ((3 - x7) &&& 31)) then
    none
  else
    (if x7 < 2 then
      (if (x6 - (0 <<< ((3 - x7) &&& 31))) < (1 <<< ((2 - x7) &&& 31)) then
        some (.inl (some (vi_ ((x6 - (0 <<< ((3 - x7) &&& 31))) ^^^ (-1)))), s)
      else
        none)
    else
      some (.inl (some (vi_ ((x6 - (0 <<< ((3 - x7) &&& 31))) ^^^ (-1)))), s))) := by rfl
set_option maxRecDepth 100000 in
theorem cb_J11_newLength (x0 x1 x2 : Int32) (s : σ) : cx_B ct_lc gi gr pi pr ai ar wi wr an nw na io dp ct_ft ct_sg 1 [] ct_J11_newLength ca jm 1000 ct_J11_newLength [some (vi_ x0), some (vi_ x1), some (vi_ x2), none] [] s =
  (cx_bI cx_th (ca 193 [vi_ x1, vi_ x2] s) fun v2 s1 =>
  (if 0 < (x0 + v2) then
    (if 2147483639 < (x0 + v2) then
      (cx_bI cx_th (ca 40 [vi_ x0, vi_ x1] s1) fun v4 s3 =>
      some (.inl (some (vi_ v4)), s3))
    else
      some (.inl (some (vi_ (x0 + v2))), s1))
  else
    (cx_bI cx_th (ca 40 [vi_ x0, vi_ x1] s1) fun v6 s5 =>
    some (.inl (some (vi_ v6)), s5)))) := by rfl
set_option maxRecDepth 100000 in
theorem cb_J11_hugeLength (x0 x1 : Int32) (s : σ) : cx_B ct_lc gi gr pi pr ai ar wi wr an nw na io dp ct_ft ct_sg 1 [] ct_J11_hugeLength ca jm 1000 ct_J11_hugeLength [some (vi_ x0), some (vi_ x1), none] [] s =
  (if (x0 + x1) < 0 then
    none
  else
    (if 2147483639 < (x0 + x1) then
      some (.inl (some (vi_ (x0 + x1))), s)
    else
      some (.inl (some (vi_ 2147483639)), s))) := by rfl
set_option maxRecDepth 100000 in
theorem cb_J12_init (x1 : Int32) (x2 x3 x4 : Option Nat) (x0 : Nat) (s : σ) : cx_B ct_lc gi gr pi pr ai ar wi wr an nw na io dp ct_ft ct_sg 0 [] ct_J12_init ca jm 1000 ct_J12_init [some (vr_ (some x0)), some (vi_ x1), some (vr_ x2), some (vr_ x3), some (vr_ x4)] [] s =
  (cx_bV cx_th (ca 151 [vr_ (some x0)] s) fun s1 =>
  ((pi 9 (some x0) x1 s1).bind fun s2 =>
  ((pr 10 (some x0) x2 s2).bind fun s3 =>
  ((pr 11 (some x0) x3 s3).bind fun s4 =>
  ((pr 12 (some x0) x4 s4).bind fun s5 =>
  some (.inl none, s5)))))) := by rfl
set_option maxRecDepth 100000 in
theorem cb_J13_getLongUnaligned (x2 : Int64) (x1 : Option Nat) (x0 : Nat) (s : σ) : cx_B ct_lc gi gr pi pr ai ar wi wr an nw na io dp ct_ft ct_sg 2 [] ct_J13_getLongUnaligned ca jm 1000 ct_J13_getLongUnaligned [some (vr_ (some x0)), some (vr_ x1), some (vl_ x2), none] [] s =
  none := by rfl
set_option maxRecDepth 100000 in
theorem cb_J13_makeLong (x0 x1 : Int32) (s : σ) : cx_B ct_lc gi gr pi pr ai ar wi wr an nw na io dp ct_ft ct_sg 2 [] ct_J13_makeLong ca jm 1000 ct_J13_makeLong [some (vi_ x0), some (vi_ x1)] [] s =
  (cx_bL cx_th (ca 44 [vi_ x0] s) fun v2 s1 =>
  (cx_bI cx_th (ca 45 [vi_ 32, vi_ 0] s1) fun v4 s3 =>
  none)) := by rfl
set_option maxRecDepth 100000 in
theorem cb_J13_toUnsignedLong (x0 : Int32) (s : σ) : cx_B ct_lc gi gr pi pr ai ar wi wr an nw na io dp ct_ft ct_sg 2 [] ct_J13_toUnsignedLong ca jm 1000 ct_J13_toUnsignedLong [some (vi_ x0)] [] s =
  none := by rfl
set_option maxRecDepth 100000 in
theorem cb_J13_pickPos (x0 x1 : Int32) (s : σ) : cx_B ct_lc gi gr pi pr ai ar wi wr an nw na io dp ct_ft ct_sg 1 [] ct_J13_pickPos ca jm 1000 ct_J13_pickPos [some (vi_ x0), some (vi_ x1)] [] s =
  some (.inl (some (vi_ x1)), s) := by rfl
set_option maxRecDepth 100000 in
theorem cb_J13_makeLong_2 (x0 x1 x2 x3 : Int32) (s : σ) : cx_B ct_lc gi gr pi pr ai ar wi wr an nw na io dp ct_ft ct_sg 2 [] ct_J13_makeLong_2 ca jm 1000 ct_J13_makeLong_2 [some (vi_ x0), some (vi_ x1), some (vi_ x2), some (vi_ x3)] [] s =
  (cx_bL cx_th (ca 47 [vi_ x0] s) fun v2 s1 =>
  (cx_bI cx_th (ca 45 [vi_ 48, vi_ 0] s1) fun v4 s3 =>
  none)) := by rfl
set_option maxRecDepth 100000 in
theorem cb_J13_toUnsignedLong_2 (x0 : Int32) (s : σ) : cx_B ct_lc gi gr pi pr ai ar wi wr an nw na io dp ct_ft ct_sg 2 [] ct_J13_toUnsignedLong_2 ca jm 1000 ct_J13_toUnsignedLong_2 [some (vi_ x0)] [] s =
  none := by rfl
set_option maxRecDepth 100000 in
theorem cb_J13_makeLong_3 (x0 x1 x2 x3 x4 x5 x6 x7 : Int32) (s : σ) : cx_B ct_lc gi gr pi pr ai ar wi wr an nw na io dp ct_ft ct_sg 2 [] ct_J13_makeLong_3 ca jm 1000 ct_J13_makeLong_3 [some (vi_ x0), some (vi_ x1), some (vi_ x2), some (vi_ x3), some (vi_ x4), some (vi_ x5), some (vi_ x6), some (vi_ x7)] [] s =
  (cx_bL cx_th (ca 49 [vi_ x0] s) fun v2 s1 =>
  (cx_bI cx_th (ca 45 [vi_ 56, vi_ 0] s1) fun v4 s3 =>
  none)) := by rfl
set_option maxRecDepth 100000 in
theorem cb_J13_toUnsignedLong_3 (x0 : Int32) (s : σ) : cx_B ct_lc gi gr pi pr ai ar wi wr an nw na io dp ct_ft ct_sg 2 [] ct_J13_toUnsignedLong_3 ca jm 1000 ct_J13_toUnsignedLong_3 [some (vi_ x0)] [] s =
  none := by rfl
set_option maxRecDepth 100000 in
theorem cb_J13_getIntUnaligned (x2 : Int64) (x1 : Option Nat) (x0 : Nat) (s : σ) : cx_B ct_lc gi gr pi pr ai ar wi wr an nw na io dp ct_ft ct_sg 1 [] ct_J13_getIntUnaligned ca jm 1000 ct_J13_getIntUnaligned [some (vr_ (some x0)), some (vr_ x1), some (vl_ x2), none] [] s =
  none := by rfl
set_option maxRecDepth 100000 in
theorem cb_J13_makeInt (x0 x1 : Int32) (s : σ) : cx_B ct_lc gi gr pi pr ai ar wi wr an nw na io dp ct_ft ct_sg 1 [] ct_J13_makeInt ca jm 1000 ct_J13_makeInt [some (vi_ x0), some (vi_ x1)] [] s =
  (cx_bI cx_th (ca 52 [vi_ x0] s) fun v2 s1 =>
  (cx_bI cx_th (ca 45 [vi_ 16, vi_ 0] s1) fun v4 s3 =>
  (cx_bI cx_th (ca 52 [vi_ x1] s3) fun v6 s5 =>
  (cx_bI cx_th (ca 45 [vi_ 16, vi_ 16] s5) fun v8 s7 =>
  some (.inl (some (vi_ ((v2 <<< (v4 &&& 31)) ||| (v6 <<< (v8 &&& 31))))), s7))))) := by rfl
set_option maxRecDepth 100000 in
theorem cb_J13_toUnsignedInt (x0 : Int32) (s : σ) : cx_B ct_lc gi gr pi pr ai ar wi wr an nw na io dp ct_ft ct_sg 1 [] ct_J13_toUnsignedInt ca jm 1000 ct_J13_toUnsignedInt [some (vi_ x0)] [] s =
  some (.inl (some (vi_ (x0 &&& 65535))), s) := by rfl
set_option maxRecDepth 100000 in
theorem cb_J13_makeInt_2 (x0 x1 x2 x3 : Int32) (s : σ) : cx_B ct_lc gi gr pi pr ai ar wi wr an nw na io dp ct_ft ct_sg 1 [] ct_J13_makeInt_2 ca jm 1000 ct_J13_makeInt_2 [some (vi_ x0), some (vi_ x1), some (vi_ x2), some (vi_ x3)] [] s =
  (cx_bI cx_th (ca 54 [vi_ x0] s) fun v2 s1 =>
  (cx_bI cx_th (ca 45 [vi_ 24, vi_ 0] s1) fun v4 s3 =>
  (cx_bI cx_th (ca 54 [vi_ x1] s3) fun v6 s5 =>
  (cx_bI cx_th (ca 45 [vi_ 24, vi_ 8] s5) fun v8 s7 =>
  (cx_bI cx_th (ca 54 [vi_ x2] s7) fun v10 s9 =>
  (cx_bI cx_th (ca 45 [vi_ 24, vi_ 16] s9) fun v12 s11 =>
  (cx_bI cx_th (ca 54 [vi_ x3] s11) fun v14 s13 =>
  (cx_bI cx_th (ca 45 [vi_ 24, vi_ 24] s13) fun v16 s15 =>
  some (.inl (some (vi_ ((((v2 <<< (v4 &&& 31)) ||| (v6 <<< (v8 &&& 31))) ||| (v10 <<< (v12 &&& 31))) ||| (v14 <<< (v16 &&& 31))))), s15))))))))) := by rfl
set_option maxRecDepth 100000 in
theorem cb_J13_toUnsignedInt_2 (x0 : Int32) (s : σ) : cx_B ct_lc gi gr pi pr ai ar wi wr an nw na io dp ct_ft ct_sg 1 [] ct_J13_toUnsignedInt_2 ca jm 1000 ct_J13_toUnsignedInt_2 [some (vi_ x0)] [] s =
  some (.inl (some (vi_ (x0 &&& 255))), s) := by rfl
set_option maxRecDepth 100000 in
theorem cb_J14_numberOfLeadingZeros (x0 : Int64) (s : σ) : cx_B ct_lc gi gr pi pr ai ar wi wr an nw na io dp ct_ft ct_sg 1 [] ct_J14_numberOfLeadingZeros ca jm 1000 ct_J14_numberOfLeadingZeros [some (vl_ x0), none, none] [] s =
  none := by rfl
set_option maxRecDepth 100000 in
theorem cb_J14_numberOfTrailingZeros (x0 : Int64) (s : σ) : cx_B ct_lc gi gr pi pr ai ar wi wr an nw na io dp ct_ft ct_sg 1 [] ct_J14_numberOfTrailingZeros ca jm 1000 ct_J14_numberOfTrailingZeros [some (vl_ x0), none, none] [] s =
  (if (x0 : Int64).toInt32 = 0 then
    none
  else
    (cx_bI cx_th (ca 24 [vi_ (x0 : Int64).toInt32] s) fun v2 s1 =>
    some (.inl (some (vi_ v2)), s1))) := by rfl
set_option maxRecDepth 100000 in
theorem cb_J15_init (x1 : Int32) (x2 x3 x4 : Option Nat) (x0 : Nat) (s : σ) : cx_B ct_lc gi gr pi pr ai ar wi wr an nw na io dp ct_ft ct_sg 0 [] ct_J15_init ca jm 1000 ct_J15_init [some (vr_ (some x0)), some (vi_ x1), some (vr_ x2), some (vr_ x3), some (vr_ x4)] [] s =
  (cx_bV cx_th (ca 41 [vr_ (some x0), vi_ x1, vr_ x2, vr_ x3, vr_ x4] s) fun s1 =>
  some (.inl none, s1)) := by rfl
set_option maxRecDepth 100000 in
theorem cb_J16_split (x3 x4 : Int32) (x1 x2 : Option Nat) (x0 : Nat) (s : σ) : cx_B ct_lc gi gr pi pr ai ar wi wr an nw na io dp ct_ft ct_sg 0 [] ct_J16_split ca jm 1000 ct_J16_split [some (vr_ (some x0)), some (vr_ x1), some (vr_ x2), some (vi_ x3), some (vi_ x4), none, none, none, none, none, none, none, none, none] [] s =
  jm 25 [vr_ x1, vr_ x2, vi_ x3, vi_ x4, vr_ none, vr_ none, vr_ none, vr_ none, vi_ 0, vi_ 0, vr_ (some x0)] [] s := by rfl
set_option maxRecDepth 100000 in
theorem cb_J16_split_25 (x3 x4 x10 x11 : Int32) (x1 x2 x6 x7 x8 x9 x12 : Option Nat) (s : σ) : cx_B ct_lc gi gr pi pr ai ar wi wr an nw na io dp ct_ft ct_sg 0 [] ct_J16_split ca jm 1000 (pj_at ct_J16_split 25) [none, some (vr_ x1), some (vr_ x2), some (vi_ x3), some (vi_ x4), none, some (vr_ x6), some (vr_ x7), some (vr_ x8), some (vr_ x9), some (vi_ x10), some (vi_ x11), some (vr_ x12), none] [] s =
  (if x12 = none then
    (if x6 = none then
      jm 171 [vr_ x1, vr_ x2, vi_ x3, vi_ x4, vr_ x6, vr_ x8, vi_ x11] [] s
    else
      (if 6 < x10 then
        ((wr x2 x3 x6 s).bind fun s1 =>
        (if x8 = none then
          jm 171 [vr_ x1, vr_ x2, vi_ x3, vi_ x4, vr_ x6, vr_ x8, vi_ x11] [] s1
        else
          ((dp 60 x6 s1).bind fun m2 =>
          (cx_bV cx_th (ca m2 [vr_ x6, vr_ x2] s1) fun s3 =>
          jm 171 [vr_ x1, vr_ x2, vi_ x3, vi_ x4, vr_ x6, vr_ x8, vi_ x11] [] s3))))
      else
        ((dp 59 x6 s).bind fun m4 =>
        (cx_bR cx_th (ca m4 [vr_ x6, vr_ x1] s) fun v6 s5 =>
        ((wr x2 x3 v6 s5).bind fun s7 =>
        jm 171 [vr_ x1, vr_ x2, vi_ x3, vi_ x4, vr_ x6, vr_ x8, vi_ x11] [] s7)))))
  else
    ((gr 12 x12 s).bind fun v8 =>
    ((cx_cst io 40 v8 s).bind fun _ =>
    ((pr 12 x12 none s).bind fun s9 =>
    ((gi 9 x12 s9).bind fun v10 =>
    (if (v10 &&& x4) = 0 then
      ((pr 18 x12 x7 s9).bind fun s11 =>
      (if x7 = none then
        jm 25 [vr_ x1, vr_ x2, vi_ x3, vi_ x4, vr_ x12, vr_ x12, vr_ x8, vr_ x9, vi_ (x10 + 1), vi_ x11, vr_ v8] [] s11
      else
        ((pr 12 x7 x12 s11).bind fun s12 =>
        jm 25 [vr_ x1, vr_ x2, vi_ x3, vi_ x4, vr_ x6, vr_ x12, vr_ x8, vr_ x9, vi_ (x10 + 1), vi_ x11, vr_ v8] [] s12)))
    else
      ((pr 18 x12 x9 s9).bind fun s13 =>
      (if x9 = none then
        jm 25 [vr_ x1, vr_ x2, vi_ x3, vi_ x4, vr_ x6, vr_ x7, vr_ x12, vr_ x12, vi_ x10, vi_ (x11 + 1), vr_ v8] [] s13
      else
        ((pr 12 x9 x12 s13).bind fun s14 =>
        jm 25 [vr_ x1, vr_ x2, vi_ x3, vi_ x4, vr_ x6, vr_ x7, vr_ x8, vr_ x12, vi_ x10, vi_ (x11 + 1), vr_ v8] [] s14))))))))) := by rfl
set_option maxRecDepth 100000 in
theorem cb_J16_split_171 (x3 x4 x11 : Int32) (x1 x2 x6 x8 : Option Nat) (s : σ) : cx_B ct_lc gi gr pi pr ai ar wi wr an nw na io dp ct_ft ct_sg 0 [] ct_J16_split ca jm 1000 (pj_at ct_J16_split 171) [none, some (vr_ x1), some (vr_ x2), some (vi_ x3), some (vi_ x4), none, some (vr_ x6), none, some (vr_ x8), none, none, some (vi_ x11), none, none] [] s =
  (if x8 = none then
    some (.inl none, s)
  else
    (if 6 < x11 then
      ((wr x2 (x3 + x4) x8 s).bind fun s1 =>
      (if x6 = none then
        some (.inl none, s1)
      else
        ((dp 60 x8 s1).bind fun m2 =>
        (cx_bV cx_th (ca m2 [vr_ x8, vr_ x2] s1) fun s3 =>
        some (.inl none, s3)))))
    else
      ((dp 59 x8 s).bind fun m4 =>
      (cx_bR cx_th (ca m4 [vr_ x8, vr_ x1] s) fun v6 s5 =>
      ((wr x2 (x3 + x4) v6 s5).bind fun s7 =>
      some (.inl none, s7)))))) := by rfl
set_option maxRecDepth 100000 in
theorem cb_J16_untreeify (x1 : Option Nat) (x0 : Nat) (s : σ) : cx_B ct_lc gi gr pi pr ai ar wi wr an nw na io dp ct_ft ct_sg 3 [] ct_J16_untreeify ca jm 1000 ct_J16_untreeify [some (vr_ (some x0)), some (vr_ x1), none, none, none, none] [] s =
  jm 7 [vr_ x1, vr_ none, vr_ none, vr_ (some x0)] [] s := by rfl
set_option maxRecDepth 100000 in
theorem cb_J16_untreeify_7 (x1 x2 x3 x4 : Option Nat) (s : σ) : cx_B ct_lc gi gr pi pr ai ar wi wr an nw na io dp ct_ft ct_sg 3 [] ct_J16_untreeify ca jm 1000 (pj_at ct_J16_untreeify 7) [none, some (vr_ x1), some (vr_ x2), some (vr_ x3), some (vr_ x4), none] [] s =
  (if x4 = none then
    some (.inl (some (vr_ x2)), s)
  else
    ((dp 6 x1 s).bind fun m1 =>
    (cx_bR cx_th (ca m1 [vr_ x1, vr_ x4, vr_ none] s) fun v3 s2 =>
    (if x3 = none then
      ((gr 12 x4 s2).bind fun v4 =>
      jm 7 [vr_ x1, vr_ v3, vr_ v3, vr_ v4] [] s2)
    else
      ((pr 12 x3 v3 s2).bind fun s5 =>
      ((gr 12 x4 s5).bind fun v6 =>
      jm 7 [vr_ x1, vr_ x2, vr_ v3, vr_ v6] [] s5)))))) := by rfl
set_option maxRecDepth 100000 in
theorem cb_J16_treeify (x1 : Option Nat) (x0 : Nat) (s : σ) : cx_B ct_lc gi gr pi pr ai ar wi wr an nw na io dp ct_ft ct_sg 0 [] ct_J16_treeify ca jm 1000 ct_J16_treeify [some (vr_ (some x0)), some (vr_ x1), none, none, none, none, none, none, none, none, none, none, none] [] s =
  jm 4 [vr_ x1, vr_ none, vr_ (some x0)] [] s := by rfl
set_option maxRecDepth 100000 in
theorem cb_J16_treeify_4 (x1 x2 x3 : Option Nat) (s : σ) : cx_B ct_lc gi gr pi pr ai ar wi wr an nw na io dp ct_ft ct_sg 0 [] ct_J16_treeify ca jm 1000 (pj_at ct_J16_treeify 4) [none, some (vr_ x1), some (vr_ x2), some (vr_ x3), none, none, none, none, none, none, none, none, none] [] s =
  (if x3 = none then
    (cx_bV cx_th (ca 64 [vr_ x1, vr_ x2] s) fun s1 =>
    some (.inl none, s1))
  else
    ((gr 12 x3 s).bind fun v2 =>
    ((cx_cst io 40 v2 s).bind fun _ =>
    ((pr 17 x3 none s).bind fun s3 =>
    ((pr 16 x3 none s3).bind fun s4 =>
    (if x2 = none then
      ((pr 15 x3 none s4).bind fun s5 =>
      ((pi 19 x3 0 s5).bind fun s6 =>
      jm 4 [vr_ x1, vr_ x3, vr_ v2] [] s6))
    else
      ((gr 10 x3 s4).bind fun v7 =>
      ((gi 9 x3 s4).bind fun v8 =>
      jm 64 [vr_ x1, vr_ x2, vr_ x3, vr_ v2, vr_ v7, vi_ v8, vr_ none, vr_ x2] [] s4)))))))) := by rfl
set_option maxRecDepth 100000 in
theorem cb_J16_treeify_64 (x6 : Int32) (x1 x2 x3 x4 x5 x7 x8 : Option Nat) (s : σ) : cx_B ct_lc gi gr pi pr ai ar wi wr an nw na io dp ct_ft ct_sg 0 [] ct_J16_treeify ca jm 1000 (pj_at ct_J16_treeify 64) [none, some (vr_ x1), some (vr_ x2), some (vr_ x3), some (vr_ x4), some (vr_ x5), some (vi_ x6), some (vr_ x7), some (vr_ x8), none, none, none, none] [] s =
  ((gr 10 x8 s).bind fun v1 =>
  ((gi 9 x8 s).bind fun v2 =>
  (if x6 < v2 then
    ((gr 16 x8 s).bind fun v3 =>
    jm 165 [vr_ x1, vr_ x2, vr_ x3, vr_ x4, vr_ x5, vi_ x6, vr_ x7, vi_ (-1), vr_ x8] [vr_ v3] s)
  else
    (if v2 < x6 then
      ((gr 17 x8 s).bind fun v4 =>
      jm 165 [vr_ x1, vr_ x2, vr_ x3, vr_ x4, vr_ x5, vi_ x6, vr_ x7, vi_ 1, vr_ x8] [vr_ v4] s)
    else
      (if x7 = none then
        (cx_bR cx_th (ca 7 [vr_ x5] s) fun v6 s5 =>
        (if v6 = none then
          none
        else
          jm 119 [vr_ x1, vr_ x2, vr_ x3, vr_ x4, vr_ x5, vi_ x6, vr_ v6, vr_ x8, vr_ v1] [] s5))
      else
        jm 119 [vr_ x1, vr_ x2, vr_ x3, vr_ x4, vr_ x5, vi_ x6, vr_ x7, vr_ x8, vr_ v1] [] s))))) := by rfl
set_option maxRecDepth 100000 in
theorem cb_J16_treeify_119 (x6 : Int32) (x1 x2 x3 x4 x5 x7 x8 x11 : Option Nat) (s : σ) : cx_B ct_lc gi gr pi pr ai ar wi wr an nw na io dp ct_ft ct_sg 0 [] ct_J16_treeify ca jm 1000 (pj_at ct_J16_treeify 119) [none, some (vr_ x1), some (vr_ x2), some (vr_ x3), some (vr_ x4), some (vr_ x5), some (vi_ x6), some (vr_ x7), some (vr_ x8), none, none, some (vr_ x11), none] [] s =
  (cx_bI cx_th (ca 8 [vr_ x7, vr_ x5, vr_ x11] s) fun v2 s1 =>
  (if v2 = 0 then
    none
  else
    (if 0 < v2 then
      ((gr 17 x8 s1).bind fun v3 =>
      jm 165 [vr_ x1, vr_ x2, vr_ x3, vr_ x4, vr_ x5, vi_ x6, vr_ x7, vi_ v2, vr_ x8] [vr_ v3] s1)
    else
      ((gr 16 x8 s1).bind fun v4 =>
      jm 165 [vr_ x1, vr_ x2, vr_ x3, vr_ x4, vr_ x5, vi_ x6, vr_ x7, vi_ v2, vr_ x8] [vr_ v4] s1)))) := by rfl
set_option maxRecDepth 100000 in
theorem cb_J16_treeify_165 (x6 x9 : Int32) (x1 x2 x3 x4 x5 x7 x12 y0 : Option Nat) (s : σ) : cx_B ct_lc gi gr pi pr ai ar wi wr an nw na io dp ct_ft ct_sg 0 [] ct_J16_treeify ca jm 1000 (pj_at ct_J16_treeify 165) [none, some (vr_ x1), some (vr_ x2), some (vr_ x3), some (vr_ x4), some (vr_ x5), some (vi_ x6), some (vr_ x7), none, some (vi_ x9), none, none, some (vr_ x12)] [vr_ y0] s =
  (if y0 = none then
    ((pr 15 x3 x12 s).bind fun s1 =>
    (if 0 < x9 then
      ((pr 17 x12 x3 s1).bind fun s2 =>
      (cx_bR cx_th (ca 61 [vr_ x2, vr_ x3] s2) fun v4 s3 =>
      jm 4 [vr_ x1, vr_ v4, vr_ x4] [] s3))
    else
      ((pr 16 x12 x3 s1).bind fun s5 =>
      (cx_bR cx_th (ca 61 [vr_ x2, vr_ x3] s5) fun v7 s6 =>
      jm 4 [vr_ x1, vr_ v7, vr_ x4] [] s6))))
  else
    jm 64 [vr_ x1, vr_ x2, vr_ x3, vr_ x4, vr_ x5, vi_ x6, vr_ x7, vr_ y0] [] s) := by rfl
set_option maxRecDepth 100000 in
theorem cb_J16_balanceInsertion (x0 x1 : Option Nat) (s : σ) : cx_B ct_lc gi gr pi pr ai ar wi wr an nw na io dp ct_ft ct_sg 3 [] ct_J16_balanceInsertion ca jm 1000 ct_J16_balanceInsertion [some (vr_ x0), some (vr_ x1), none, none, none, none] [] s =
  ((pi 19 x1 1 s).bind fun s1 =>
  jm 5 [vr_ x0, vr_ x1] [] s1) := by rfl
set_option maxRecDepth 100000 in
theorem cb_J16_balanceInsertion_5 (x0 x1 : Option Nat) (s : σ) : cx_B ct_lc gi gr pi pr ai ar wi wr an nw na io dp ct_ft ct_sg 3 [] ct_J16_balanceInsertion ca jm 1000 (pj_at ct_J16_balanceInsertion 5) [some (vr_ x0), some (vr_ x1), none, none, none, none] [] s =
  ((gr 15 x1 s).bind fun v1 =>
  (if v1 = none then
    ((pi 19 x1 0 s).bind fun s2 =>
    some (.inl (some (vr_ x1)), s2))
  else
    ((gi 19 v1 s).bind fun v3 =>
    (if v3 = 0 then
      some (.inl (some (vr_ x0)), s)
    else
      ((gr 15 v1 s).bind fun v4 =>
      (if v4 = none then
        some (.inl (some (vr_ x0)), s)
      else
        ((gr 16 v4 s).bind fun v5 =>
        (if v1 = v5 then
          ((gr 17 v4 s).bind fun v6 =>
          (if v6 = none then
            jm 89 [vr_ x0, vr_ x1, vr_ v1, vr_ v4] [] s
          else
            ((gi 19 v6 s).bind fun v7 =>
            (if v7 = 0 then
              jm 89 [vr_ x0, vr_ x1, vr_ v1, vr_ v4] [] s
            else
              ((pi 19 v6 0 s).bind fun s8 =>
              ((pi 19 v1 0 s8).bind fun s9 =>
              ((pi 19 v4 1 s9).bind fun s10 =>
              jm 5 [vr_ x0, vr_ v4] [] s10)))))))
        else
          (if v5 = none then
            jm 184 [vr_ x0, vr_ x1, vr_ v1, vr_ v4] [] s
          else
            ((gi 19 v5 s).bind fun v11 =>
            (if v11 = 0 then
              jm 184 [vr_ x0, vr_ x1, vr_ v1, vr_ v4] [] s
            else
              ((pi 19 v5 0 s).bind fun s12 =>
              ((pi 19 v1 0 s12).bind fun s13 =>
              ((pi 19 v4 1 s13).bind fun s14 =>
              jm 5 [vr_ x0, vr_ v4] [] s14)))))))))))))) := by rfl
set_option maxRecDepth 100000 in
theorem cb_J16_balanceInsertion_89 (x0 x1 x2 x3 : Option Nat) (s : σ) : cx_B ct_lc gi gr pi pr ai ar wi wr an nw na io dp ct_ft ct_sg 3 [] ct_J16_balanceInsertion ca jm 1000 (pj_at ct_J16_balanceInsertion 89) [some (vr_ x0), some (vr_ x1), some (vr_ x2), some (vr_ x3), none, none] [] s =
  ((gr 17 x2 s).bind fun v1 =>
  (if x1 = v1 then
    (cx_bR cx_th (ca 62 [vr_ x0, vr_ x2] s) fun v3 s2 =>
    ((gr 15 x2 s2).bind fun v4 =>
    (if v4 = none then
      jm 123 [vr_ v3, vr_ x2, vr_ v4, vr_ none] [] s2
    else
      ((gr 15 v4 s2).bind fun v5 =>
      jm 123 [vr_ v3, vr_ x2, vr_ v4, vr_ v5] [] s2))))
  else
    jm 123 [vr_ x0, vr_ x1, vr_ x2, vr_ x3] [] s)) := by rfl
set_option maxRecDepth 100000 in
theorem cb_J16_balanceInsertion_123 (x0 x1 x2 x3 : Option Nat) (s : σ) : cx_B ct_lc gi gr pi pr ai ar wi wr an nw na io dp ct_ft ct_sg 3 [] ct_J16_balanceInsertion ca jm 1000 (pj_at ct_J16_balanceInsertion 123) [some (vr_ x0), some (vr_ x1), some (vr_ x2), some (vr_ x3), none, none] [] s =
  (if x2 = none then
    jm 5 [vr_ x0, vr_ x1] [] s
  else
    ((pi 19 x2 0 s).bind fun s1 =>
    (if x3 = none then
      jm 5 [vr_ x0, vr_ x1] [] s1
    else
      ((pi 19 x3 1 s1).bind fun s2 =>
      (cx_bR cx_th (ca 63 [vr_ x0, vr_ x3] s2) fun v4 s3 =>
      jm 5 [vr_ v4, vr_ x1] [] s3))))) := by rfl
set_option maxRecDepth 100000 in
theorem cb_J16_balanceInsertion_184 (x0 x1 x2 x3 : Option Nat) (s : σ) : cx_B ct_lc gi gr pi pr ai ar wi wr an nw na io dp ct_ft ct_sg 3 [] ct_J16_balanceInsertion ca jm 1000 (pj_at ct_J16_balanceInsertion 184) [some (vr_ x0), some (vr_ x1), some (vr_ x2), some (vr_ x3), none, none] [] s =
  ((gr 16 x2 s).bind fun v1 =>
  (if x1 = v1 then
    (cx_bR cx_th (ca 63 [vr_ x0, vr_ x2] s) fun v3 s2 =>
    ((gr 15 x2 s2).bind fun v4 =>
    (if v4 = none then
      jm 218 [vr_ v3, vr_ x2, vr_ v4, vr_ none] [] s2
    else
      ((gr 15 v4 s2).bind fun v5 =>
      jm 218 [vr_ v3, vr_ x2, vr_ v4, vr_ v5] [] s2))))
  else
    jm 218 [vr_ x0, vr_ x1, vr_ x2, vr_ x3] [] s)) := by rfl
set_option maxRecDepth 100000 in
theorem cb_J16_balanceInsertion_218 (x0 x1 x2 x3 : Option Nat) (s : σ) : cx_B ct_lc gi gr pi pr ai ar wi wr an nw na io dp ct_ft ct_sg 3 [] ct_J16_balanceInsertion ca jm 1000 (pj_at ct_J16_balanceInsertion 218) [some (vr_ x0), some (vr_ x1), some (vr_ x2), some (vr_ x3), none, none] [] s =
  (if x2 = none then
    jm 5 [vr_ x0, vr_ x1] [] s
  else
    ((pi 19 x2 0 s).bind fun s1 =>
    (if x3 = none then
      jm 5 [vr_ x0, vr_ x1] [] s1
    else
      ((pi 19 x3 1 s1).bind fun s2 =>
      (cx_bR cx_th (ca 62 [vr_ x0, vr_ x3] s2) fun v4 s3 =>
      jm 5 [vr_ v4, vr_ x1] [] s3))))) := by rfl
set_option maxRecDepth 100000 in
theorem cb_J16_rotateLeft (x0 x1 : Option Nat) (s : σ) : cx_B ct_lc gi gr pi pr ai ar wi wr an nw na io dp ct_ft ct_sg 3 [] ct_J16_rotateLeft ca jm 1000 ct_J16_rotateLeft [some (vr_ x0), some (vr_ x1), none, none, none] [] s =
  (if x1 = none then
    some (.inl (some (vr_ x0)), s)
  else
    ((gr 17 x1 s).bind fun v1 =>
    (if v1 = none then
      some (.inl (some (vr_ x0)), s)
    else
      ((gr 16 v1 s).bind fun v2 =>
      ((pr 17 x1 v2 s).bind fun s3 =>
      (if v2 = none then
        jm 34 [vr_ x0, vr_ x1, vr_ v1] [] s3
      else
        ((pr 15 v2 x1 s3).bind fun s4 =>
        jm 34 [vr_ x0, vr_ x1, vr_ v1] [] s4))))))) := by rfl
set_option maxRecDepth 100000 in
theorem cb_J16_rotateLeft_34 (x0 x1 x2 : Option Nat) (s : σ) : cx_B ct_lc gi gr pi pr ai ar wi wr an nw na io dp ct_ft ct_sg 3 [] ct_J16_rotateLeft ca jm 1000 (pj_at ct_J16_rotateLeft 34) [some (vr_ x0), some (vr_ x1), some (vr_ x2), none, none] [] s =
  ((gr 15 x1 s).bind fun v1 =>
  ((pr 15 x2 v1 s).bind fun s2 =>
  (if v1 = none then
    ((pi 19 x2 0 s2).bind fun s3 =>
    ((pr 16 x2 x1 s3).bind fun s4 =>
    ((pr 15 x1 x2 s4).bind fun s5 =>
    some (.inl (some (vr_ x2)), s5))))
  else
    ((gr 16 v1 s2).bind fun v6 =>
    (if v6 = x1 then
      ((pr 16 v1 x2 s2).bind fun s7 =>
      ((pr 16 x2 x1 s7).bind fun s8 =>
      ((pr 15 x1 x2 s8).bind fun s9 =>
      some (.inl (some (vr_ x0)), s9))))
    else
      ((pr 17 v1 x2 s2).bind fun s10 =>
      ((pr 16 x2 x1 s10).bind fun s11 =>
      ((pr 15 x1 x2 s11).bind fun s12 =>
      some (.inl (some (vr_ x0)), s12))))))))) := by rfl
set_option maxRecDepth 100000 in
theorem cb_J16_rotateRight (x0 x1 : Option Nat) (s : σ) : cx_B ct_lc gi gr pi pr ai ar wi wr an nw na io dp ct_ft ct_sg 3 [] ct_J16_rotateRight ca jm 1000 ct_J16_rotateRight [some (vr_ x0), some (vr_ x1), none, none, none] [] s =
  (if x1 = none then
    some (.inl (some (vr_ x0)), s)
  else
    ((gr 16 x1 s).bind fun v1 =>
    (if v1 = none then
      some (.inl (some (vr_ x0)), s)
    else
      ((gr 17 v1 s).bind fun v2 =>
      ((pr 16 x1 v2 s).bind fun s3 =>
      (if v2 = none then
        jm 34 [vr_ x0, vr_ x1, vr_ v1] [] s3
      else
        ((pr 15 v2 x1 s3).bind fun s4 =>
        jm 34 [vr_ x0, vr_ x1, vr_ v1] [] s4))))))) := by rfl
set_option maxRecDepth 100000 in
theorem cb_J16_rotateRight_34 (x0 x1 x2 : Option Nat) (s : σ) : cx_B ct_lc gi gr pi pr ai ar wi wr an nw na io dp ct_ft ct_sg 3 [] ct_J16_rotateRight ca jm 1000 (pj_at ct_J16_rotateRight 34) [some (vr_ x0), some (vr_ x1), some (vr_ x2), none, none] [] s =
  ((gr 15 x1 s).bind fun v1 =>
  ((pr 15 x2 v1 s).bind fun s2 =>
  (if v1 = none then
    ((pi 19 x2 0 s2).bind fun s3 =>
    ((pr 17 x2 x1 s3).bind fun s4 =>
    ((pr 15 x1 x2 s4).bind fun s5 =>
    some (.inl (some (vr_ x2)), s5))))
  else
    ((gr 17 v1 s2).bind fun v6 =>
    (if v6 = x1 then
      ((pr 17 v1 x2 s2).bind fun s7 =>
      ((pr 17 x2 x1 s7).bind fun s8 =>
      ((pr 15 x1 x2 s8).bind fun s9 =>
      some (.inl (some (vr_ x0)), s9))))
    else
      ((pr 16 v1 x2 s2).bind fun s10 =>
      ((pr 17 x2 x1 s10).bind fun s11 =>
      ((pr 15 x1 x2 s11).bind fun s12 =>
      some (.inl (some (vr_ x0)), s12))))))))) := by rfl
set_option maxRecDepth 100000 in
theorem cb_J16_moveRootToFront (x0 x1 : Option Nat) (s : σ) : cx_B ct_lc gi gr pi pr ai ar wi wr an nw na io dp ct_ft ct_sg 0 [] ct_J16_moveRootToFront ca jm 1000 ct_J16_moveRootToFront [some (vr_ x0), some (vr_ x1), none, none, none, none, none] [] s =
  (if x1 = none then
    some (.inl none, s)
  else
    (if x0 = none then
      some (.inl none, s)
    else
      ((an x0 s).bind fun v1 =>
      (if 0 < v1 then
        ((gi 9 x1 s).bind fun v2 =>
        ((ar x0 ((v1 - 1) &&& v2) s).bind fun v3 =>
        ((cx_cst io 40 v3 s).bind fun _ =>
        (if x1 = v3 then
          some (.inl none, s)
        else
          ((wr x0 ((v1 - 1) &&& v2) x1 s).bind fun s4 =>
          ((gr 18 x1 s4).bind fun v5 =>
          ((gr 12 x1 s4).bind fun v6 =>
          (if v6 = none then
            (if v5 = none then
              jm 80 [vr_ x1, vr_ v3] [] s4
            else
              ((pr 12 v5 v6 s4).bind fun s7 =>
              jm 80 [vr_ x1, vr_ v3] [] s7))
          else
            ((cx_cst io 40 v6 s4).bind fun _ =>
            ((pr 18 v6 v5 s4).bind fun s8 =>
            (if v5 = none then
              jm 80 [vr_ x1, vr_ v3] [] s8
            else
              ((pr 12 v5 v6 s8).bind fun s9 =>
              jm 80 [vr_ x1, vr_ v3] [] s9))))))))))))
      else
        some (.inl none, s))))) := by rfl
set_option maxRecDepth 100000 in
theorem cb_J16_moveRootToFront_80 (x1 x4 : Option Nat) (s : σ) : cx_B ct_lc gi gr pi pr ai ar wi wr an nw na io dp ct_ft ct_sg 0 [] ct_J16_moveRootToFront ca jm 1000 (pj_at ct_J16_moveRootToFront 80) [none, some (vr_ x1), none, none, some (vr_ x4), none, none] [] s =
  (if x4 = none then
    ((pr 12 x1 x4 s).bind fun s1 =>
    ((pr 18 x1 none s1).bind fun s2 =>
    some (.inl none, s2)))
  else
    ((pr 18 x4 x1 s).bind fun s3 =>
    ((pr 12 x1 x4 s3).bind fun s4 =>
    ((pr 18 x1 none s4).bind fun s5 =>
    some (.inl none, s5))))) := by rfl
set_option maxRecDepth 100000 in
theorem cb_J16_putTreeVal (x3 : Int32) (x1 x2 x4 x5 : Option Nat) (x0 : Nat) (s : σ) : cx_B ct_lc gi gr pi pr ai ar wi wr an nw na io dp ct_ft ct_sg 3 [] ct_J16_putTreeVal ca jm 1000 ct_J16_putTreeVal [some (vr_ (some x0)), some (vr_ x1), some (vr_ x2), some (vi_ x3), some (vr_ x4), some (vr_ x5), none, none, none, none, none, none, none, none, none, none] [] s =
  ((gr 15 (some x0) s).bind fun v1 =>
  (if v1 = none then
    jm 27 [vr_ x1, vr_ x2, vi_ x3, vr_ x4, vr_ x5, vr_ none, vi_ 0, vr_ (some x0), vr_ (some x0)] [] s
  else
    ((dp 66 (some x0) s).bind fun m2 =>
    (cx_bR cx_th (ca m2 [vr_ (some x0)] s) fun v4 s3 =>
    jm 27 [vr_ x1, vr_ x2, vi_ x3, vr_ x4, vr_ x5, vr_ none, vi_ 0, vr_ v4, vr_ v4] [] s3)))) := by rfl
set_option maxRecDepth 100000 in
theorem cb_J16_putTreeVal_27 (x3 x7 : Int32) (x1 x2 x4 x5 x6 x8 x9 : Option Nat) (s : σ) : cx_B ct_lc gi gr pi pr ai ar wi wr an nw na io dp ct_ft ct_sg 3 [] ct_J16_putTreeVal ca jm 1000 (pj_at ct_J16_putTreeVal 27) [none, some (vr_ x1), some (vr_ x2), some (vi_ x3), some (vr_ x4), some (vr_ x5), some (vr_ x6), some (vi_ x7), some (vr_ x8), some (vr_ x9), none, none, none, none, none, none] [] s =
  ((gi 9 x9 s).bind fun v1 =>
  (if x3 < v1 then
    ((gr 16 x9 s).bind fun v2 =>
    jm 215 [vr_ x1, vr_ x2, vi_ x3, vr_ x4, vr_ x5, vr_ x6, vi_ x7, vr_ x8, vi_ (-1), vr_ x9] [vr_ v2] s)
  else
    (if v1 < x3 then
      ((gr 17 x9 s).bind fun v3 =>
      jm 215 [vr_ x1, vr_ x2, vi_ x3, vr_ x4, vr_ x5, vr_ x6, vi_ x7, vr_ x8, vi_ 1, vr_ x9] [vr_ v3] s)
    else
      ((gr 10 x9 s).bind fun v4 =>
      (if v4 = x4 then
        some (.inl (some (vr_ x9)), s)
      else
        (if x4 = none then
          (if x6 = none then
            (cx_bR cx_th (ca 7 [vr_ x4] s) fun v6 s5 =>
            (if v6 = none then
              jm 119 [vi_ x3, vr_ x4, vr_ v6, vi_ x7, vr_ x9, vr_ v4] [] s5
            else
              jm 104 [vr_ x1, vr_ x2, vi_ x3, vr_ x4, vr_ x5, vr_ v6, vi_ x7, vr_ x8, vr_ x9, vr_ v4] [] s5))
          else
            jm 104 [vr_ x1, vr_ x2, vi_ x3, vr_ x4, vr_ x5, vr_ x6, vi_ x7, vr_ x8, vr_ x9, vr_ v4] [] s)
        else
          ((dp 152 x4 s).bind fun m7 =>
          (cx_bI cx_th (ca m7 [vr_ x4, vr_ v4] s) fun v9 s8 =>
          (if v9 = 0 then
            (if x6 = none then
              (cx_bR cx_th (ca 7 [vr_ x4] s8) fun v11 s10 =>
              (if v11 = none then
                jm 119 [vi_ x3, vr_ x4, vr_ v11, vi_ x7, vr_ x9, vr_ v4] [] s10
              else
                jm 104 [vr_ x1, vr_ x2, vi_ x3, vr_ x4, vr_ x5, vr_ v11, vi_ x7, vr_ x8, vr_ x9, vr_ v4] [] s10))
            else
              jm 104 [vr_ x1, vr_ x2, vi_ x3, vr_ x4, vr_ x5, vr_ x6, vi_ x7, vr_ x8, vr_ x9, vr_ v4] [] s8)
          else
            some (.inl (some (vr_ x9)), s8)))))))))) := by rfl
set_option maxRecDepth 100000 in
theorem cb_J16_putTreeVal_104 (x3 x7 : Int32) (x1 x2 x4 x5 x6 x8 x9 x12 : Option Nat) (s : σ) : cx_B ct_lc gi gr pi pr ai ar wi wr an nw na io dp ct_ft ct_sg 3 [] ct_J16_putTreeVal ca jm 1000 (pj_at ct_J16_putTreeVal 104) [none, some (vr_ x1), some (vr_ x2), some (vi_ x3), some (vr_ x4), some (vr_ x5), some (vr_ x6), some (vi_ x7), some (vr_ x8), some (vr_ x9), none, none, some (vr_ x12), none, none, none] [] s =
  (cx_bI cx_th (ca 8 [vr_ x6, vr_ x4, vr_ x12] s) fun v2 s1 =>
  (if v2 = 0 then
    jm 119 [vi_ x3, vr_ x4, vr_ x6, vi_ x7, vr_ x9, vr_ x12] [] s1
  else
    (if 0 < v2 then
      ((gr 17 x9 s1).bind fun v3 =>
      jm 215 [vr_ x1, vr_ x2, vi_ x3, vr_ x4, vr_ x5, vr_ x6, vi_ x7, vr_ x8, vi_ v2, vr_ x9] [vr_ v3] s1)
    else
      ((gr 16 x9 s1).bind fun v4 =>
      jm 215 [vr_ x1, vr_ x2, vi_ x3, vr_ x4, vr_ x5, vr_ x6, vi_ x7, vr_ x8, vi_ v2, vr_ x9] [vr_ v4] s1)))) := by rfl
set_option maxRecDepth 100000 in
theorem cb_J16_putTreeVal_119 (x3 x7 : Int32) (x4 x6 x9 x12 : Option Nat) (s : σ) : cx_B ct_lc gi gr pi pr ai ar wi wr an nw na io dp ct_ft ct_sg 3 [] ct_J16_putTreeVal ca jm 1000 (pj_at ct_J16_putTreeVal 119) [none, none, none, some (vi_ x3), some (vr_ x4), none, some (vr_ x6), some (vi_ x7), none, some (vr_ x9), none, none, some (vr_ x12), none, none, none] [] s =
  (if x7 = 0 then
    ((gr 16 x9 s).bind fun v1 =>
    (if v1 = none then
      jm 154 [vi_ x3, vr_ x4, vr_ x6, vr_ x9, vr_ x12] [] s
    else
      ((dp 67 v1 s).bind fun m2 =>
      (cx_bR cx_th (ca m2 [vr_ v1, vi_ x3, vr_ x4, vr_ x6] s) fun v4 s3 =>
      (if v4 = none then
        jm 154 [vi_ x3, vr_ x4, vr_ x6, vr_ x9, vr_ x12] [] s3
      else
        some (.inl (some (vr_ v4)), s3))))))
  else
    none) := by rfl
set_option maxRecDepth 100000 in
theorem cb_J16_putTreeVal_154 (x3 : Int32) (x4 x6 x9 x12 : Option Nat) (s : σ) : cx_B ct_lc gi gr pi pr ai ar wi wr an nw na io dp ct_ft ct_sg 3 [] ct_J16_putTreeVal ca jm 1000 (pj_at ct_J16_putTreeVal 154) [none, none, none, some (vi_ x3), some (vr_ x4), none, some (vr_ x6), none, none, some (vr_ x9), none, none, some (vr_ x12), none, none, none] [] s =
  ((gr 17 x9 s).bind fun v1 =>
  (if v1 = none then
    none
  else
    ((dp 67 v1 s).bind fun m2 =>
    (cx_bR cx_th (ca m2 [vr_ v1, vi_ x3, vr_ x4, vr_ x6] s) fun v4 s3 =>
    (if v4 = none then
      none
    else
      some (.inl (some (vr_ v4)), s3)))))) := by rfl
set_option maxRecDepth 100000 in
theorem cb_J16_putTreeVal_215 (x3 x7 x10 : Int32) (x1 x2 x4 x5 x6 x8 x13 y0 : Option Nat) (s : σ) : cx_B ct_lc gi gr pi pr ai ar wi wr an nw na io dp ct_ft ct_sg 3 [] ct_J16_putTreeVal ca jm 1000 (pj_at ct_J16_putTreeVal 215) [none, some (vr_ x1), some (vr_ x2), some (vi_ x3), some (vr_ x4), some (vr_ x5), some (vr_ x6), some (vi_ x7), some (vr_ x8), none, some (vi_ x10), none, none, some (vr_ x13), none, none] [vr_ y0] s =
  (if y0 = none then
    ((gr 12 x13 s).bind fun v1 =>
    ((dp 10 x1 s).bind fun m2 =>
    (cx_bR cx_th (ca m2 [vr_ x1, vi_ x3, vr_ x4, vr_ x5, vr_ v1] s) fun v4 s3 =>
    (if 0 < x10 then
      ((pr 17 x13 v4 s3).bind fun s5 =>
      jm 263 [vr_ x2, vr_ x8, vr_ x13, vr_ v1, vr_ v4] [] s5)
    else
      ((pr 16 x13 v4 s3).bind fun s6 =>
      jm 263 [vr_ x2, vr_ x8, vr_ x13, vr_ v1, vr_ v4] [] s6)))))
  else
    jm 27 [vr_ x1, vr_ x2, vi_ x3, vr_ x4, vr_ x5, vr_ x6, vi_ x7, vr_ x8, vr_ y0] [] s) := by rfl
set_option maxRecDepth 100000 in
theorem cb_J16_putTreeVal_263 (x2 x8 x13 x14 x15 : Option Nat) (s : σ) : cx_B ct_lc gi gr pi pr ai ar wi wr an nw na io dp ct_ft ct_sg 3 [] ct_J16_putTreeVal ca jm 1000 (pj_at ct_J16_putTreeVal 263) [none, none, some (vr_ x2), none, none, none, none, none, some (vr_ x8), none, none, none, none, some (vr_ x13), some (vr_ x14), some (vr_ x15)] [] s =
  ((pr 12 x13 x15 s).bind fun s1 =>
  ((pr 18 x15 x13 s1).bind fun s2 =>
  ((pr 15 x15 x13 s2).bind fun s3 =>
  (if x14 = none then
    (cx_bR cx_th (ca 61 [vr_ x8, vr_ x15] s3) fun v5 s4 =>
    (cx_bV cx_th (ca 64 [vr_ x2, vr_ v5] s4) fun s6 =>
    some (.inl (some (vr_ none)), s6)))
  else
    ((cx_cst io 40 x14 s3).bind fun _ =>
    ((pr 18 x14 x15 s3).bind fun s7 =>
    (cx_bR cx_th (ca 61 [vr_ x8, vr_ x15] s7) fun v9 s8 =>
    (cx_bV cx_th (ca 64 [vr_ x2, vr_ v9] s8) fun s10 =>
    some (.inl (some (vr_ none)), s10))))))))) := by rfl
set_option maxRecDepth 100000 in
theorem cb_J16_root (x0 : Nat) (s : σ) : cx_B ct_lc gi gr pi pr ai ar wi wr an nw na io dp ct_ft ct_sg 3 [] ct_J16_root ca jm 1000 ct_J16_root [some (vr_ (some x0)), none, none] [] s =
  jm 2 [vr_ (some x0)] [] s := by rfl
set_option maxRecDepth 100000 in
theorem cb_J16_root_2 (x1 : Option Nat) (s : σ) : cx_B ct_lc gi gr pi pr ai ar wi wr an nw na io dp ct_ft ct_sg 3 [] ct_J16_root ca jm 1000 (pj_at ct_J16_root 2) [none, some (vr_ x1), none] [] s =
  ((gr 15 x1 s).bind fun v1 =>
  (if v1 = none then
    some (.inl (some (vr_ x1)), s)
  else
    jm 2 [vr_ v1] [] s)) := by rfl
set_option maxRecDepth 100000 in
theorem cb_J16_find (x1 : Int32) (x2 x3 : Option Nat) (x0 : Nat) (s : σ) : cx_B ct_lc gi gr pi pr ai ar wi wr an nw na io dp ct_ft ct_sg 3 [] ct_J16_find ca jm 1000 ct_J16_find [some (vr_ (some x0)), some (vi_ x1), some (vr_ x2), some (vr_ x3), none, none, none, none, none, none, none] [] s =
  jm 3 [vi_ x1, vr_ x2, vr_ x3, vr_ (some x0)] [] s := by rfl
set_option maxRecDepth 100000 in
theorem cb_J16_find_3 (x1 : Int32) (x2 x3 x4 : Option Nat) (s : σ) : cx_B ct_lc gi gr pi pr ai ar wi wr an nw na io dp ct_ft ct_sg 3 [] ct_J16_find ca jm 1000 (pj_at ct_J16_find 3) [none, some (vi_ x1), some (vr_ x2), some (vr_ x3), some (vr_ x4), none, none, none, none, none, none] [] s =
  ((gr 16 x4 s).bind fun v1 =>
  ((gr 17 x4 s).bind fun v2 =>
  ((gi 9 x4 s).bind fun v3 =>
  (if x1 < v3 then
    (if v1 = none then
      some (.inl (some (vr_ none)), s)
    else
      jm 3 [vi_ x1, vr_ x2, vr_ x3, vr_ v1] [] s)
  else
    (if v3 < x1 then
      (if v2 = none then
        some (.inl (some (vr_ none)), s)
      else
        jm 3 [vi_ x1, vr_ x2, vr_ x3, vr_ v2] [] s)
    else
      ((gr 10 x4 s).bind fun v4 =>
      (if v4 = x2 then
        some (.inl (some (vr_ x4)), s)
      else
        (if x2 = none then
          jm 77 [vi_ x1, vr_ x2, vr_ x3, vr_ v4, vr_ v1, vr_ v2] [] s
        else
          ((dp 152 x2 s).bind fun m5 =>
          (cx_bI cx_th (ca m5 [vr_ x2, vr_ v4] s) fun v7 s6 =>
          (if v7 = 0 then
            jm 77 [vi_ x1, vr_ x2, vr_ x3, vr_ v4, vr_ v1, vr_ v2] [] s6
          else
            some (.inl (some (vr_ x4)), s6)))))))))))) := by rfl
set_option maxRecDepth 100000 in
theorem cb_J16_find_77 (x1 : Int32) (x2 x3 x7 x8 x9 : Option Nat) (s : σ) : cx_B ct_lc gi gr pi pr ai ar wi wr an nw na io dp ct_ft ct_sg 3 [] ct_J16_find ca jm 1000 (pj_at ct_J16_find 77) [none, some (vi_ x1), some (vr_ x2), some (vr_ x3), none, none, none, some (vr_ x7), some (vr_ x8), some (vr_ x9), none] [] s =
  (if x8 = none then
    (if x9 = none then
      some (.inl (some (vr_ none)), s)
    else
      jm 3 [vi_ x1, vr_ x2, vr_ x3, vr_ x9] [] s)
  else
    (if x9 = none then
      (if x8 = none then
        some (.inl (some (vr_ none)), s)
      else
        jm 3 [vi_ x1, vr_ x2, vr_ x3, vr_ x8] [] s)
    else
      (if x3 = none then
        (cx_bR cx_th (ca 7 [vr_ x2] s) fun v2 s1 =>
        (if v2 = none then
          jm 144 [vi_ x1, vr_ x2, vr_ v2, vr_ x8, vr_ x9] [] s1
        else
          jm 114 [vi_ x1, vr_ x2, vr_ v2, vr_ x7, vr_ x8, vr_ x9] [] s1))
      else
        jm 114 [vi_ x1, vr_ x2, vr_ x3, vr_ x7, vr_ x8, vr_ x9] [] s))) := by rfl
set_option maxRecDepth 100000 in
theorem cb_J16_find_114 (x1 : Int32) (x2 x3 x7 x8 x9 : Option Nat) (s : σ) : cx_B ct_lc gi gr pi pr ai ar wi wr an nw na io dp ct_ft ct_sg 3 [] ct_J16_find ca jm 1000 (pj_at ct_J16_find 114) [none, some (vi_ x1), some (vr_ x2), some (vr_ x3), none, none, none, some (vr_ x7), some (vr_ x8), some (vr_ x9), none] [] s =
  (cx_bI cx_th (ca 8 [vr_ x3, vr_ x2, vr_ x7] s) fun v2 s1 =>
  (if v2 = 0 then
    jm 144 [vi_ x1, vr_ x2, vr_ x3, vr_ x8, vr_ x9] [] s1
  else
    (if v2 < 0 then
      (if x8 = none then
        some (.inl (some (vr_ none)), s1)
      else
        jm 3 [vi_ x1, vr_ x2, vr_ x3, vr_ x8] [] s1)
    else
      (if x9 = none then
        some (.inl (some (vr_ none)), s1)
      else
        jm 3 [vi_ x1, vr_ x2, vr_ x3, vr_ x9] [] s1)))) := by rfl
set_option maxRecDepth 100000 in
theorem cb_J16_find_144 (x1 : Int32) (x2 x3 x8 x9 : Option Nat) (s : σ) : cx_B ct_lc gi gr pi pr ai ar wi wr an nw na io dp ct_ft ct_sg 3 [] ct_J16_find ca jm 1000 (pj_at ct_J16_find 144) [none, some (vi_ x1), some (vr_ x2), some (vr_ x3), none, none, none, none, some (vr_ x8), some (vr_ x9), none] [] s =
  ((dp 67 x9 s).bind fun m1 =>
  (cx_bR cx_th (ca m1 [vr_ x9, vi_ x1, vr_ x2, vr_ x3] s) fun v3 s2 =>
  (if v3 = none then
    (if x8 = none then
      some (.inl (some (vr_ none)), s2)
    else
      jm 3 [vi_ x1, vr_ x2, vr_ x3, vr_ x8] [] s2)
  else
    some (.inl (some (vr_ v3)), s2)))) := by rfl
set_option maxRecDepth 100000 in
theorem cb_J16_init (x1 : Int32) (x2 x3 x4 : Option Nat) (x0 : Nat) (s : σ) : cx_B ct_lc gi gr pi pr ai ar wi wr an nw na io dp ct_ft ct_sg 0 [] ct_J16_init ca jm 1000 ct_J16_init [some (vr_ (some x0)), some (vi_ x1), some (vr_ x2), some (vr_ x3), some (vr_ x4)] [] s =
  (cx_bV cx_th (ca 57 [vr_ (some x0), vi_ x1, vr_ x2, vr_ x3, vr_ x4] s) fun s1 =>
  some (.inl none, s1)) := by rfl
set_option maxRecDepth 100000 in
theorem cb_J16_getTreeNode (x1 : Int32) (x2 : Option Nat) (x0 : Nat) (s : σ) : cx_B ct_lc gi gr pi pr ai ar wi wr an nw na io dp ct_ft ct_sg 3 [] ct_J16_getTreeNode ca jm 1000 ct_J16_getTreeNode [some (vr_ (some x0)), some (vi_ x1), some (vr_ x2)] [] s =
  ((gr 15 (some x0) s).bind fun v1 =>
  (if v1 = none then
    ((dp 67 (some x0) s).bind fun m2 =>
    (cx_bR cx_th (ca m2 [vr_ (some x0), vi_ x1, vr_ x2, vr_ none] s) fun v4 s3 =>
    some (.inl (some (vr_ v4)), s3)))
  else
    ((dp 66 (some x0) s).bind fun m5 =>
    (cx_bR cx_th (ca m5 [vr_ (some x0)] s) fun v7 s6 =>
    ((dp 67 v7 s6).bind fun m8 =>
    (cx_bR cx_th (ca m8 [vr_ v7, vi_ x1, vr_ x2, vr_ none] s6) fun v10 s9 =>
    some (.inl (some (vr_ v10)), s9))))))) := by rfl
set_option maxRecDepth 100000 in
theorem cb_J17_init (x0 : Nat) (s : σ) : cx_B ct_lc gi gr pi pr ai ar wi wr an nw na io dp ct_ft ct_sg 0 [] ct_J17_init ca jm 1000 ct_J17_init [some (vr_ (some x0))] [] s =
  (cx_bV cx_th (ca 151 [vr_ (some x0)] s) fun s1 =>
  some (.inl none, s1)) := by rfl
set_option maxRecDepth 100000 in
theorem cb_J18_init (x0 : Nat) (s : σ) : cx_B ct_lc gi gr pi pr ai ar wi wr an nw na io dp ct_ft ct_sg 0 [] ct_J18_init ca jm 1000 ct_J18_init [some (vr_ (some x0))] [] s =
  (cx_bV cx_th (ca 70 [vr_ (some x0)] s) fun s1 =>
  ((pi 20 (some x0) 0 s1).bind fun s2 =>
  some (.inl none, s2))) := by rfl
set_option maxRecDepth 100000 in
theorem cb_J19_init (x0 : Nat) (s : σ) : cx_B ct_lc gi gr pi pr ai ar wi wr an nw na io dp ct_ft ct_sg 0 [] ct_J19_init ca jm 1000 ct_J19_init [some (vr_ (some x0))] [] s =
  (cx_bV cx_th (ca 71 [vr_ (some x0)] s) fun s1 =>
  ((pr 21 (some x0) (some 1005) s1).bind fun s2 =>
  some (.inl none, s2))) := by rfl
set_option maxRecDepth 100000 in
theorem cb_J19_add (x1 : Option Nat) (x0 : Nat) (s : σ) : cx_B ct_lc gi gr pi pr ai ar wi wr an nw na io dp ct_ft ct_sg 4 [] ct_J19_add ca jm 1000 ct_J19_add [some (vr_ (some x0)), some (vr_ x1)] [] s =
  ((gi 20 (some x0) s).bind fun v1 =>
  ((pi 20 (some x0) (v1 + 1) s).bind fun s2 =>
  ((gr 21 (some x0) s2).bind fun v3 =>
  ((gi 22 (some x0) s2).bind fun v4 =>
  ((dp 74 (some x0) s2).bind fun m5 =>
  (cx_bV cx_th (ca m5 [vr_ (some x0), vr_ x1, vr_ v3, vi_ v4] s2) fun s6 =>
  some (.inl (some (vi_ 1)), s6))))))) := by rfl
set_option maxRecDepth 100000 in
theorem cb_J19_add_2 (x3 : Int32) (x1 x2 : Option Nat) (x0 : Nat) (s : σ) : cx_B ct_lc gi gr pi pr ai ar wi wr an nw na io dp ct_ft ct_sg 0 [] ct_J19_add_2 ca jm 1000 ct_J19_add_2 [some (vr_ (some x0)), some (vr_ x1), some (vr_ x2), some (vi_ x3)] [] s =
  ((an x2 s).bind fun v1 =>
  (if x3 = v1 then
    ((dp 75 (some x0) s).bind fun m2 =>
    (cx_bR cx_th (ca m2 [vr_ (some x0)] s) fun v4 s3 =>
    ((wr v4 x3 x1 s3).bind fun s5 =>
    ((pi 22 (some x0) (x3 + 1) s5).bind fun s6 =>
    some (.inl none, s6)))))
  else
    ((wr x2 x3 x1 s).bind fun s7 =>
    ((pi 22 (some x0) (x3 + 1) s7).bind fun s8 =>
    some (.inl none, s8))))) := by rfl
set_option maxRecDepth 100000 in
theorem cb_J19_grow (x0 : Nat) (s : σ) : cx_B ct_lc gi gr pi pr ai ar wi wr an nw na io dp ct_ft ct_sg 3 [] ct_J19_grow ca jm 1000 ct_J19_grow [some (vr_ (some x0))] [] s =
  ((gi 22 (some x0) s).bind fun v1 =>
  ((dp 76 (some x0) s).bind fun m2 =>
  (cx_bR cx_th (ca m2 [vr_ (some x0), vi_ (v1 + 1)] s) fun v4 s3 =>
  some (.inl (some (vr_ v4)), s3)))) := by rfl
set_option maxRecDepth 100000 in
theorem cb_J19_grow_2 (x1 : Int32) (x0 : Nat) (s : σ) : cx_B ct_lc gi gr pi pr ai ar wi wr an nw na io dp ct_ft ct_sg 3 [] ct_J19_grow_2 ca jm 1000 ct_J19_grow_2 [some (vr_ (some x0)), some (vi_ x1), none, none] [] s =
  ((gr 21 (some x0) s).bind fun v1 =>
  ((an v1 s).bind fun v2 =>
  (if 0 < v2 then
    jm 20 [vr_ (some x0), vi_ x1, vi_ v2] [] s
  else
    ((gr 21 (some x0) s).bind fun v3 =>
    (if v3 = (some 1005) then
      (cx_bI cx_th (ca 193 [vi_ 10, vi_ x1] s) fun v5 s4 =>
      ((na 210 v5 s4).bind fun q6 =>
      ((pr 21 (some x0) (some q6.1) q6.2).bind fun s7 =>
      some (.inl (some (vr_ (some q6.1))), s7))))
    else
      jm 20 [vr_ (some x0), vi_ x1, vi_ v2] [] s))))) := by rfl
set_option maxRecDepth 100000 in
theorem cb_J19_grow_2_20 (x1 x2 : Int32) (x0 : Nat) (s : σ) : cx_B ct_lc gi gr pi pr ai ar wi wr an nw na io dp ct_ft ct_sg 3 [] ct_J19_grow_2 ca jm 1000 (pj_at ct_J19_grow_2 20) [some (vr_ (some x0)), some (vi_ x1), some (vi_ x2), none] [] s =
  (cx_bI cx_th (ca 39 [vi_ x2, vi_ (x1 - x2), vi_ (x2 >>> (1 &&& 31))] s) fun v2 s1 =>
  ((gr 21 (some x0) s1).bind fun v3 =>
  (cx_bR cx_th (ca 187 [vr_ v3, vi_ v2] s1) fun v5 s4 =>
  ((pr 21 (some x0) v5 s4).bind fun s6 =>
  some (.inl (some (vr_ v5)), s6))))) := by rfl
set_option maxRecDepth 100000 in
theorem cb_J19_isEmpty (x0 : Nat) (s : σ) : cx_B ct_lc gi gr pi pr ai ar wi wr an nw na io dp ct_ft ct_sg 4 [] ct_J19_isEmpty ca jm 1000 ct_J19_isEmpty [some (vr_ (some x0))] [] s =
  ((gi 22 (some x0) s).bind fun v1 =>
  (if v1 = 0 then
    some (.inl (some (vi_ 1)), s)
  else
    some (.inl (some (vi_ 0)), s))) := by rfl
set_option maxRecDepth 100000 in
theorem cb_J19_size (x0 : Nat) (s : σ) : cx_B ct_lc gi gr pi pr ai ar wi wr an nw na io dp ct_ft ct_sg 1 [] ct_J19_size ca jm 1000 ct_J19_size [some (vr_ (some x0))] [] s =
  ((gi 22 (some x0) s).bind fun v1 =>
  some (.inl (some (vi_ v1)), s)) := by rfl
set_option maxRecDepth 100000 in
theorem cb_J19_get (x1 : Int32) (x0 : Nat) (s : σ) : cx_B ct_lc gi gr pi pr ai ar wi wr an nw na io dp ct_ft ct_sg 3 [] ct_J19_get ca jm 1000 ct_J19_get [some (vr_ (some x0)), some (vi_ x1)] [] s =
  ((gi 22 (some x0) s).bind fun v1 =>
  (cx_bI cx_th (ca 128 [vi_ x1, vi_ v1] s) fun v3 s2 =>
  ((dp 80 (some x0) s2).bind fun m4 =>
  (cx_bR cx_th (ca m4 [vr_ (some x0), vi_ x1] s2) fun v6 s5 =>
  some (.inl (some (vr_ v6)), s5))))) := by rfl
set_option maxRecDepth 100000 in
theorem cb_J19_elementData (x1 : Int32) (x0 : Nat) (s : σ) : cx_B ct_lc gi gr pi pr ai ar wi wr an nw na io dp ct_ft ct_sg 3 [] ct_J19_elementData ca jm 1000 ct_J19_elementData [some (vr_ (some x0)), some (vi_ x1)] [] s =
  ((gr 21 (some x0) s).bind fun v1 =>
  ((ar v1 x1 s).bind fun v2 =>
  some (.inl (some (vr_ v2)), s))) := by rfl
set_option maxRecDepth 100000 in
theorem cb_J19_remove (x1 : Int32) (x0 : Nat) (s : σ) : cx_B ct_lc gi gr pi pr ai ar wi wr an nw na io dp ct_ft ct_sg 3 [] ct_J19_remove ca jm 1000 ct_J19_remove [some (vr_ (some x0)), some (vi_ x1), none, none] [] s =
  ((gi 22 (some x0) s).bind fun v1 =>
  (cx_bI cx_th (ca 128 [vi_ x1, vi_ v1] s) fun v3 s2 =>
  ((gr 21 (some x0) s2).bind fun v4 =>
  ((ar v4 x1 s2).bind fun v5 =>
  ((dp 82 (some x0) s2).bind fun m6 =>
  (cx_bV cx_th (ca m6 [vr_ (some x0), vr_ v4, vi_ x1] s2) fun s7 =>
  some (.inl (some (vr_ v5)), s7))))))) := by rfl
set_option maxRecDepth 100000 in
theorem cb_J19_fastRemove (x2 : Int32) (x1 : Option Nat) (x0 : Nat) (s : σ) : cx_B ct_lc gi gr pi pr ai ar wi wr an nw na io dp ct_ft ct_sg 0 [] ct_J19_fastRemove ca jm 1000 ct_J19_fastRemove [some (vr_ (some x0)), some (vr_ x1), some (vi_ x2), none] [] s =
  ((gi 20 (some x0) s).bind fun v1 =>
  ((pi 20 (some x0) (v1 + 1) s).bind fun s2 =>
  ((gi 22 (some x0) s2).bind fun v3 =>
  (if x2 < (v3 - 1) then
    (cx_bV cx_th (ca 416 [vr_ x1, vi_ (x2 + 1), vr_ x1, vi_ x2, vi_ ((v3 - 1) - x2)] s2) fun s4 =>
    ((pi 22 (some x0) (v3 - 1) s4).bind fun s5 =>
    ((wr x1 (v3 - 1) none s5).bind fun s6 =>
    some (.inl none, s6))))
  else
    ((pi 22 (some x0) (v3 - 1) s2).bind fun s7 =>
    ((wr x1 (v3 - 1) none s7).bind fun s8 =>
    some (.inl none, s8))))))) := by rfl
set_option maxRecDepth 100000 in
theorem cb_J19_contains (x1 : Option Nat) (x0 : Nat) (s : σ) : cx_B ct_lc gi gr pi pr ai ar wi wr an nw na io dp ct_ft ct_sg 4 [] ct_J19_contains ca jm 1000 ct_J19_contains [some (vr_ (some x0)), some (vr_ x1)] [] s =
  ((dp 84 (some x0) s).bind fun m1 =>
  (cx_bI cx_th (ca m1 [vr_ (some x0), vr_ x1] s) fun v3 s2 =>
  (if v3 < 0 then
    some (.inl (some (vi_ 0)), s2)
  else
    some (.inl (some (vi_ 1)), s2)))) := by rfl
set_option maxRecDepth 100000 in
theorem cb_J19_indexOf (x1 : Option Nat) (x0 : Nat) (s : σ) : cx_B ct_lc gi gr pi pr ai ar wi wr an nw na io dp ct_ft ct_sg 1 [] ct_J19_indexOf ca jm 1000 ct_J19_indexOf [some (vr_ (some x0)), some (vr_ x1)] [] s =
  ((gi 22 (some x0) s).bind fun v1 =>
  ((dp 85 (some x0) s).bind fun m2 =>
  (cx_bI cx_th (ca m2 [vr_ (some x0), vr_ x1, vi_ 0, vi_ v1] s) fun v4 s3 =>
  some (.inl (some (vi_ v4)), s3)))) := by rfl
set_option maxRecDepth 100000 in
theorem cb_J19_indexOfRange (x2 x3 : Int32) (x1 : Option Nat) (x0 : Nat) (s : σ) : cx_B ct_lc gi gr pi pr ai ar wi wr an nw na io dp ct_ft ct_sg 1 [] ct_J19_indexOfRange ca jm 1000 ct_J19_indexOfRange [some (vr_ (some x0)), some (vr_ x1), some (vi_ x2), some (vi_ x3), none, none] [] s =
  ((gr 21 (some x0) s).bind fun v1 =>
  (if x1 = none then
    jm 13 [vi_ x3, vr_ v1, vi_ x2] [] s
  else
    jm 42 [vr_ x1, vi_ x3, vr_ v1, vi_ x2] [] s)) := by rfl
set_option maxRecDepth 100000 in
theorem cb_J19_indexOfRange_13 (x3 x5 : Int32) (x4 : Option Nat) (s : σ) : cx_B ct_lc gi gr pi pr ai ar wi wr an nw na io dp ct_ft ct_sg 1 [] ct_J19_indexOfRange ca jm 1000 (pj_at ct_J19_indexOfRange 13) [none, none, none, some (vi_ x3), some (vr_ x4), some (vi_ x5)] [] s =
  (if x5 < x3 then
    ((ar x4 x5 s).bind fun v1 =>
    (if v1 = none then
      some (.inl (some (vi_ x5)), s)
    else
      jm 13 [vi_ x3, vr_ x4, vi_ (x5 + 1)] [] s))
  else
    some (.inl (some (vi_ (-1))), s)) := by rfl
set_option maxRecDepth 100000 in
theorem cb_J19_indexOfRange_42 (x3 x5 : Int32) (x1 x4 : Option Nat) (s : σ) : cx_B ct_lc gi gr pi pr ai ar wi wr an nw na io dp ct_ft ct_sg 1 [] ct_J19_indexOfRange ca jm 1000 (pj_at ct_J19_indexOfRange 42) [none, some (vr_ x1), none, some (vi_ x3), some (vr_ x4), some (vi_ x5)] [] s =
  (if x5 < x3 then
    ((ar x4 x5 s).bind fun v1 =>
    ((dp 152 x1 s).bind fun m2 =>
    (cx_bI cx_th (ca m2 [vr_ x1, vr_ v1] s) fun v4 s3 =>
    (if v4 = 0 then
      jm 42 [vr_ x1, vi_ x3, vr_ x4, vi_ (x5 + 1)] [] s3
    else
      some (.inl (some (vi_ x5)), s3)))))
  else
    some (.inl (some (vi_ (-1))), s)) := by rfl
set_option maxRecDepth 100000 in
theorem cb_J2_length (x0 : Nat) (s : σ) : cx_B ct_lc gi gr pi pr ai ar wi wr an nw na io dp ct_ft ct_sg 1 [] ct_J2_length ca jm 1000 ct_J2_length [some (vr_ (some x0))] [] s =
  ((gr 23 (some x0) s).bind fun v1 =>
  ((an v1 s).bind fun v2 =>
  ((dp 87 (some x0) s).bind fun m3 =>
  (cx_bI cx_th (ca m3 [vr_ (some x0)] s) fun v5 s4 =>
  some (.inl (some (vi_ (v2 >>> (v5 &&& 31)))), s4))))) := by rfl
set_option maxRecDepth 100000 in
theorem cb_J2_coder (x0 : Nat) (s : σ) : cx_B ct_lc gi gr pi pr ai ar wi wr an nw na io dp ct_ft ct_sg 1 [] ct_J2_coder ca jm 1000 ct_J2_coder [some (vr_ (some x0))] [] s =
  ((gi 24 (some x0) s).bind fun v1 =>
  some (.inl (some (vi_ v1)), s)) := by rfl
set_option maxRecDepth 100000 in
theorem cb_J2_charAt (x1 : Int32) (x0 : Nat) (s : σ) : cx_B ct_lc gi gr pi pr ai ar wi wr an nw na io dp ct_ft ct_sg 5 [] ct_J2_charAt ca jm 1000 ct_J2_charAt [some (vr_ (some x0)), some (vi_ x1)] [] s =
  ((dp 89 (some x0) s).bind fun m1 =>
  (cx_bI cx_th (ca m1 [vr_ (some x0)] s) fun v3 s2 =>
  (if v3 = 0 then
    ((gr 23 (some x0) s2).bind fun v4 =>
    (cx_bI cx_th (ca 157 [vr_ v4, vi_ x1] s2) fun v6 s5 =>
    some (.inl (some (vi_ ((v6 : Int32).toUInt32 % 65536).toInt32)), s5)))
  else
    ((gr 23 (some x0) s2).bind fun v7 =>
    (cx_bI cx_th (ca 134 [vr_ v7, vi_ x1] s2) fun v9 s8 =>
    some (.inl (some (vi_ ((v9 : Int32).toUInt32 % 65536).toInt32)), s8)))))) := by rfl
set_option maxRecDepth 100000 in
theorem cb_J2_isLatin1 (x0 : Nat) (s : σ) : cx_B ct_lc gi gr pi pr ai ar wi wr an nw na io dp ct_ft ct_sg 4 [] ct_J2_isLatin1 ca jm 1000 ct_J2_isLatin1 [some (vr_ (some x0))] [] s =
  ((gi 24 (some x0) s).bind fun v1 =>
  (if v1 = 0 then
    some (.inl (some (vi_ 1)), s)
  else
    some (.inl (some (vi_ 0)), s))) := by rfl
set_option maxRecDepth 100000 in
theorem cb_J2_checkIndex (x0 x1 : Int32) (s : σ) : cx_B ct_lc gi gr pi pr ai ar wi wr an nw na io dp ct_ft ct_sg 0 [] ct_J2_checkIndex ca jm 1000 ct_J2_checkIndex [some (vi_ x0), some (vi_ x1)] [] s =
  (cx_bI cx_th (ca 154 [vi_ x0, vi_ x1, vr_ (some 1006)] s) fun v2 s1 =>
  some (.inl none, s1)) := by rfl
set_option maxRecDepth 100000 in
theorem cb_J2_substring (x1 x2 : Int32) (x0 : Nat) (s : σ) : cx_B ct_lc gi gr pi pr ai ar wi wr an nw na io dp ct_ft ct_sg 3 [] ct_J2_substring ca jm 1000 ct_J2_substring [some (vr_ (some x0)), some (vi_ x1), some (vi_ x2), none, none] [] s =
  ((dp 86 (some x0) s).bind fun m1 =>
  (cx_bI cx_th (ca m1 [vr_ (some x0)] s) fun v3 s2 =>
  (cx_bV cx_th (ca 92 [vi_ x1, vi_ x2, vi_ v3] s2) fun s4 =>
  (if x1 = 0 then
    (if x2 = v3 then
      some (.inl (some (vr_ (some x0))), s4)
    else
      jm 22 [vr_ (some x0), vi_ x1, vi_ x2] [] s4)
  else
    jm 22 [vr_ (some x0), vi_ x1, vi_ x2] [] s4)))) := by rfl
set_option maxRecDepth 100000 in
theorem cb_J2_substring_22 (x1 x2 : Int32) (x0 : Nat) (s : σ) : cx_B ct_lc gi gr pi pr ai ar wi wr an nw na io dp ct_ft ct_sg 3 [] ct_J2_substring ca jm 1000 (pj_at ct_J2_substring 22) [some (vr_ (some x0)), some (vi_ x1), some (vi_ x2), none, none] [] s =
  ((dp 89 (some x0) s).bind fun m1 =>
  (cx_bI cx_th (ca m1 [vr_ (some x0)] s) fun v3 s2 =>
  (if v3 = 0 then
    ((gr 23 (some x0) s2).bind fun v4 =>
    (cx_bR cx_th (ca 161 [vr_ v4, vi_ x1, vi_ (x2 - x1)] s2) fun v6 s5 =>
    some (.inl (some (vr_ v6)), s5)))
  else
    ((gr 23 (some x0) s2).bind fun v7 =>
    (cx_bR cx_th (ca 135 [vr_ v7, vi_ x1, vi_ (x2 - x1)] s2) fun v9 s8 =>
    some (.inl (some (vr_ v9)), s8)))))) := by rfl
set_option maxRecDepth 100000 in
theorem cb_J2_checkBoundsBeginEnd (x0 x1 x2 : Int32) (s : σ) : cx_B ct_lc gi gr pi pr ai ar wi wr an nw na io dp ct_ft ct_sg 0 [] ct_J2_checkBoundsBeginEnd ca jm 1000 ct_J2_checkBoundsBeginEnd [some (vi_ x0), some (vi_ x1), some (vi_ x2)] [] s =
  (cx_bI cx_th (ca 155 [vi_ x0, vi_ x1, vi_ x2, vr_ (some 1006)] s) fun v2 s1 =>
  some (.inl none, s1)) := by rfl
set_option maxRecDepth 100000 in
theorem cb_J2_init (x2 : Int32) (x1 : Option Nat) (x0 : Nat) (s : σ) : cx_B ct_lc gi gr pi pr ai ar wi wr an nw na io dp ct_ft ct_sg 0 [] ct_J2_init ca jm 1000 ct_J2_init [some (vr_ (some x0)), some (vr_ x1), some (vi_ x2)] [] s =
  (cx_bV cx_th (ca 151 [vr_ (some x0)] s) fun s1 =>
  ((pr 23 (some x0) x1 s1).bind fun s2 =>
  ((pi 24 (some x0) x2 s2).bind fun s3 =>
  some (.inl none, s3)))) := by rfl
set_option maxRecDepth 100000 in
theorem cb_J2_checkBoundsOffCount (x0 x1 x2 : Int32) (s : σ) : cx_B ct_lc gi gr pi pr ai ar wi wr an nw na io dp ct_ft ct_sg 1 [] ct_J2_checkBoundsOffCount ca jm 1000 ct_J2_checkBoundsOffCount [some (vi_ x0), some (vi_ x1), some (vi_ x2)] [] s =
  (cx_bI cx_th (ca 156 [vi_ x0, vi_ x1, vi_ x2, vr_ (some 1006)] s) fun v2 s1 =>
  some (.inl (some (vi_ v2)), s1)) := by rfl
set_option maxRecDepth 100000 in
theorem cb_J2_hashCode (x0 : Nat) (s : σ) : cx_B ct_lc gi gr pi pr ai ar wi wr an nw na io dp ct_ft ct_sg 1 [] ct_J2_hashCode ca jm 1000 ct_J2_hashCode [some (vr_ (some x0)), none] [] s =
  ((gi 25 (some x0) s).bind fun v1 =>
  (if v1 = 0 then
    ((gi 26 (some x0) s).bind fun v2 =>
    (if v2 = 0 then
      ((dp 89 (some x0) s).bind fun m3 =>
      (cx_bI cx_th (ca m3 [vr_ (some x0)] s) fun v5 s4 =>
      (if v5 = 0 then
        ((gr 23 (some x0) s4).bind fun v6 =>
        (cx_bI cx_th (ca 167 [vr_ v6] s4) fun v8 s7 =>
        (if v8 = 0 then
          ((pi 26 (some x0) 1 s7).bind fun s9 =>
          some (.inl (some (vi_ v8)), s9))
        else
          ((pi 25 (some x0) v8 s7).bind fun s10 =>
          some (.inl (some (vi_ v8)), s10)))))
      else
        ((gr 23 (some x0) s4).bind fun v11 =>
        (cx_bI cx_th (ca 136 [vr_ v11] s4) fun v13 s12 =>
        (if v13 = 0 then
          ((pi 26 (some x0) 1 s12).bind fun s14 =>
          some (.inl (some (vi_ v13)), s14))
        else
          ((pi 25 (some x0) v13 s12).bind fun s15 =>
          some (.inl (some (vi_ v13)), s15))))))))
    else
      some (.inl (some (vi_ v1)), s)))
  else
    some (.inl (some (vi_ v1)), s))) := by rfl
set_option maxRecDepth 100000 in
theorem cb_J2_compareTo (x1 : Option Nat) (x0 : Nat) (s : σ) : cx_B ct_lc gi gr pi pr ai ar wi wr an nw na io dp ct_ft ct_sg 1 [] ct_J2_compareTo ca jm 1000 ct_J2_compareTo [some (vr_ (some x0)), some (vr_ x1)] [] s =
  ((cx_cst io 26 x1 s).bind fun _ =>
  ((dp 97 (some x0) s).bind fun m1 =>
  (cx_bI cx_th (ca m1 [vr_ (some x0), vr_ x1] s) fun v3 s2 =>
  some (.inl (some (vi_ v3)), s2)))) := by rfl
set_option maxRecDepth 100000 in
theorem cb_J2_compareTo_2 (x1 : Option Nat) (x0 : Nat) (s : σ) : cx_B ct_lc gi gr pi pr ai ar wi wr an nw na io dp ct_ft ct_sg 1 [] ct_J2_compareTo_2 ca jm 1000 ct_J2_compareTo_2 [some (vr_ (some x0)), some (vr_ x1), none, none, none] [] s =
  ((gr 23 (some x0) s).bind fun v1 =>
  ((gr 23 x1 s).bind fun v2 =>
  ((dp 87 (some x0) s).bind fun m3 =>
  (cx_bI cx_th (ca m3 [vr_ (some x0)] s) fun v5 s4 =>
  ((dp 87 x1 s4).bind fun m6 =>
  (cx_bI cx_th (ca m6 [vr_ x1] s4) fun v8 s7 =>
  (if v5 = v8 then
    (if v5 = 0 then
      (cx_bI cx_th (ca 137 [vr_ v1, vr_ v2] s7) fun v10 s9 =>
      some (.inl (some (vi_ v10)), s9))
    else
      (cx_bI cx_th (ca 168 [vr_ v1, vr_ v2] s7) fun v12 s11 =>
      some (.inl (some (vi_ v12)), s11)))
  else
    (if v5 = 0 then
      (cx_bI cx_th (ca 140 [vr_ v1, vr_ v2] s7) fun v14 s13 =>
      some (.inl (some (vi_ v14)), s13))
    else
      (cx_bI cx_th (ca 170 [vr_ v1, vr_ v2] s7) fun v16 s15 =>
      some (.inl (some (vi_ v16)), s15)))))))))) := by rfl
set_option maxRecDepth 100000 in
theorem cb_J2_checkOffset (x0 x1 : Int32) (s : σ) : cx_B ct_lc gi gr pi pr ai ar wi wr an nw na io dp ct_ft ct_sg 0 [] ct_J2_checkOffset ca jm 1000 ct_J2_checkOffset [some (vi_ x0), some (vi_ x1)] [] s =
  (cx_bI cx_th (ca 155 [vi_ x0, vi_ x1, vi_ x1, vr_ (some 1006)] s) fun v2 s1 =>
  some (.inl none, s1)) := by rfl
set_option maxRecDepth 100000 in
theorem cb_J2_equals (x1 : Option Nat) (x0 : Nat) (s : σ) : cx_B ct_lc gi gr pi pr ai ar wi wr an nw na io dp ct_ft ct_sg 4 [] ct_J2_equals ca jm 1000 ct_J2_equals [some (vr_ (some x0)), some (vr_ x1), none] [] s =
  (if (some x0) = x1 then
    some (.inl (some (vi_ 1)), s)
  else
    ((io 26 x1 s).bind fun b1 =>
    (if (cx_ib b1 (1 : Int32) 0) = 0 then
      some (.inl (some (vi_ 0)), s)
    else
      ((cx_cst io 26 x1 s).bind fun _ =>
      ((gi 24 (some x0) s).bind fun v2 =>
      ((gi 24 x1 s).bind fun v3 =>
      (if v2 = v3 then
        ((gr 23 (some x0) s).bind fun v4 =>
        ((gr 23 x1 s).bind fun v5 =>
        (cx_bI cx_th (ca 144 [vr_ v4, vr_ v5] s) fun v7 s6 =>
        (if v7 = 0 then
          some (.inl (some (vi_ 0)), s6)
        else
          some (.inl (some (vi_ 1)), s6)))))
      else
        some (.inl (some (vi_ 0)), s)))))))) := by rfl
set_option maxRecDepth 100000 in
theorem cb_J2_init_2 (x1 : Option Nat) (x0 : Nat) (s : σ) : cx_B ct_lc gi gr pi pr ai ar wi wr an nw na io dp ct_ft ct_sg 0 [] ct_J2_init_2 ca jm 1000 ct_J2_init_2 [some (vr_ (some x0)), some (vr_ x1)] [] s =
  (cx_bV cx_th (ca 101 [vr_ (some x0), vr_ x1, vr_ none] s) fun s1 =>
  some (.inl none, s1)) := by rfl
set_option maxRecDepth 100000 in
theorem cb_J2_init_3 (x1 x2 : Option Nat) (x0 : Nat) (s : σ) : cx_B ct_lc gi gr pi pr ai ar wi wr an nw na io dp ct_ft ct_sg 0 [] ct_J2_init_3 ca jm 1000 ct_J2_init_3 [some (vr_ (some x0)), some (vr_ x1), some (vr_ x2), none, none] [] s =
  (cx_bV cx_th (ca 151 [vr_ (some x0)] s) fun s1 =>
  ((dp 114 x1 s1).bind fun m2 =>
  (cx_bR cx_th (ca m2 [vr_ x1] s1) fun v4 s3 =>
  ((dp 113 x1 s3).bind fun m5 =>
  (cx_bI cx_th (ca m5 [vr_ x1] s3) fun v7 s6 =>
  ((dp 106 x1 s6).bind fun m8 =>
  (cx_bI cx_th (ca m8 [vr_ x1] s6) fun v10 s9 =>
  (if v10 = 0 then
    ((gi 29 x1 s9).bind fun v11 =>
    (if v11 = 0 then
      ((pi 24 (some x0) 1 s9).bind fun s12 =>
      (cx_bR cx_th (ca 184 [vr_ v4, vi_ 0, vi_ (v7 <<< (1 &&& 31))] s12) fun v14 s13 =>
      ((pr 23 (some x0) v14 s13).bind fun s15 =>
      some (.inl none, s15))))
    else
      (cx_bR cx_th (ca 162 [vr_ v4, vi_ 0, vi_ v7] s9) fun v17 s16 =>
      ((pr 23 (some x0) v17 s16).bind fun s18 =>
      ((gr 23 (some x0) s18).bind fun v19 =>
      (cx_bI cx_th (ca 166 [vr_ v19, vi_ v7] s18) fun v21 s20 =>
      ((pi 24 (some x0) v21 s20).bind fun s22 =>
      some (.inl none, s22))))))))
  else
    ((pi 24 (some x0) 0 s9).bind fun s23 =>
    (cx_bR cx_th (ca 184 [vr_ v4, vi_ 0, vi_ v7] s23) fun v25 s24 =>
    ((pr 23 (some x0) v25 s24).bind fun s26 =>
    some (.inl none, s26)))))))))))) := by rfl
set_option maxRecDepth 100000 in
theorem cb_J2_indexOf (x1 : Int32) (x0 : Nat) (s : σ) : cx_B ct_lc gi gr pi pr ai ar wi wr an nw na io dp ct_ft ct_sg 1 [] ct_J2_indexOf ca jm 1000 ct_J2_indexOf [some (vr_ (some x0)), some (vi_ x1)] [] s =
  ((dp 103 (some x0) s).bind fun m1 =>
  (cx_bI cx_th (ca m1 [vr_ (some x0), vi_ x1, vi_ 0] s) fun v3 s2 =>
  some (.inl (some (vi_ v3)), s2))) := by rfl
set_option maxRecDepth 100000 in
theorem cb_J2_indexOf_2 (x1 x2 : Int32) (x0 : Nat) (s : σ) : cx_B ct_lc gi gr pi pr ai ar wi wr an nw na io dp ct_ft ct_sg 1 [] ct_J2_indexOf_2 ca jm 1000 ct_J2_indexOf_2 [some (vr_ (some x0)), some (vi_ x1), some (vi_ x2)] [] s =
  ((dp 89 (some x0) s).bind fun m1 =>
  (cx_bI cx_th (ca m1 [vr_ (some x0)] s) fun v3 s2 =>
  (if v3 = 0 then
    ((gr 23 (some x0) s2).bind fun v4 =>
    ((dp 86 (some x0) s2).bind fun m5 =>
    (cx_bI cx_th (ca m5 [vr_ (some x0)] s2) fun v7 s6 =>
    (cx_bI cx_th (ca 179 [vr_ v4, vi_ x1, vi_ x2, vi_ v7] s6) fun v9 s8 =>
    some (.inl (some (vi_ v9)), s8)))))
  else
    ((gr 23 (some x0) s2).bind fun v10 =>
    ((dp 86 (some x0) s2).bind fun m11 =>
    (cx_bI cx_th (ca m11 [vr_ (some x0)] s2) fun v13 s12 =>
    (cx_bI cx_th (ca 148 [vr_ v10, vi_ x1, vi_ x2, vi_ v13] s12) fun v15 s14 =>
    some (.inl (some (vi_ v15)), s14)))))))) := by rfl
set_option maxRecDepth 100000 in
theorem cb_J2_isEmpty (x0 : Nat) (s : σ) : cx_B ct_lc gi gr pi pr ai ar wi wr an nw na io dp ct_ft ct_sg 4 [] ct_J2_isEmpty ca jm 1000 ct_J2_isEmpty [some (vr_ (some x0))] [] s =
  ((gr 23 (some x0) s).bind fun v1 =>
  ((an v1 s).bind fun v2 =>
  (if v2 = 0 then
    some (.inl (some (vi_ 1)), s)
  else
    some (.inl (some (vi_ 0)), s)))) := by rfl
set_option maxRecDepth 100000 in
theorem cb_J20_compareTo (x1 : Option Nat) (x0 : Nat) (s : σ) : cx_B ct_lc gi gr pi pr ai ar wi wr an nw na io dp ct_ft ct_sg 1 [] ct_J20_compareTo ca jm 1000 ct_J20_compareTo [some (vr_ (some x0)), some (vr_ x1), none, none, none, none] [] s =
  (if (some x0) = x1 then
    some (.inl (some (vi_ 0)), s)
  else
    ((gr 27 (some x0) s).bind fun v1 =>
    ((gr 27 x1 s).bind fun v2 =>
    ((gi 30 (some x0) s).bind fun v3 =>
    ((gi 30 x1 s).bind fun v4 =>
    ((gi 28 (some x0) s).bind fun v5 =>
    ((gi 28 x1 s).bind fun v6 =>
    (if v5 = v6 then
      ((dp 106 (some x0) s).bind fun m7 =>
      (cx_bI cx_th (ca m7 [vr_ (some x0)] s) fun v9 s8 =>
      (if v9 = 0 then
        (cx_bI cx_th (ca 171 [vr_ v1, vr_ v2, vi_ v3, vi_ v4] s8) fun v11 s10 =>
        some (.inl (some (vi_ v11)), s10))
      else
        (cx_bI cx_th (ca 138 [vr_ v1, vr_ v2, vi_ v3, vi_ v4] s8) fun v13 s12 =>
        some (.inl (some (vi_ v13)), s12)))))
    else
      ((dp 106 (some x0) s).bind fun m14 =>
      (cx_bI cx_th (ca m14 [vr_ (some x0)] s) fun v16 s15 =>
      (if v16 = 0 then
        (cx_bI cx_th (ca 173 [vr_ v1, vr_ v2, vi_ v3, vi_ v4] s15) fun v18 s17 =>
        some (.inl (some (vi_ v18)), s17))
      else
        (cx_bI cx_th (ca 143 [vr_ v1, vr_ v2, vi_ v3, vi_ v4] s15) fun v20 s19 =>
        some (.inl (some (vi_ v20)), s19))))))))))))) := by rfl
set_option maxRecDepth 100000 in
theorem cb_J20_isLatin1 (x0 : Nat) (s : σ) : cx_B ct_lc gi gr pi pr ai ar wi wr an nw na io dp ct_ft ct_sg 4 [] ct_J20_isLatin1 ca jm 1000 ct_J20_isLatin1 [some (vr_ (some x0))] [] s =
  ((gi 28 (some x0) s).bind fun v1 =>
  (if v1 = 0 then
    some (.inl (some (vi_ 1)), s)
  else
    some (.inl (some (vi_ 0)), s))) := by rfl
set_option maxRecDepth 100000 in
theorem cb_J20_init (x1 : Int32) (x0 : Nat) (s : σ) : cx_B ct_lc gi gr pi pr ai ar wi wr an nw na io dp ct_ft ct_sg 0 [] ct_J20_init ca jm 1000 ct_J20_init [some (vr_ (some x0)), some (vi_ x1)] [] s =
  (cx_bV cx_th (ca 151 [vr_ (some x0)] s) fun s1 =>
  ((na 201 x1 s1).bind fun q2 =>
  ((pr 27 (some x0) (some q2.1) q2.2).bind fun s3 =>
  ((pi 28 (some x0) 0 s3).bind fun s4 =>
  some (.inl none, s4))))) := by rfl
set_option maxRecDepth 100000 in
theorem cb_J20_setLength (x1 : Int32) (x0 : Nat) (s : σ) : cx_B ct_lc gi gr pi pr ai ar wi wr an nw na io dp ct_ft ct_sg 0 [] ct_J20_setLength ca jm 1000 ct_J20_setLength [some (vr_ (some x0)), some (vi_ x1)] [] s =
  (if x1 < 0 then
    none
  else
    ((dp 109 (some x0) s).bind fun m1 =>
    (cx_bV cx_th (ca m1 [vr_ (some x0), vi_ x1] s) fun s2 =>
    ((gi 30 (some x0) s2).bind fun v3 =>
    (if v3 < x1 then
      ((dp 106 (some x0) s2).bind fun m4 =>
      (cx_bI cx_th (ca m4 [vr_ (some x0)] s2) fun v6 s5 =>
      (if v6 = 0 then
        ((gr 27 (some x0) s5).bind fun v7 =>
        ((gi 30 (some x0) s5).bind fun v8 =>
        (cx_bV cx_th (ca 175 [vr_ v7, vi_ v8, vi_ x1] s5) fun s9 =>
        ((pi 30 (some x0) x1 s9).bind fun s10 =>
        some (.inl none, s10)))))
      else
        ((gr 27 (some x0) s5).bind fun v11 =>
        ((gi 30 (some x0) s5).bind fun v12 =>
        (cx_bV cx_th (ca 145 [vr_ v11, vi_ v12, vi_ x1] s5) fun s13 =>
        ((pi 30 (some x0) x1 s13).bind fun s14 =>
        some (.inl none, s14))))))))
    else
      ((gi 30 (some x0) s2).bind fun v15 =>
      (if x1 < v15 then
        ((pi 29 (some x0) 1 s2).bind fun s16 =>
        ((pi 30 (some x0) x1 s16).bind fun s17 =>
        some (.inl none, s17)))
      else
        ((pi 30 (some x0) x1 s2).bind fun s18 =>
        some (.inl none, s18))))))))) := by rfl
set_option maxRecDepth 100000 in
theorem cb_J20_ensureCapacityInternal (x1 : Int32) (x0 : Nat) (s : σ) : cx_B ct_lc gi gr pi pr ai ar wi wr an nw na io dp ct_ft ct_sg 0 [] ct_J20_ensureCapacityInternal ca jm 1000 ct_J20_ensureCapacityInternal [some (vr_ (some x0)), some (vi_ x1), none] [] s =
  ((gr 27 (some x0) s).bind fun v1 =>
  ((an v1 s).bind fun v2 =>
  ((gi 28 (some x0) s).bind fun v3 =>
  (if 0 < (x1 - (v2 >>> (v3 &&& 31))) then
    ((gr 27 (some x0) s).bind fun v4 =>
    ((dp 110 (some x0) s).bind fun m5 =>
    (cx_bI cx_th (ca m5 [vr_ (some x0), vi_ x1] s) fun v7 s6 =>
    ((gi 28 (some x0) s6).bind fun v8 =>
    (cx_bR cx_th (ca 189 [vr_ v4, vi_ (v7 <<< (v8 &&& 31))] s6) fun v10 s9 =>
    ((pr 27 (some x0) v10 s9).bind fun s11 =>
    some (.inl none, s11)))))))
  else
    some (.inl none, s))))) := by rfl
set_option maxRecDepth 100000 in
theorem cb_J20_newCapacity (x1 : Int32) (x0 : Nat) (s : σ) : cx_B ct_lc gi gr pi pr ai ar wi wr an nw na io dp ct_ft ct_sg 1 [] ct_J20_newCapacity ca jm 1000 ct_J20_newCapacity [some (vr_ (some x0)), some (vi_ x1), none, none, none, none] [] s =
  ((gr 27 (some x0) s).bind fun v1 =>
  ((an v1 s).bind fun v2 =>
  ((gi 28 (some x0) s).bind fun v3 =>
  ((gi 28 (some x0) s).bind fun v4 =>
  (cx_bI cx_th (ca 39 [vi_ v2, vi_ ((x1 <<< (v3 &&& 31)) - v2), vi_ (v2 + (2 <<< (v4 &&& 31)))] s) fun v6 s5 =>
  (if v6 = 2147483647 then
    none
  else
    ((gi 28 (some x0) s5).bind fun v7 =>
    some (.inl (some (vi_ (v6 >>> (v7 &&& 31)))), s5)))))))) := by rfl
set_option maxRecDepth 100000 in
theorem cb_J20_append (x1 : Int32) (x0 : Nat) (s : σ) : cx_B ct_lc gi gr pi pr ai ar wi wr an nw na io dp ct_ft ct_sg 3 [] ct_J20_append ca jm 1000 ct_J20_append [some (vr_ (some x0)), some (vi_ x1)] [] s =
  ((gi 30 (some x0) s).bind fun v1 =>
  ((dp 109 (some x0) s).bind fun m2 =>
  (cx_bV cx_th (ca m2 [vr_ (some x0), vi_ (v1 + 1)] s) fun s3 =>
  ((dp 106 (some x0) s3).bind fun m4 =>
  (cx_bI cx_th (ca m4 [vr_ (some x0)] s3) fun v6 s5 =>
  (if v6 = 0 then
    jm 45 [vr_ (some x0), vi_ x1] [] s5
  else
    (cx_bI cx_th (ca 146 [vi_ x1] s5) fun v8 s7 =>
    (if v8 = 0 then
      jm 45 [vr_ (some x0), vi_ x1] [] s7
    else
      ((gr 27 (some x0) s7).bind fun v9 =>
      ((gi 30 (some x0) s7).bind fun v10 =>
      ((pi 30 (some x0) (v10 + 1) s7).bind fun s11 =>
      ((wi 1 v9 v10 (x1 : Int32).toInt8.toInt32 s11).bind fun s12 =>
      some (.inl (some (vr_ (some x0))), s12))))))))))))) := by rfl
set_option maxRecDepth 100000 in
theorem cb_J20_append_45 (x1 : Int32) (x0 : Nat) (s : σ) : cx_B ct_lc gi gr pi pr ai ar wi wr an nw na io dp ct_ft ct_sg 3 [] ct_J20_append ca jm 1000 (pj_at ct_J20_append 45) [some (vr_ (some x0)), some (vi_ x1)] [] s =
  ((dp 106 (some x0) s).bind fun m1 =>
  (cx_bI cx_th (ca m1 [vr_ (some x0)] s) fun v3 s2 =>
  (if v3 = 0 then
    ((gr 27 (some x0) s2).bind fun v4 =>
    ((gi 30 (some x0) s2).bind fun v5 =>
    ((pi 30 (some x0) (v5 + 1) s2).bind fun s6 =>
    (cx_bV cx_th (ca 178 [vr_ v4, vi_ v5, vi_ x1] s6) fun s7 =>
    some (.inl (some (vr_ (some x0))), s7)))))
  else
    ((dp 112 (some x0) s2).bind fun m8 =>
    (cx_bV cx_th (ca m8 [vr_ (some x0)] s2) fun s9 =>
    ((gr 27 (some x0) s9).bind fun v10 =>
    ((gi 30 (some x0) s9).bind fun v11 =>
    ((pi 30 (some x0) (v11 + 1) s9).bind fun s12 =>
    (cx_bV cx_th (ca 178 [vr_ v10, vi_ v11, vi_ x1] s12) fun s13 =>
    some (.inl (some (vr_ (some x0))), s13)))))))))) := by rfl
set_option maxRecDepth 100000 in
theorem cb_J20_inflate (x0 : Nat) (s : σ) : cx_B ct_lc gi gr pi pr ai ar wi wr an nw na io dp ct_ft ct_sg 0 [] ct_J20_inflate ca jm 1000 ct_J20_inflate [some (vr_ (some x0)), none] [] s =
  ((dp 106 (some x0) s).bind fun m1 =>
  (cx_bI cx_th (ca m1 [vr_ (some x0)] s) fun v3 s2 =>
  (if v3 = 0 then
    some (.inl none, s2)
  else
    ((gr 27 (some x0) s2).bind fun v4 =>
    ((an v4 s2).bind fun v5 =>
    (cx_bR cx_th (ca 174 [vi_ v5] s2) fun v7 s6 =>
    ((gr 27 (some x0) s6).bind fun v8 =>
    ((gi 30 (some x0) s6).bind fun v9 =>
    (cx_bV cx_th (ca 147 [vr_ v8, vi_ 0, vr_ v7, vi_ 0, vi_ v9] s6) fun s10 =>
    ((pr 27 (some x0) v7 s10).bind fun s11 =>
    ((pi 28 (some x0) 1 s11).bind fun s12 =>
    some (.inl none, s12)))))))))))) := by rfl
set_option maxRecDepth 100000 in
theorem cb_J20_length (x0 : Nat) (s : σ) : cx_B ct_lc gi gr pi pr ai ar wi wr an nw na io dp ct_ft ct_sg 1 [] ct_J20_length ca jm 1000 ct_J20_length [some (vr_ (some x0))] [] s =
  ((gi 30 (some x0) s).bind fun v1 =>
  some (.inl (some (vi_ v1)), s)) := by rfl
set_option maxRecDepth 100000 in
theorem cb_J20_getValue (x0 : Nat) (s : σ) : cx_B ct_lc gi gr pi pr ai ar wi wr an nw na io dp ct_ft ct_sg 3 [] ct_J20_getValue ca jm 1000 ct_J20_getValue [some (vr_ (some x0))] [] s =
  ((gr 27 (some x0) s).bind fun v1 =>
  some (.inl (some (vr_ v1)), s)) := by rfl
set_option maxRecDepth 100000 in
theorem cb_J21_compareTo (x1 : Option Nat) (x0 : Nat) (s : σ) : cx_B ct_lc gi gr pi pr ai ar wi wr an nw na io dp ct_ft ct_sg 1 [] ct_J21_compareTo ca jm 1000 ct_J21_compareTo [some (vr_ (some x0)), some (vr_ x1)] [] s =
  ((cx_cst io 27 x1 s).bind fun _ =>
  ((dp 116 (some x0) s).bind fun m1 =>
  (cx_bI cx_th (ca m1 [vr_ (some x0), vr_ x1] s) fun v3 s2 =>
  some (.inl (some (vi_ v3)), s2)))) := by rfl
set_option maxRecDepth 100000 in
theorem cb_J21_compareTo_2 (x1 : Option Nat) (x0 : Nat) (s : σ) : cx_B ct_lc gi gr pi pr ai ar wi wr an nw na io dp ct_ft ct_sg 1 [] ct_J21_compareTo_2 ca jm 1000 ct_J21_compareTo_2 [some (vr_ (some x0)), some (vr_ x1)] [] s =
  (cx_bI cx_th (ca 105 [vr_ (some x0), vr_ x1] s) fun v2 s1 =>
  some (.inl (some (vi_ v2)), s1)) := by rfl
set_option maxRecDepth 100000 in
theorem cb_J21_init (x0 : Nat) (s : σ) : cx_B ct_lc gi gr pi pr ai ar wi wr an nw na io dp ct_ft ct_sg 0 [] ct_J21_init ca jm 1000 ct_J21_init [some (vr_ (some x0))] [] s =
  (cx_bV cx_th (ca 107 [vr_ (some x0), vi_ 16] s) fun s1 =>
  some (.inl none, s1)) := by rfl
set_option maxRecDepth 100000 in
theorem cb_J21_setLength (x1 : Int32) (x0 : Nat) (s : σ) : cx_B ct_lc gi gr pi pr ai ar wi wr an nw na io dp ct_ft ct_sg 0 [] ct_J21_setLength ca jm 1000 ct_J21_setLength [some (vr_ (some x0)), some (vi_ x1)] [] s =
  (cx_bV cx_th (ca 108 [vr_ (some x0), vi_ x1] s) fun s1 =>
  some (.inl none, s1)) := by rfl
set_option maxRecDepth 100000 in
theorem cb_J21_append (x1 : Int32) (x0 : Nat) (s : σ) : cx_B ct_lc gi gr pi pr ai ar wi wr an nw na io dp ct_ft ct_sg 3 [] ct_J21_append ca jm 1000 ct_J21_append [some (vr_ (some x0)), some (vi_ x1)] [] s =
  (cx_bR cx_th (ca 111 [vr_ (some x0), vi_ x1] s) fun v2 s1 =>
  some (.inl (some (vr_ (some x0))), s1)) := by rfl
set_option maxRecDepth 100000 in
theorem cb_J21_length (x0 : Nat) (s : σ) : cx_B ct_lc gi gr pi pr ai ar wi wr an nw na io dp ct_ft ct_sg 1 [] ct_J21_length ca jm 1000 ct_J21_length [some (vr_ (some x0))] [] s =
  (cx_bI cx_th (ca 113 [vr_ (some x0)] s) fun v2 s1 =>
  some (.inl (some (vi_ v2)), s1)) := by rfl
set_option maxRecDepth 100000 in
theorem cb_J21_toString (x0 : Nat) (s : σ) : cx_B ct_lc gi gr pi pr ai ar wi wr an nw na io dp ct_ft ct_sg 3 [] ct_J21_toString ca jm 1000 ct_J21_toString [some (vr_ (some x0))] [] s =
  (cx_bV cx_th (ca 100 [vr_ (some (nw 26 s).1), vr_ (some x0)] (nw 26 s).2) fun s1 =>
  some (.inl (some (vr_ (some (nw 26 s).1))), s1)) := by rfl
set_option maxRecDepth 100000 in
theorem cb_J22_init (x0 : Nat) (s : σ) : cx_B ct_lc gi gr pi pr ai ar wi wr an nw na io dp ct_ft ct_sg 0 [] ct_J22_init ca jm 1000 ct_J22_init [some (vr_ (some x0))] [] s =
  (cx_bV cx_th (ca 151 [vr_ (some x0)] s) fun s1 =>
  ((pr 31 (some x0) (some x0) s1).bind fun s2 =>
  ((pr 32 (some x0) (some 1007) s2).bind fun s3 =>
  ((pr 33 (some x0) (some 1008) s3).bind fun s4 =>
  ((dp 417 (some x0) s4).bind fun m5 =>
  (cx_bR cx_th (ca m5 [vr_ (some x0)] s4) fun v7 s6 =>
  some (.inl none, s6))))))) := by rfl
set_option maxRecDepth 100000 in
theorem cb_J23_init (x0 : Nat) (s : σ) : cx_B ct_lc gi gr pi pr ai ar wi wr an nw na io dp ct_ft ct_sg 0 [] ct_J23_init ca jm 1000 ct_J23_init [some (vr_ (some x0))] [] s =
  (cx_bV cx_th (ca 122 [vr_ (some x0)] s) fun s1 =>
  some (.inl none, s1)) := by rfl
set_option maxRecDepth 100000 in
theorem cb_J24_init (x0 : Nat) (s : σ) : cx_B ct_lc gi gr pi pr ai ar wi wr an nw na io dp ct_ft ct_sg 0 [] ct_J24_init ca jm 1000 ct_J24_init [some (vr_ (some x0))] [] s =
  (cx_bV cx_th (ca 123 [vr_ (some x0)] s) fun s1 =>
  some (.inl none, s1)) := by rfl
set_option maxRecDepth 100000 in
theorem cb_J25_isValidCodePoint (x0 : Int32) (s : σ) : cx_B ct_lc gi gr pi pr ai ar wi wr an nw na io dp ct_ft ct_sg 4 [] ct_J25_isValidCodePoint ca jm 1000 ct_J25_isValidCodePoint [some (vi_ x0), none] [] s =
  (if ((x0 : Int32).toUInt32 >>> ((16 : Int32).toUInt32 &&& Int32.toUInt32 31)).toInt32 < 17 then
    some (.inl (some (vi_ 1)), s)
  else
    some (.inl (some (vi_ 0)), s)) := by rfl
set_option maxRecDepth 100000 in
theorem cb_J25_highSurrogate (x0 : Int32) (s : σ) : cx_B ct_lc gi gr pi pr ai ar wi wr an nw na io dp ct_ft ct_sg 5 [] ct_J25_highSurrogate ca jm 1000 ct_J25_highSurrogate [some (vi_ x0)] [] s =
  some (.inl (some (vi_ (((((((x0 : Int32).toUInt32 >>> ((10 : Int32).toUInt32 &&& Int32.toUInt32 31)).toInt32 + 55232) : Int32).toUInt32 % 65536).toInt32 : Int32).toUInt32 % 65536).toInt32)), s) := by rfl
set_option maxRecDepth 100000 in
theorem cb_J25_lowSurrogate (x0 : Int32) (s : σ) : cx_B ct_lc gi gr pi pr ai ar wi wr an nw na io dp ct_ft ct_sg 5 [] ct_J25_lowSurrogate ca jm 1000 ct_J25_lowSurrogate [some (vi_ x0)] [] s =
  some (.inl (some (vi_ ((((((x0 &&& 1023) + 56320) : Int32).toUInt32 % 65536).toInt32 : Int32).toUInt32 % 65536).toInt32)), s) := by rfl
set_option maxRecDepth 100000 in
theorem cb_J26_checkIndex (x0 x1 : Int32) (s : σ) : cx_B ct_lc gi gr pi pr ai ar wi wr an nw na io dp ct_ft ct_sg 1 [] ct_J26_checkIndex ca jm 1000 ct_J26_checkIndex [some (vi_ x0), some (vi_ x1)] [] s =
  (cx_bI cx_th (ca 154 [vi_ x0, vi_ x1, vr_ none] s) fun v2 s1 =>
  some (.inl (some (vi_ v2)), s1)) := by rfl
set_option maxRecDepth 100000 in
theorem cb_J27_init (x0 : Nat) (s : σ) : cx_B ct_lc gi gr pi pr ai ar wi wr an nw na io dp ct_ft ct_sg 0 [] ct_J27_init ca jm 1000 ct_J27_init [some (vr_ (some x0))] [] s =
  (cx_bV cx_th (ca 70 [vr_ (some x0)] s) fun s1 =>
  some (.inl none, s1)) := by rfl
set_option maxRecDepth 100000 in
theorem cb_J28_init (x0 : Nat) (s : σ) : cx_B ct_lc gi gr pi pr ai ar wi wr an nw na io dp ct_ft ct_sg 0 [] ct_J28_init ca jm 1000 ct_J28_init [some (vr_ (some x0))] [] s =
  (cx_bV cx_th (ca 129 [vr_ (some x0)] s) fun s1 =>
  (cx_bV cx_th (ca 1 [vr_ (some (nw 38 s1).1)] (nw 38 s1).2) fun s2 =>
  ((pr 36 (some x0) (some (nw 38 s1).1) s2).bind fun s3 =>
  some (.inl none, s3)))) := by rfl
set_option maxRecDepth 100000 in
theorem cb_J28_add (x1 : Option Nat) (x0 : Nat) (s : σ) : cx_B ct_lc gi gr pi pr ai ar wi wr an nw na io dp ct_ft ct_sg 4 [] ct_J28_add ca jm 1000 ct_J28_add [some (vr_ (some x0)), some (vr_ x1)] [] s =
  ((gr 36 (some x0) s).bind fun v1 =>
  ((dp 2 v1 s).bind fun m2 =>
  (cx_bR cx_th (ca m2 [vr_ v1, vr_ x1, vr_ (some 1009)] s) fun v4 s3 =>
  (if v4 = none then
    some (.inl (some (vi_ 1)), s3)
  else
    some (.inl (some (vi_ 0)), s3))))) := by rfl
set_option maxRecDepth 100000 in
theorem cb_J28_contains (x1 : Option Nat) (x0 : Nat) (s : σ) : cx_B ct_lc gi gr pi pr ai ar wi wr an nw na io dp ct_ft ct_sg 4 [] ct_J28_contains ca jm 1000 ct_J28_contains [some (vr_ (some x0)), some (vr_ x1)] [] s =
  ((gr 36 (some x0) s).bind fun v1 =>
  ((dp 15 v1 s).bind fun m2 =>
  (cx_bI cx_th (ca m2 [vr_ v1, vr_ x1] s) fun v4 s3 =>
  some (.inl (some (vi_ (v4 &&& 1))), s3)))) := by rfl
set_option maxRecDepth 100000 in
theorem cb_J29_init (x0 : Nat) (s : σ) : cx_B ct_lc gi gr pi pr ai ar wi wr an nw na io dp ct_ft ct_sg 0 [] ct_J29_init ca jm 1000 ct_J29_init [some (vr_ (some x0))] [] s =
  (cx_bV cx_th (ca 124 [vr_ (some x0)] s) fun s1 =>
  some (.inl none, s1)) := by rfl
set_option maxRecDepth 100000 in
theorem cb_J3_charAt (x1 : Int32) (x0 : Option Nat) (s : σ) : cx_B ct_lc gi gr pi pr ai ar wi wr an nw na io dp ct_ft ct_sg 5 [] ct_J3_charAt ca jm 1000 ct_J3_charAt [some (vr_ x0), some (vi_ x1)] [] s =
  ((an x0 s).bind fun v1 =>
  (cx_bV cx_th (ca 90 [vi_ x1, vi_ v1] s) fun s2 =>
  ((ai 1 x0 x1 s2).bind fun v3 =>
  some (.inl (some (vi_ (((((v3 &&& 255) : Int32).toUInt32 % 65536).toInt32 : Int32).toUInt32 % 65536).toInt32)), s2)))) := by rfl
set_option maxRecDepth 100000 in
theorem cb_J3_newString (x1 x2 : Int32) (x0 : Option Nat) (s : σ) : cx_B ct_lc gi gr pi pr ai ar wi wr an nw na io dp ct_ft ct_sg 3 [] ct_J3_newString ca jm 1000 ct_J3_newString [some (vr_ x0), some (vi_ x1), some (vi_ x2)] [] s =
  (if x2 = 0 then
    some (.inl (some (vr_ (some 1010))), s)
  else
    (cx_bR cx_th (ca 184 [vr_ x0, vi_ x1, vi_ (x1 + x2)] (nw 26 s).2) fun v2 s1 =>
    (cx_bV cx_th (ca 93 [vr_ (some (nw 26 s).1), vr_ v2, vi_ 0] s1) fun s3 =>
    some (.inl (some (vr_ (some (nw 26 s).1))), s3)))) := by rfl
set_option maxRecDepth 100000 in
theorem cb_J3_hashCode (x0 : Option Nat) (s : σ) : cx_B ct_lc gi gr pi pr ai ar wi wr an nw na io dp ct_ft ct_sg 1 [] ct_J3_hashCode ca jm 1000 ct_J3_hashCode [some (vr_ x0)] [] s =
  ((an x0 s).bind fun v1 =>
  (if v1 = Int32.ofInt 0 then
    some (.inl (some (vi_ 0)), s)
  else
  (if v1 = Int32.ofInt 1 then
    ((ai 1 x0 0 s).bind fun v2 =>
    some (.inl (some (vi_ (v2 &&& 255))), s))
  else
  ((an x0 s).bind fun v3 =>
    (cx_bI cx_th (ca 30 [vr_ x0, vi_ 0, vi_ v3, vi_ 0, vi_ 4] s) fun v5 s4 =>
    some (.inl (some (vi_ v5)), s4)))))) := by rfl
set_option maxRecDepth 100000 in
theorem cb_J3_compareTo (x0 x1 : Option Nat) (s : σ) : cx_B ct_lc gi gr pi pr ai ar wi wr an nw na io dp ct_ft ct_sg 1 [] ct_J3_compareTo ca jm 1000 ct_J3_compareTo [some (vr_ x0), some (vr_ x1), none, none] [] s =
  ((an x0 s).bind fun v1 =>
  ((an x1 s).bind fun v2 =>
  (cx_bI cx_th (ca 138 [vr_ x0, vr_ x1, vi_ v1, vi_ v2] s) fun v4 s3 =>
  some (.inl (some (vi_ v4)), s3)))) := by rfl
set_option maxRecDepth 100000 in
theorem cb_J3_compareTo_2 (x2 x3 : Int32) (x0 x1 : Option Nat) (s : σ) : cx_B ct_lc gi gr pi pr ai ar wi wr an nw na io dp ct_ft ct_sg 1 [] ct_J3_compareTo_2 ca jm 1000 ct_J3_compareTo_2 [some (vr_ x0), some (vr_ x1), some (vi_ x2), some (vi_ x3), none, none] [] s =
  (cx_bI cx_th (ca 192 [vi_ x2, vi_ x3] s) fun v2 s1 =>
  (cx_bI cx_th (ca 37 [vr_ x0, vr_ x1, vi_ v2] s1) fun v4 s3 =>
  (if v4 < 0 then
    some (.inl (some (vi_ (x2 - x3))), s3)
  else
    (cx_bI cx_th (ca 139 [vr_ x0, vi_ v4] s3) fun v6 s5 =>
    (cx_bI cx_th (ca 139 [vr_ x1, vi_ v4] s5) fun v8 s7 =>
    some (.inl (some (vi_ (v6 - v8))), s7)))))) := by rfl
set_option maxRecDepth 100000 in
theorem cb_J3_getChar (x1 : Int32) (x0 : Option Nat) (s : σ) : cx_B ct_lc gi gr pi pr ai ar wi wr an nw na io dp ct_ft ct_sg 5 [] ct_J3_getChar ca jm 1000 ct_J3_getChar [some (vr_ x0), some (vi_ x1)] [] s =
  ((ai 1 x0 x1 s).bind fun v1 =>
  some (.inl (some (vi_ (((((v1 &&& 255) : Int32).toUInt32 % 65536).toInt32 : Int32).toUInt32 % 65536).toInt32)), s)) := by rfl
set_option maxRecDepth 100000 in
theorem cb_J3_compareToUTF16 (x0 x1 : Option Nat) (s : σ) : cx_B ct_lc gi gr pi pr ai ar wi wr an nw na io dp ct_ft ct_sg 1 [] ct_J3_compareToUTF16 ca jm 1000 ct_J3_compareToUTF16 [some (vr_ x0), some (vr_ x1), none, none] [] s =
  (cx_bI cx_th (ca 141 [vr_ x0] s) fun v2 s1 =>
  (cx_bI cx_th (ca 159 [vr_ x1] s1) fun v4 s3 =>
  (cx_bI cx_th (ca 142 [vr_ x0, vr_ x1, vi_ v2, vi_ v4] s3) fun v6 s5 =>
  some (.inl (some (vi_ v6)), s5)))) := by rfl
set_option maxRecDepth 100000 in
theorem cb_J3_length (x0 : Option Nat) (s : σ) : cx_B ct_lc gi gr pi pr ai ar wi wr an nw na io dp ct_ft ct_sg 1 [] ct_J3_length ca jm 1000 ct_J3_length [some (vr_ x0)] [] s =
  ((an x0 s).bind fun v1 =>
  some (.inl (some (vi_ v1)), s)) := by rfl
set_option maxRecDepth 100000 in
theorem cb_J3_compareToUTF16Values (x2 x3 : Int32) (x0 x1 : Option Nat) (s : σ) : cx_B ct_lc gi gr pi pr ai ar wi wr an nw na io dp ct_ft ct_sg 1 [] ct_J3_compareToUTF16Values ca jm 1000 ct_J3_compareToUTF16Values [some (vr_ x0), some (vr_ x1), some (vi_ x2), some (vi_ x3), none, none, none, none] [] s =
  (cx_bI cx_th (ca 192 [vi_ x2, vi_ x3] s) fun v2 s1 =>
  jm 10 [vr_ x0, vr_ x1, vi_ x2, vi_ x3, vi_ v2, vi_ 0] [] s1) := by rfl
set_option maxRecDepth 100000 in
theorem cb_J3_compareToUTF16Values_10 (x2 x3 x4 x5 : Int32) (x0 x1 : Option Nat) (s : σ) : cx_B ct_lc gi gr pi pr ai ar wi wr an nw na io dp ct_ft ct_sg 1 [] ct_J3_compareToUTF16Values ca jm 1000 (pj_at ct_J3_compareToUTF16Values 10) [some (vr_ x0), some (vr_ x1), some (vi_ x2), some (vi_ x3), some (vi_ x4), some (vi_ x5), none, none] [] s =
  (if x5 < x4 then
    (cx_bI cx_th (ca 139 [vr_ x0, vi_ x5] s) fun v2 s1 =>
    (cx_bI cx_th (ca 160 [vr_ x1, vi_ x5] s1) fun v4 s3 =>
    (if v2 = v4 then
      jm 10 [vr_ x0, vr_ x1, vi_ x2, vi_ x3, vi_ x4, vi_ (x5 + 1)] [] s3
    else
      some (.inl (some (vi_ (v2 - v4))), s3))))
  else
    some (.inl (some (vi_ (x2 - x3))), s)) := by rfl
set_option maxRecDepth 100000 in
theorem cb_J3_compareToUTF16_2 (x2 x3 : Int32) (x0 x1 : Option Nat) (s : σ) : cx_B ct_lc gi gr pi pr ai ar wi wr an nw na io dp ct_ft ct_sg 1 [] ct_J3_compareToUTF16_2 ca jm 1000 ct_J3_compareToUTF16_2 [some (vr_ x0), some (vr_ x1), some (vi_ x2), some (vi_ x3)] [] s =
  (cx_bI cx_th (ca 141 [vr_ x0] s) fun v2 s1 =>
  (cx_bV cx_th (ca 98 [vi_ x2, vi_ v2] s1) fun s3 =>
  (cx_bI cx_th (ca 159 [vr_ x1] s3) fun v5 s4 =>
  (cx_bV cx_th (ca 98 [vi_ x3, vi_ v5] s4) fun s6 =>
  (cx_bI cx_th (ca 142 [vr_ x0, vr_ x1, vi_ x2, vi_ x3] s6) fun v8 s7 =>
  some (.inl (some (vi_ v8)), s7)))))) := by rfl
set_option maxRecDepth 100000 in
theorem cb_J3_equals (x0 x1 : Option Nat) (s : σ) : cx_B ct_lc gi gr pi pr ai ar wi wr an nw na io dp ct_ft ct_sg 4 [] ct_J3_equals ca jm 1000 ct_J3_equals [some (vr_ x0), some (vr_ x1), none] [] s =
  ((an x0 s).bind fun v1 =>
  ((an x1 s).bind fun v2 =>
  (if v1 = v2 then
    jm 9 [vr_ x0, vr_ x1, vi_ 0] [] s
  else
    some (.inl (some (vi_ 0)), s)))) := by rfl
set_option maxRecDepth 100000 in
theorem cb_J3_equals_9 (x2 : Int32) (x0 x1 : Option Nat) (s : σ) : cx_B ct_lc gi gr pi pr ai ar wi wr an nw na io dp ct_ft ct_sg 4 [] ct_J3_equals ca jm 1000 (pj_at ct_J3_equals 9) [some (vr_ x0), some (vr_ x1), some (vi_ x2)] [] s =
  ((an x0 s).bind fun v1 =>
  (if x2 < v1 then
    ((ai 1 x0 x2 s).bind fun v2 =>
    ((ai 1 x1 x2 s).bind fun v3 =>
    (if v2 = v3 then
      jm 9 [vr_ x0, vr_ x1, vi_ (x2 + 1)] [] s
    else
      some (.inl (some (vi_ 0)), s))))
  else
    some (.inl (some (vi_ 1)), s))) := by rfl
set_option maxRecDepth 100000 in
theorem cb_J3_fillNull (x1 x2 : Int32) (x0 : Option Nat) (s : σ) : cx_B ct_lc gi gr pi pr ai ar wi wr an nw na io dp ct_ft ct_sg 0 [] ct_J3_fillNull ca jm 1000 ct_J3_fillNull [some (vr_ x0), some (vi_ x1), some (vi_ x2)] [] s =
  (cx_bV cx_th (ca 190 [vr_ x0, vi_ x1, vi_ x2, vi_ 0] s) fun s1 =>
  some (.inl none, s1)) := by rfl
set_option maxRecDepth 100000 in
theorem cb_J3_canEncode (x0 : Int32) (s : σ) : cx_B ct_lc gi gr pi pr ai ar wi wr an nw na io dp ct_ft ct_sg 4 [] ct_J3_canEncode ca jm 1000 ct_J3_canEncode [some (vi_ x0)] [] s =
  (if 255 < x0 then
    some (.inl (some (vi_ 0)), s)
  else
    some (.inl (some (vi_ 1)), s)) := by rfl
set_option maxRecDepth 100000 in
theorem cb_J3_inflate (x1 x3 x4 : Int32) (x0 x2 : Option Nat) (s : σ) : cx_B ct_lc gi gr pi pr ai ar wi wr an nw na io dp ct_ft ct_sg 0 [] ct_J3_inflate ca jm 1000 ct_J3_inflate [some (vr_ x0), some (vi_ x1), some (vr_ x2), some (vi_ x3), some (vi_ x4)] [] s =
  (cx_bV cx_th (ca 176 [vr_ x0, vi_ x1, vr_ x2, vi_ x3, vi_ x4] s) fun s1 =>
  some (.inl none, s1)) := by rfl
set_option maxRecDepth 100000 in
theorem cb_J3_indexOf (x1 x2 x3 : Int32) (x0 : Option Nat) (s : σ) : cx_B ct_lc gi gr pi pr ai ar wi wr an nw na io dp ct_ft ct_sg 1 [] ct_J3_indexOf ca jm 1000 ct_J3_indexOf [some (vr_ x0), some (vi_ x1), some (vi_ x2), some (vi_ x3)] [] s =
  (cx_bI cx_th (ca 149 [vi_ x1] s) fun v2 s1 =>
  (if v2 = 0 then
    some (.inl (some (vi_ (-1))), s1)
  else
    (cx_bI cx_th (ca 193 [vi_ x2, vi_ 0] s1) fun v4 s3 =>
    ((an x0 s3).bind fun v5 =>
    (cx_bI cx_th (ca 192 [vi_ x3, vi_ v5] s3) fun v7 s6 =>
    (if v4 < v7 then
      (cx_bI cx_th (ca 150 [vr_ x0, vi_ x1, vi_ v4, vi_ v7] s6) fun v9 s8 =>
      some (.inl (some (vi_ v9)), s8))
    else
      some (.inl (some (vi_ (-1))), s6))))))) := by rfl
set_option maxRecDepth 100000 in
theorem cb_J3_canEncode_2 (x0 : Int32) (s : σ) : cx_B ct_lc gi gr pi pr ai ar wi wr an nw na io dp ct_ft ct_sg 4 [] ct_J3_canEncode_2 ca jm 1000 ct_J3_canEncode_2 [some (vi_ x0)] [] s =
  (if x0 < 0 then
    some (.inl (some (vi_ 0)), s)
  else
    (if 255 < x0 then
      some (.inl (some (vi_ 0)), s)
    else
      some (.inl (some (vi_ 1)), s))) := by rfl
set_option maxRecDepth 100000 in
theorem cb_J3_indexOfChar (x1 x2 x3 : Int32) (x0 : Option Nat) (s : σ) : cx_B ct_lc gi gr pi pr ai ar wi wr an nw na io dp ct_ft ct_sg 1 [] ct_J3_indexOfChar ca jm 1000 ct_J3_indexOfChar [some (vr_ x0), some (vi_ x1), some (vi_ x2), some (vi_ x3), none, none] [] s =
  jm 7 [vr_ x0, vi_ x3, vi_ (x1 : Int32).toInt8.toInt32, vi_ x2] [] s := by rfl
set_option maxRecDepth 100000 in
theorem cb_J3_indexOfChar_7 (x3 x4 x5 : Int32) (x0 : Option Nat) (s : σ) : cx_B ct_lc gi gr pi pr ai ar wi wr an nw na io dp ct_ft ct_sg 1 [] ct_J3_indexOfChar ca jm 1000 (pj_at ct_J3_indexOfChar 7) [some (vr_ x0), none, none, some (vi_ x3), some (vi_ x4), some (vi_ x5)] [] s =
  (if x5 < x3 then
    ((ai 1 x0 x5 s).bind fun v1 =>
    (if v1 = x4 then
      some (.inl (some (vi_ x5)), s)
    else
      jm 7 [vr_ x0, vi_ x3, vi_ x4, vi_ (x5 + 1)] [] s))
  else
    some (.inl (some (vi_ (-1))), s)) := by rfl
set_option maxRecDepth 100000 in
theorem cb_J30_init (x0 : Nat) (s : σ) : cx_B ct_lc gi gr pi pr ai ar wi wr an nw na io dp ct_ft ct_sg 0 [] ct_J30_init ca jm 1000 ct_J30_init [some (vr_ (some x0))] [] s =
  some (.inl none, s) := by rfl
set_option maxRecDepth 100000 in
theorem cb_J30_equals (x1 : Option Nat) (x0 : Nat) (s : σ) : cx_B ct_lc gi gr pi pr ai ar wi wr an nw na io dp ct_ft ct_sg 4 [] ct_J30_equals ca jm 1000 ct_J30_equals [some (vr_ (some x0)), some (vr_ x1)] [] s =
  (if (some x0) = x1 then
    some (.inl (some (vi_ 1)), s)
  else
    some (.inl (some (vi_ 0)), s)) := by rfl
set_option maxRecDepth 100000 in
theorem cb_J31_getUTF16Char (x2 : Int32) (x1 : Option Nat) (x0 : Nat) (s : σ) : cx_B ct_lc gi gr pi pr ai ar wi wr an nw na io dp ct_ft ct_sg 5 [] ct_J31_getUTF16Char ca jm 1000 ct_J31_getUTF16Char [some (vr_ (some x0)), some (vr_ x1), some (vi_ x2)] [] s =
  (cx_bI cx_th (ca 160 [vr_ x1, vi_ x2] s) fun v2 s1 =>
  some (.inl (some (vi_ ((v2 : Int32).toUInt32 % 65536).toInt32)), s1)) := by rfl
set_option maxRecDepth 100000 in
theorem cb_J4_checkIndex (x0 x1 : Int32) (x2 : Option Nat) (s : σ) : cx_B ct_lc gi gr pi pr ai ar wi wr an nw na io dp ct_ft ct_sg 1 [] ct_J4_checkIndex ca jm 1000 ct_J4_checkIndex [some (vi_ x0), some (vi_ x1), some (vr_ x2)] [] s =
  (if x0 < 0 then
    none
  else
    (if x0 < x1 then
      some (.inl (some (vi_ x0)), s)
    else
      none)) := by rfl
set_option maxRecDepth 100000 in
theorem cb_J4_checkFromToIndex (x0 x1 x2 : Int32) (x3 : Option Nat) (s : σ) : cx_B ct_lc gi gr pi pr ai ar wi wr an nw na io dp ct_ft ct_sg 1 [] ct_J4_checkFromToIndex ca jm 1000 ct_J4_checkFromToIndex [some (vi_ x0), some (vi_ x1), some (vi_ x2), some (vr_ x3)] [] s =
  (if x0 < 0 then
    none
  else
    (if x1 < x0 then
      none
    else
      (if x2 < x1 then
        none
      else
        some (.inl (some (vi_ x0)), s)))) := by rfl
set_option maxRecDepth 100000 in
theorem cb_J4_checkFromIndexSize (x0 x1 x2 : Int32) (x3 : Option Nat) (s : σ) : cx_B ct_lc gi gr pi pr ai ar wi wr an nw na io dp ct_ft ct_sg 1 [] ct_J4_checkFromIndexSize ca jm 1000 ct_J4_checkFromIndexSize [some (vi_ x0), some (vi_ x1), some (vi_ x2), some (vr_ x3)] [] s =
  (if ((x2 ||| x0) ||| x1) < 0 then
    none
  else
    (if (x2 - x0) < x1 then
      none
    else
      some (.inl (some (vi_ x0)), s))) := by rfl
set_option maxRecDepth 100000 in
theorem cb_J5_charAt (x1 : Int32) (x0 : Option Nat) (s : σ) : cx_B ct_lc gi gr pi pr ai ar wi wr an nw na io dp ct_ft ct_sg 5 [] ct_J5_charAt ca jm 1000 ct_J5_charAt [some (vr_ x0), some (vi_ x1)] [] s =
  (cx_bV cx_th (ca 158 [vi_ x1, vr_ x0] s) fun s1 =>
  (cx_bI cx_th (ca 160 [vr_ x0, vi_ x1] s1) fun v3 s2 =>
  some (.inl (some (vi_ ((v3 : Int32).toUInt32 % 65536).toInt32)), s2))) := by rfl
set_option maxRecDepth 100000 in
theorem cb_J5_checkIndex (x0 : Int32) (x1 : Option Nat) (s : σ) : cx_B ct_lc gi gr pi pr ai ar wi wr an nw na io dp ct_ft ct_sg 0 [] ct_J5_checkIndex ca jm 1000 ct_J5_checkIndex [some (vi_ x0), some (vr_ x1)] [] s =
  (cx_bI cx_th (ca 159 [vr_ x1] s) fun v2 s1 =>
  (cx_bV cx_th (ca 90 [vi_ x0, vi_ v2] s1) fun s3 =>
  some (.inl none, s3))) := by rfl
set_option maxRecDepth 100000 in
theorem cb_J5_length (x0 : Option Nat) (s : σ) : cx_B ct_lc gi gr pi pr ai ar wi wr an nw na io dp ct_ft ct_sg 1 [] ct_J5_length ca jm 1000 ct_J5_length [some (vr_ x0)] [] s =
  ((an x0 s).bind fun v1 =>
  some (.inl (some (vi_ (v1 >>> (1 &&& 31)))), s)) := by rfl
set_option maxRecDepth 100000 in
theorem cb_J5_getChar (x1 : Int32) (x0 : Option Nat) (s : σ) : cx_B ct_lc gi gr pi pr ai ar wi wr an nw na io dp ct_ft ct_sg 5 [] ct_J5_getChar ca jm 1000 ct_J5_getChar [some (vr_ x0), some (vi_ x1)] [] s =
  jm 28 [vr_ x0, vi_ x1] [] s := by rfl
set_option maxRecDepth 100000 in
theorem cb_J5_getChar_28 (x1 : Int32) (x0 : Option Nat) (s : σ) : cx_B ct_lc gi gr pi pr ai ar wi wr an nw na io dp ct_ft ct_sg 5 [] ct_J5_getChar ca jm 1000 (pj_at ct_J5_getChar 28) [some (vr_ x0), some (vi_ x1)] [] s =
  ((ai 1 x0 (x1 <<< (1 &&& 31)) s).bind fun v1 =>
  ((ai 1 x0 ((x1 <<< (1 &&& 31)) + 1) s).bind fun v2 =>
  some (.inl (some (vi_ (((((((v1 &&& 255) <<< (0 &&& 31)) ||| ((v2 &&& 255) <<< (8 &&& 31))) : Int32).toUInt32 % 65536).toInt32 : Int32).toUInt32 % 65536).toInt32)), s))) := by rfl
set_option maxRecDepth 100000 in
theorem cb_J5_newString (x1 x2 : Int32) (x0 : Option Nat) (s : σ) : cx_B ct_lc gi gr pi pr ai ar wi wr an nw na io dp ct_ft ct_sg 3 [] ct_J5_newString ca jm 1000 ct_J5_newString [some (vr_ x0), some (vi_ x1), some (vi_ x2), none, none] [] s =
  (if x2 = 0 then
    some (.inl (some (vr_ (some 1010))), s)
  else
    (cx_bR cx_th (ca 162 [vr_ x0, vi_ x1, vi_ x2] s) fun v2 s1 =>
    (cx_bI cx_th (ca 166 [vr_ v2, vi_ x2] s1) fun v4 s3 =>
    (cx_bV cx_th (ca 93 [vr_ (some (nw 26 s3).1), vr_ v2, vi_ v4] (nw 26 s3).2) fun s5 =>
    some (.inl (some (vr_ (some (nw 26 s3).1))), s5))))) := by rfl
set_option maxRecDepth 100000 in
theorem cb_J5_compress (x1 x2 : Int32) (x0 : Option Nat) (s : σ) : cx_B ct_lc gi gr pi pr ai ar wi wr an nw na io dp ct_ft ct_sg 3 [] ct_J5_compress ca jm 1000 ct_J5_compress [some (vr_ x0), some (vi_ x1), some (vi_ x2), none, none, none] [] s =
  ((na 201 x2 s).bind fun q1 =>
  (cx_bI cx_th (ca 163 [vr_ x0, vi_ x1, vr_ (some q1.1), vi_ 0, vi_ x2] q1.2) fun v3 s2 =>
  (if v3 = x2 then
    some (.inl (some (vr_ (some q1.1))), s2)
  else
    (cx_bI cx_th (ca 165 [vi_ (x1 + x2)] s2) fun v5 s4 =>
    (cx_bR cx_th (ca 184 [vr_ x0, vi_ (x1 <<< (1 &&& 31)), vi_ v5] s4) fun v7 s6 =>
    (cx_bI cx_th (ca 160 [vr_ v7, vi_ v3] s6) fun v9 s8 =>
    (if 255 < v9 then
      some (.inl (some (vr_ v7)), s8)
    else
      (cx_bI cx_th (ca 163 [vr_ v7, vi_ 0, vr_ (some q1.1), vi_ 0, vi_ x2] s8) fun v11 s10 =>
      (if v11 = x2 then
        some (.inl (some (vr_ (some q1.1))), s10)
      else
        some (.inl (some (vr_ v7)), s10)))))))))) := by rfl
set_option maxRecDepth 100000 in
theorem cb_J5_compress_2 (x1 x3 x4 : Int32) (x0 x2 : Option Nat) (s : σ) : cx_B ct_lc gi gr pi pr ai ar wi wr an nw na io dp ct_ft ct_sg 1 [] ct_J5_compress_2 ca jm 1000 ct_J5_compress_2 [some (vr_ x0), some (vi_ x1), some (vr_ x2), some (vi_ x3), some (vi_ x4), none, none] [] s =
  (cx_bV cx_th (ca 164 [vi_ x1, vi_ x4, vr_ x0] s) fun s1 =>
  jm 10 [vr_ x0, vi_ x1, vr_ x2, vi_ x3, vi_ x4, vi_ 0] [] s1) := by rfl
set_option maxRecDepth 100000 in
theorem cb_J5_compress_2_10 (x1 x3 x4 x5 : Int32) (x0 x2 : Option Nat) (s : σ) : cx_B ct_lc gi gr pi pr ai ar wi wr an nw na io dp ct_ft ct_sg 1 [] ct_J5_compress_2 ca jm 1000 (pj_at ct_J5_compress_2 10) [some (vr_ x0), some (vi_ x1), some (vr_ x2), some (vi_ x3), some (vi_ x4), some (vi_ x5), none] [] s =
  (if x5 < x4 then
    (cx_bI cx_th (ca 160 [vr_ x0, vi_ x1] s) fun v2 s1 =>
    (if 255 < v2 then
      some (.inl (some (vi_ x5)), s1)
    else
      ((wi 1 x2 x3 (v2 : Int32).toInt8.toInt32 s1).bind fun s3 =>
      jm 10 [vr_ x0, vi_ (x1 + 1), vr_ x2, vi_ (x3 + 1), vi_ x4, vi_ (x5 + 1)] [] s3)))
  else
    some (.inl (some (vi_ x4)), s)) := by rfl
set_option maxRecDepth 100000 in
theorem cb_J5_checkBoundsOffCount (x0 x1 : Int32) (x2 : Option Nat) (s : σ) : cx_B ct_lc gi gr pi pr ai ar wi wr an nw na io dp ct_ft ct_sg 0 [] ct_J5_checkBoundsOffCount ca jm 1000 ct_J5_checkBoundsOffCount [some (vi_ x0), some (vi_ x1), some (vr_ x2)] [] s =
  (cx_bI cx_th (ca 159 [vr_ x2] s) fun v2 s1 =>
  (cx_bI cx_th (ca 94 [vi_ x0, vi_ x1, vi_ v2] s1) fun v4 s3 =>
  some (.inl none, s3))) := by rfl
set_option maxRecDepth 100000 in
theorem cb_J5_newBytesLength (x0 : Int32) (s : σ) : cx_B ct_lc gi gr pi pr ai ar wi wr an nw na io dp ct_ft ct_sg 1 [] ct_J5_newBytesLength ca jm 1000 ct_J5_newBytesLength [some (vi_ x0)] [] s =
  (if x0 < 0 then
    none
  else
    (if x0 < 1073741823 then
      some (.inl (some (vi_ (x0 <<< (1 &&& 31)))), s)
    else
      none)) := by rfl
set_option maxRecDepth 100000 in
theorem cb_J5_coderFromArrayLen (x1 : Int32) (x0 : Option Nat) (s : σ) : cx_B ct_lc gi gr pi pr ai ar wi wr an nw na io dp ct_ft ct_sg 1 [] ct_J5_coderFromArrayLen ca jm 1000 ct_J5_coderFromArrayLen [some (vr_ x0), some (vi_ x1)] [] s =
  ((an x0 s).bind fun v1 =>
  some (.inl (some (vi_ ((((x1 - v1) : Int32).toUInt32 >>> ((31 : Int32).toUInt32 &&& Int32.toUInt32 31)).toInt32 : Int32).toInt8.toInt32)), s)) := by rfl
set_option maxRecDepth 100000 in
theorem cb_J5_hashCode (x0 : Option Nat) (s : σ) : cx_B ct_lc gi gr pi pr ai ar wi wr an nw na io dp ct_ft ct_sg 1 [] ct_J5_hashCode ca jm 1000 ct_J5_hashCode [some (vr_ x0)] [] s =
  ((an x0 s).bind fun v1 =>
  (if v1 = Int32.ofInt 0 then
    some (.inl (some (vi_ 0)), s)
  else
  (if v1 = Int32.ofInt 2 then
    (cx_bI cx_th (ca 160 [vr_ x0, vi_ 0] s) fun v3 s2 =>
    some (.inl (some (vi_ v3)), s2))
  else
  ((an x0 s).bind fun v4 =>
    (cx_bI cx_th (ca 30 [vr_ x0, vi_ 0, vi_ (v4 >>> (1 &&& 31)), vi_ 0, vi_ 5] s) fun v6 s5 =>
    some (.inl (some (vi_ v6)), s5)))))) := by rfl
set_option maxRecDepth 100000 in
theorem cb_J5_compareTo (x0 x1 : Option Nat) (s : σ) : cx_B ct_lc gi gr pi pr ai ar wi wr an nw na io dp ct_ft ct_sg 1 [] ct_J5_compareTo ca jm 1000 ct_J5_compareTo [some (vr_ x0), some (vr_ x1), none, none] [] s =
  (cx_bI cx_th (ca 159 [vr_ x0] s) fun v2 s1 =>
  (cx_bI cx_th (ca 159 [vr_ x1] s1) fun v4 s3 =>
  (cx_bI cx_th (ca 169 [vr_ x0, vr_ x1, vi_ v2, vi_ v4] s3) fun v6 s5 =>
  some (.inl (some (vi_ v6)), s5)))) := by rfl
set_option maxRecDepth 100000 in
theorem cb_J5_compareValues (x2 x3 : Int32) (x0 x1 : Option Nat) (s : σ) : cx_B ct_lc gi gr pi pr ai ar wi wr an nw na io dp ct_ft ct_sg 1 [] ct_J5_compareValues ca jm 1000 ct_J5_compareValues [some (vr_ x0), some (vr_ x1), some (vi_ x2), some (vi_ x3), none, none, none, none] [] s =
  (cx_bI cx_th (ca 192 [vi_ x2, vi_ x3] s) fun v2 s1 =>
  jm 10 [vr_ x0, vr_ x1, vi_ x2, vi_ x3, vi_ v2, vi_ 0] [] s1) := by rfl
set_option maxRecDepth 100000 in
theorem cb_J5_compareValues_10 (x2 x3 x4 x5 : Int32) (x0 x1 : Option Nat) (s : σ) : cx_B ct_lc gi gr pi pr ai ar wi wr an nw na io dp ct_ft ct_sg 1 [] ct_J5_compareValues ca jm 1000 (pj_at ct_J5_compareValues 10) [some (vr_ x0), some (vr_ x1), some (vi_ x2), some (vi_ x3), some (vi_ x4), some (vi_ x5), none, none] [] s =
  (if x5 < x4 then
    (cx_bI cx_th (ca 160 [vr_ x0, vi_ x5] s) fun v2 s1 =>
    (cx_bI cx_th (ca 160 [vr_ x1, vi_ x5] s1) fun v4 s3 =>
    (if v2 = v4 then
      jm 10 [vr_ x0, vr_ x1, vi_ x2, vi_ x3, vi_ x4, vi_ (x5 + 1)] [] s3
    else
      some (.inl (some (vi_ (v2 - v4))), s3))))
  else
    some (.inl (some (vi_ (x2 - x3))), s)) := by rfl
set_option maxRecDepth 100000 in
theorem cb_J5_compareToLatin1 (x0 x1 : Option Nat) (s : σ) : cx_B ct_lc gi gr pi pr ai ar wi wr an nw na io dp ct_ft ct_sg 1 [] ct_J5_compareToLatin1 ca jm 1000 ct_J5_compareToLatin1 [some (vr_ x0), some (vr_ x1)] [] s =
  (cx_bI cx_th (ca 140 [vr_ x1, vr_ x0] s) fun v2 s1 =>
  some (.inl (some (vi_ (-v2))), s1)) := by rfl
set_option maxRecDepth 100000 in
theorem cb_J5_compareTo_2 (x2 x3 : Int32) (x0 x1 : Option Nat) (s : σ) : cx_B ct_lc gi gr pi pr ai ar wi wr an nw na io dp ct_ft ct_sg 1 [] ct_J5_compareTo_2 ca jm 1000 ct_J5_compareTo_2 [some (vr_ x0), some (vr_ x1), some (vi_ x2), some (vi_ x3)] [] s =
  (cx_bV cx_th (ca 172 [vi_ x2, vr_ x0] s) fun s1 =>
  (cx_bV cx_th (ca 172 [vi_ x3, vr_ x1] s1) fun s2 =>
  (cx_bI cx_th (ca 169 [vr_ x0, vr_ x1, vi_ x2, vi_ x3] s2) fun v4 s3 =>
  some (.inl (some (vi_ v4)), s3)))) := by rfl
set_option maxRecDepth 100000 in
theorem cb_J5_checkOffset (x0 : Int32) (x1 : Option Nat) (s : σ) : cx_B ct_lc gi gr pi pr ai ar wi wr an nw na io dp ct_ft ct_sg 0 [] ct_J5_checkOffset ca jm 1000 ct_J5_checkOffset [some (vi_ x0), some (vr_ x1)] [] s =
  (cx_bI cx_th (ca 159 [vr_ x1] s) fun v2 s1 =>
  (cx_bV cx_th (ca 98 [vi_ x0, vi_ v2] s1) fun s3 =>
  some (.inl none, s3))) := by rfl
set_option maxRecDepth 100000 in
theorem cb_J5_compareToLatin1_2 (x2 x3 : Int32) (x0 x1 : Option Nat) (s : σ) : cx_B ct_lc gi gr pi pr ai ar wi wr an nw na io dp ct_ft ct_sg 1 [] ct_J5_compareToLatin1_2 ca jm 1000 ct_J5_compareToLatin1_2 [some (vr_ x0), some (vr_ x1), some (vi_ x2), some (vi_ x3)] [] s =
  (cx_bI cx_th (ca 143 [vr_ x1, vr_ x0, vi_ x3, vi_ x2] s) fun v2 s1 =>
  some (.inl (some (vi_ (-v2))), s1)) := by rfl
set_option maxRecDepth 100000 in
theorem cb_J5_newBytesFor (x0 : Int32) (s : σ) : cx_B ct_lc gi gr pi pr ai ar wi wr an nw na io dp ct_ft ct_sg 3 [] ct_J5_newBytesFor ca jm 1000 ct_J5_newBytesFor [some (vi_ x0)] [] s =
  (cx_bI cx_th (ca 165 [vi_ x0] s) fun v2 s1 =>
  ((na 201 v2 s1).bind fun q3 =>
  some (.inl (some (vr_ (some q3.1))), q3.2))) := by rfl
set_option maxRecDepth 100000 in
theorem cb_J5_fillNull (x1 x2 : Int32) (x0 : Option Nat) (s : σ) : cx_B ct_lc gi gr pi pr ai ar wi wr an nw na io dp ct_ft ct_sg 0 [] ct_J5_fillNull ca jm 1000 ct_J5_fillNull [some (vr_ x0), some (vi_ x1), some (vi_ x2)] [] s =
  (cx_bV cx_th (ca 190 [vr_ x0, vi_ (x1 <<< (1 &&& 31)), vi_ (x2 <<< (1 &&& 31)), vi_ 0] s) fun s1 =>
  some (.inl none, s1)) := by rfl
set_option maxRecDepth 100000 in
theorem cb_J5_inflate (x1 x3 x4 : Int32) (x0 x2 : Option Nat) (s : σ) : cx_B ct_lc gi gr pi pr ai ar wi wr an nw na io dp ct_ft ct_sg 0 [] ct_J5_inflate ca jm 1000 ct_J5_inflate [some (vr_ x0), some (vi_ x1), some (vr_ x2), some (vi_ x3), some (vi_ x4), none] [] s =
  (cx_bV cx_th (ca 164 [vi_ x3, vi_ x4, vr_ x2] s) fun s1 =>
  jm 10 [vr_ x0, vi_ x1, vr_ x2, vi_ x3, vi_ x4, vi_ 0] [] s1) := by rfl
set_option maxRecDepth 100000 in
theorem cb_J5_inflate_10 (x1 x3 x4 x5 : Int32) (x0 x2 : Option Nat) (s : σ) : cx_B ct_lc gi gr pi pr ai ar wi wr an nw na io dp ct_ft ct_sg 0 [] ct_J5_inflate ca jm 1000 (pj_at ct_J5_inflate 10) [some (vr_ x0), some (vi_ x1), some (vr_ x2), some (vi_ x3), some (vi_ x4), some (vi_ x5)] [] s =
  (if x5 < x4 then
    ((ai 1 x0 x1 s).bind fun v1 =>
    (cx_bV cx_th (ca 177 [vr_ x2, vi_ x3, vi_ (v1 &&& 255)] s) fun s2 =>
    jm 10 [vr_ x0, vi_ (x1 + 1), vr_ x2, vi_ (x3 + 1), vi_ x4, vi_ (x5 + 1)] [] s2))
  else
    some (.inl none, s)) := by rfl
set_option maxRecDepth 100000 in
theorem cb_J5_putChar (x1 x2 : Int32) (x0 : Option Nat) (s : σ) : cx_B ct_lc gi gr pi pr ai ar wi wr an nw na io dp ct_ft ct_sg 0 [] ct_J5_putChar ca jm 1000 ct_J5_putChar [some (vr_ x0), some (vi_ x1), some (vi_ x2)] [] s =
  jm 28 [vr_ x0, vi_ x1, vi_ x2] [] s := by rfl
set_option maxRecDepth 100000 in
theorem cb_J5_putChar_28 (x1 x2 : Int32) (x0 : Option Nat) (s : σ) : cx_B ct_lc gi gr pi pr ai ar wi wr an nw na io dp ct_ft ct_sg 0 [] ct_J5_putChar ca jm 1000 (pj_at ct_J5_putChar 28) [some (vr_ x0), some (vi_ x1), some (vi_ x2)] [] s =
  ((wi 1 x0 (x1 <<< (1 &&& 31)) ((x2 >>> (0 &&& 31)) : Int32).toInt8.toInt32 s).bind fun s1 =>
  ((wi 1 x0 ((x1 <<< (1 &&& 31)) + 1) ((x2 >>> (8 &&& 31)) : Int32).toInt8.toInt32 s1).bind fun s2 =>
  some (.inl none, s2))) := by rfl
set_option maxRecDepth 100000 in
theorem cb_J5_putCharSB (x1 x2 : Int32) (x0 : Option Nat) (s : σ) : cx_B ct_lc gi gr pi pr ai ar wi wr an nw na io dp ct_ft ct_sg 0 [] ct_J5_putCharSB ca jm 1000 ct_J5_putCharSB [some (vr_ x0), some (vi_ x1), some (vi_ x2)] [] s =
  (cx_bV cx_th (ca 158 [vi_ x1, vr_ x0] s) fun s1 =>
  (cx_bV cx_th (ca 177 [vr_ x0, vi_ x1, vi_ x2] s1) fun s2 =>
  some (.inl none, s2))) := by rfl
set_option maxRecDepth 100000 in
theorem cb_J5_indexOf (x1 x2 x3 : Int32) (x0 : Option Nat) (s : σ) : cx_B ct_lc gi gr pi pr ai ar wi wr an nw na io dp ct_ft ct_sg 1 [] ct_J5_indexOf ca jm 1000 ct_J5_indexOf [some (vr_ x0), some (vi_ x1), some (vi_ x2), some (vi_ x3)] [] s =
  (cx_bI cx_th (ca 193 [vi_ x2, vi_ 0] s) fun v2 s1 =>
  ((an x0 s1).bind fun v3 =>
  (cx_bI cx_th (ca 192 [vi_ x3, vi_ (v3 >>> (1 &&& 31))] s1) fun v5 s4 =>
  (if v2 < v5 then
    (if x1 < 65536 then
      (cx_bI cx_th (ca 180 [vr_ x0, vi_ x1, vi_ v2, vi_ v5] s4) fun v7 s6 =>
      some (.inl (some (vi_ v7)), s6))
    else
      (cx_bI cx_th (ca 183 [vr_ x0, vi_ x1, vi_ v2, vi_ v5] s4) fun v9 s8 =>
      some (.inl (some (vi_ v9)), s8)))
  else
    some (.inl (some (vi_ (-1))), s4))))) := by rfl
set_option maxRecDepth 100000 in
theorem cb_J5_indexOfChar (x1 x2 x3 : Int32) (x0 : Option Nat) (s : σ) : cx_B ct_lc gi gr pi pr ai ar wi wr an nw na io dp ct_ft ct_sg 1 [] ct_J5_indexOfChar ca jm 1000 ct_J5_indexOfChar [some (vr_ x0), some (vi_ x1), some (vi_ x2), some (vi_ x3)] [] s =
  (cx_bV cx_th (ca 181 [vi_ x2, vi_ x3, vr_ x0] s) fun s1 =>
  (cx_bI cx_th (ca 182 [vr_ x0, vi_ x1, vi_ x2, vi_ x3] s1) fun v3 s2 =>
  some (.inl (some (vi_ v3)), s2))) := by rfl
set_option maxRecDepth 100000 in
theorem cb_J5_checkBoundsBeginEnd (x0 x1 : Int32) (x2 : Option Nat) (s : σ) : cx_B ct_lc gi gr pi pr ai ar wi wr an nw na io dp ct_ft ct_sg 0 [] ct_J5_checkBoundsBeginEnd ca jm 1000 ct_J5_checkBoundsBeginEnd [some (vi_ x0), some (vi_ x1), some (vr_ x2)] [] s =
  (cx_bI cx_th (ca 159 [vr_ x2] s) fun v2 s1 =>
  (cx_bV cx_th (ca 92 [vi_ x0, vi_ x1, vi_ v2] s1) fun s3 =>
  some (.inl none, s3))) := by rfl
set_option maxRecDepth 100000 in
theorem cb_J5_indexOfCharUnsafe (x1 x2 x3 : Int32) (x0 : Option Nat) (s : σ) : cx_B ct_lc gi gr pi pr ai ar wi wr an nw na io dp ct_ft ct_sg 1 [] ct_J5_indexOfCharUnsafe ca jm 1000 ct_J5_indexOfCharUnsafe [some (vr_ x0), some (vi_ x1), some (vi_ x2), some (vi_ x3), none] [] s =
  jm 3 [vr_ x0, vi_ x1, vi_ x3, vi_ x2] [] s := by rfl
set_option maxRecDepth 100000 in
theorem cb_J5_indexOfCharUnsafe_3 (x1 x3 x4 : Int32) (x0 : Option Nat) (s : σ) : cx_B ct_lc gi gr pi pr ai ar wi wr an nw na io dp ct_ft ct_sg 1 [] ct_J5_indexOfCharUnsafe ca jm 1000 (pj_at ct_J5_indexOfCharUnsafe 3) [some (vr_ x0), some (vi_ x1), none, some (vi_ x3), some (vi_ x4)] [] s =
  (if x4 < x3 then
    (cx_bI cx_th (ca 160 [vr_ x0, vi_ x4] s) fun v2 s1 =>
    (if v2 = x1 then
      some (.inl (some (vi_ x4)), s1)
    else
      jm 3 [vr_ x0, vi_ x1, vi_ x3, vi_ (x4 + 1)] [] s1))
  else
    some (.inl (some (vi_ (-1))), s)) := by rfl
set_option maxRecDepth 100000 in
theorem cb_J5_indexOfSupplementary (x1 x2 x3 : Int32) (x0 : Option Nat) (s : σ) : cx_B ct_lc gi gr pi pr ai ar wi wr an nw na io dp ct_ft ct_sg 1 [] ct_J5_indexOfSupplementary ca jm 1000 ct_J5_indexOfSupplementary [some (vr_ x0), some (vi_ x1), some (vi_ x2), some (vi_ x3), none, none, none] [] s =
  (cx_bI cx_th (ca 125 [vi_ x1] s) fun v2 s1 =>
  (if v2 = 0 then
    some (.inl (some (vi_ (-1))), s1)
  else
    (cx_bI cx_th (ca 126 [vi_ x1] s1) fun v4 s3 =>
    (cx_bI cx_th (ca 127 [vi_ x1] s3) fun v6 s5 =>
    (cx_bV cx_th (ca 181 [vi_ x2, vi_ x3, vr_ x0] s5) fun s7 =>
    jm 28 [vr_ x0, vi_ x3, vi_ v4, vi_ v6, vi_ x2] [] s7))))) := by rfl
set_option maxRecDepth 100000 in
theorem cb_J5_indexOfSupplementary_28 (x3 x4 x5 x6 : Int32) (x0 : Option Nat) (s : σ) : cx_B ct_lc gi gr pi pr ai ar wi wr an nw na io dp ct_ft ct_sg 1 [] ct_J5_indexOfSupplementary ca jm 1000 (pj_at ct_J5_indexOfSupplementary 28) [some (vr_ x0), none, none, some (vi_ x3), some (vi_ x4), some (vi_ x5), some (vi_ x6)] [] s =
  (if x6 < (x3 - 1) then
    (cx_bI cx_th (ca 160 [vr_ x0, vi_ x6] s) fun v2 s1 =>
    (if v2 = x4 then
      (cx_bI cx_th (ca 160 [vr_ x0, vi_ (x6 + 1)] s1) fun v4 s3 =>
      (if v4 = x5 then
        some (.inl (some (vi_ x6)), s3)
      else
        jm 28 [vr_ x0, vi_ x3, vi_ x4, vi_ x5, vi_ (x6 + 1)] [] s3))
    else
      jm 28 [vr_ x0, vi_ x3, vi_ x4, vi_ x5, vi_ (x6 + 1)] [] s1))
  else
    some (.inl (some (vi_ (-1))), s)) := by rfl
set_option maxRecDepth 100000 in
theorem cb_J6_copyOfRange (x1 x2 : Int32) (x0 : Option Nat) (s : σ) : cx_B ct_lc gi gr pi pr ai ar wi wr an nw na io dp ct_ft ct_sg 3 [] ct_J6_copyOfRange ca jm 1000 ct_J6_copyOfRange [some (vr_ x0), some (vi_ x1), some (vi_ x2)] [] s =
  (if x1 = 0 then
    ((an x0 s).bind fun v1 =>
    (if x2 = v1 then
      ((dp 418 x0 s).bind fun m2 =>
      (cx_bR cx_th (ca m2 [vr_ x0] s) fun v4 s3 =>
      ((cx_cst io 201 v4 s3).bind fun _ =>
      some (.inl (some (vr_ v4)), s3))))
    else
      (cx_bR cx_th (ca 185 [vr_ x0, vi_ x1, vi_ x2] s) fun v6 s5 =>
      some (.inl (some (vr_ v6)), s5))))
  else
    (cx_bR cx_th (ca 185 [vr_ x0, vi_ x1, vi_ x2] s) fun v8 s7 =>
    some (.inl (some (vr_ v8)), s7))) := by rfl
set_option maxRecDepth 100000 in
theorem cb_J6_copyOfRangeByte (x1 x2 : Int32) (x0 : Option Nat) (s : σ) : cx_B ct_lc gi gr pi pr ai ar wi wr an nw na io dp ct_ft ct_sg 3 [] ct_J6_copyOfRangeByte ca jm 1000 ct_J6_copyOfRangeByte [some (vr_ x0), some (vi_ x1), some (vi_ x2), none, none] [] s =
  (cx_bV cx_th (ca 186 [vi_ x1, vi_ x2] s) fun s1 =>
  ((na 201 (x2 - x1) s1).bind fun q2 =>
  ((an x0 q2.2).bind fun v3 =>
  (cx_bI cx_th (ca 192 [vi_ (v3 - x1), vi_ (x2 - x1)] q2.2) fun v5 s4 =>
  (cx_bV cx_th (ca 416 [vr_ x0, vi_ x1, vr_ (some q2.1), vi_ 0, vi_ v5] s4) fun s6 =>
  some (.inl (some (vr_ (some q2.1))), s6)))))) := by rfl
set_option maxRecDepth 100000 in
theorem cb_J6_checkLength (x0 x1 : Int32) (s : σ) : cx_B ct_lc gi gr pi pr ai ar wi wr an nw na io dp ct_ft ct_sg 0 [] ct_J6_checkLength ca jm 1000 ct_J6_checkLength [some (vi_ x0), some (vi_ x1)] [] s =
  (if x1 < x0 then
    none
  else
    some (.inl none, s)) := by rfl
set_option maxRecDepth 100000 in
theorem cb_J6_copyOf (x1 : Int32) (x0 : Option Nat) (s : σ) : cx_B ct_lc gi gr pi pr ai ar wi wr an nw na io dp ct_ft ct_sg 3 [] ct_J6_copyOf ca jm 1000 ct_J6_copyOf [some (vr_ x0), some (vi_ x1)] [] s =
  ((dp 409 x0 s).bind fun m1 =>
  (cx_bR cx_th (ca m1 [vr_ x0] s) fun v3 s2 =>
  (cx_bR cx_th (ca 188 [vr_ x0, vi_ x1, vr_ v3] s2) fun v5 s4 =>
  some (.inl (some (vr_ v5)), s4)))) := by rfl
set_option maxRecDepth 100000 in
theorem cb_J6_copyOf_2 (x1 : Int32) (x0 x2 : Option Nat) (s : σ) : cx_B ct_lc gi gr pi pr ai ar wi wr an nw na io dp ct_ft ct_sg 3 [] ct_J6_copyOf_2 ca jm 1000 ct_J6_copyOf_2 [some (vr_ x0), some (vi_ x1), some (vr_ x2), none] [] s =
  (if x2 = (some 1011) then
    ((na 210 x1 s).bind fun q1 =>
    ((an x0 q1.2).bind fun v2 =>
    (cx_bI cx_th (ca 192 [vi_ v2, vi_ x1] q1.2) fun v4 s3 =>
    (cx_bV cx_th (ca 416 [vr_ x0, vi_ 0, vr_ (some q1.1), vi_ 0, vi_ v4] s3) fun s5 =>
    some (.inl (some (vr_ (some q1.1))), s5)))))
  else
    none) := by rfl
set_option maxRecDepth 100000 in
theorem cb_J6_copyOf_3 (x1 : Int32) (x0 : Option Nat) (s : σ) : cx_B ct_lc gi gr pi pr ai ar wi wr an nw na io dp ct_ft ct_sg 3 [] ct_J6_copyOf_3 ca jm 1000 ct_J6_copyOf_3 [some (vr_ x0), some (vi_ x1), none] [] s =
  ((an x0 s).bind fun v1 =>
  (if x1 = v1 then
    ((dp 418 x0 s).bind fun m2 =>
    (cx_bR cx_th (ca m2 [vr_ x0] s) fun v4 s3 =>
    ((cx_cst io 201 v4 s3).bind fun _ =>
    some (.inl (some (vr_ v4)), s3))))
  else
    ((na 201 x1 s).bind fun q5 =>
    ((an x0 q5.2).bind fun v6 =>
    (cx_bI cx_th (ca 192 [vi_ v6, vi_ x1] q5.2) fun v8 s7 =>
    (cx_bV cx_th (ca 416 [vr_ x0, vi_ 0, vr_ (some q5.1), vi_ 0, vi_ v8] s7) fun s9 =>
    some (.inl (some (vr_ (some q5.1))), s9))))))) := by rfl
set_option maxRecDepth 100000 in
theorem cb_J6_fill (x1 x2 x3 : Int32) (x0 : Option Nat) (s : σ) : cx_B ct_lc gi gr pi pr ai ar wi wr an nw na io dp ct_ft ct_sg 0 [] ct_J6_fill ca jm 1000 ct_J6_fill [some (vr_ x0), some (vi_ x1), some (vi_ x2), some (vi_ x3), none] [] s =
  ((an x0 s).bind fun v1 =>
  (cx_bV cx_th (ca 191 [vi_ v1, vi_ x1, vi_ x2] s) fun s2 =>
  jm 10 [vr_ x0, vi_ x2, vi_ x3, vi_ x1] [] s2)) := by rfl
set_option maxRecDepth 100000 in
theorem cb_J6_fill_10 (x2 x3 x4 : Int32) (x0 : Option Nat) (s : σ) : cx_B ct_lc gi gr pi pr ai ar wi wr an nw na io dp ct_ft ct_sg 0 [] ct_J6_fill ca jm 1000 (pj_at ct_J6_fill 10) [some (vr_ x0), none, some (vi_ x2), some (vi_ x3), some (vi_ x4)] [] s =
  (if x4 < x2 then
    ((wi 1 x0 x4 x3 s).bind fun s1 =>
    jm 10 [vr_ x0, vi_ x2, vi_ x3, vi_ (x4 + 1)] [] s1)
  else
    some (.inl none, s)) := by rfl
set_option maxRecDepth 100000 in
theorem cb_J6_rangeCheck (x0 x1 x2 : Int32) (s : σ) : cx_B ct_lc gi gr pi pr ai ar wi wr an nw na io dp ct_ft ct_sg 0 [] ct_J6_rangeCheck ca jm 1000 ct_J6_rangeCheck [some (vi_ x0), some (vi_ x1), some (vi_ x2)] [] s =
  (if x2 < x1 then
    none
  else
    (if x1 < 0 then
      none
    else
      (if x0 < x2 then
        none
      else
        some (.inl none, s)))) := by rfl
set_option maxRecDepth 100000 in
theorem cb_J7_min (x0 x1 : Int32) (s : σ) : cx_B ct_lc gi gr pi pr ai ar wi wr an nw na io dp ct_ft ct_sg 1 [] ct_J7_min ca jm 1000 ct_J7_min [some (vi_ x0), some (vi_ x1)] [] s =
  (if x1 < x0 then
    some (.inl (some (vi_ x1)), s)
  else
    some (.inl (some (vi_ x0)), s)) := by rfl
set_option maxRecDepth 100000 in
theorem cb_J7_max (x0 x1 : Int32) (s : σ) : cx_B ct_lc gi gr pi pr ai ar wi wr an nw na io dp ct_ft ct_sg 1 [] ct_J7_max ca jm 1000 ct_J7_max [some (vi_ x0), some (vi_ x1)] [] s =
  (if x0 < x1 then
    some (.inl (some (vi_ x1)), s)
  else
    some (.inl (some (vi_ x0)), s)) := by rfl
set_option maxRecDepth 100000 in
theorem cb_J7_abs (x0 : Int32) (s : σ) : cx_B ct_lc gi gr pi pr ai ar wi wr an nw na io dp ct_ft ct_sg 1 [] ct_J7_abs ca jm 1000 ct_J7_abs [some (vi_ x0)] [] s =
  (if x0 < 0 then
    some (.inl (some (vi_ (-x0))), s)
  else
    some (.inl (some (vi_ x0)), s)) := by rfl
set_option maxRecDepth 100000 in
theorem cb_J8_hashCode (x0 : Nat) (s : σ) : cx_B ct_lc gi gr pi pr ai ar wi wr an nw na io dp ct_ft ct_sg 1 [] ct_J8_hashCode ca jm 1000 ct_J8_hashCode [some (vr_ (some x0)), none] [] s =
  ((gi 185 (some x0) s).bind fun v1 =>
  (if v1 = 0 then
    (cx_bI cx_th (ca 419 [vr_ (some x0)] s) fun v3 s2 =>
    ((pi 185 (some x0) v3 s2).bind fun s4 =>
    some (.inl (some (vi_ v3)), s4)))
  else
    some (.inl (some (vi_ v1)), s))) := by rfl
set_option maxRecDepth 100000 in
theorem cb_J8_compareTo (x1 : Option Nat) (x0 : Nat) (s : σ) : cx_B ct_lc gi gr pi pr ai ar wi wr an nw na io dp ct_ft ct_sg 1 [] ct_J8_compareTo ca jm 1000 ct_J8_compareTo [some (vr_ (some x0)), some (vr_ x1)] [] s =
  ((cx_cst io 18 x1 s).bind fun _ =>
  ((dp 197 (some x0) s).bind fun m1 =>
  (cx_bI cx_th (ca m1 [vr_ (some x0), vr_ x1] s) fun v3 s2 =>
  some (.inl (some (vi_ v3)), s2)))) := by rfl
set_option maxRecDepth 100000 in
theorem cb_J8_compareTo_2 (x1 : Option Nat) (x0 : Nat) (s : σ) : cx_B ct_lc gi gr pi pr ai ar wi wr an nw na io dp ct_ft ct_sg 1 [] ct_J8_compareTo_2 ca jm 1000 ct_J8_compareTo_2 [some (vr_ (some x0)), some (vr_ x1), none, none] [] s =
  ((dp 409 (some x0) s).bind fun m1 =>
  (cx_bR cx_th (ca m1 [vr_ (some x0)] s) fun v3 s2 =>
  ((dp 409 x1 s2).bind fun m4 =>
  (cx_bR cx_th (ca m4 [vr_ x1] s2) fun v6 s5 =>
  (if v3 = v6 then
    ((gi 186 (some x0) s5).bind fun v7 =>
    ((gi 186 x1 s5).bind fun v8 =>
    some (.inl (some (vi_ (v7 - v8))), s5)))
  else
    ((dp 198 (some x0) s5).bind fun m9 =>
    (cx_bR cx_th (ca m9 [vr_ (some x0)] s5) fun v11 s10 =>
    ((dp 198 x1 s10).bind fun m12 =>
    (cx_bR cx_th (ca m12 [vr_ x1] s10) fun v14 s13 =>
    (if v11 = v14 then
      ((gi 186 (some x0) s13).bind fun v15 =>
      ((gi 186 x1 s13).bind fun v16 =>
      some (.inl (some (vi_ (v15 - v16))), s13)))
    else
      none)))))))))) := by rfl
set_option maxRecDepth 100000 in
theorem cb_J8_getDeclaringClass (x0 : Nat) (s : σ) : cx_B ct_lc gi gr pi pr ai ar wi wr an nw na io dp ct_ft ct_sg 3 [] ct_J8_getDeclaringClass ca jm 1000 ct_J8_getDeclaringClass [some (vr_ (some x0)), none, none] [] s =
  ((dp 409 (some x0) s).bind fun m1 =>
  (cx_bR cx_th (ca m1 [vr_ (some x0)] s) fun v3 s2 =>
  none)) := by rfl
set_option maxRecDepth 100000 in
theorem cb_J8_equals (x1 : Option Nat) (x0 : Nat) (s : σ) : cx_B ct_lc gi gr pi pr ai ar wi wr an nw na io dp ct_ft ct_sg 4 [] ct_J8_equals ca jm 1000 ct_J8_equals [some (vr_ (some x0)), some (vr_ x1)] [] s =
  (if (some x0) = x1 then
    some (.inl (some (vi_ 1)), s)
  else
    some (.inl (some (vi_ 0)), s)) := by rfl
set_option maxRecDepth 100000 in
theorem cb_J8_ordinal (x0 : Nat) (s : σ) : cx_B ct_lc gi gr pi pr ai ar wi wr an nw na io dp ct_ft ct_sg 1 [] ct_J8_ordinal ca jm 1000 ct_J8_ordinal [some (vr_ (some x0))] [] s =
  ((gi 186 (some x0) s).bind fun v1 =>
  some (.inl (some (vi_ v1)), s)) := by rfl
set_option maxRecDepth 100000 in
theorem cb_J9_init (x0 : Nat) (s : σ) : cx_B ct_lc gi gr pi pr ai ar wi wr an nw na io dp ct_ft ct_sg 0 [] ct_J9_init ca jm 1000 ct_J9_init [some (vr_ (some x0))] [] s =
  (cx_bV cx_th (ca 151 [vr_ (some x0)] s) fun s1 =>
  some (.inl none, s1)) := by rfl
end cbq
