/-! ===== switches over strings: by gen/gen_sw.py ===== -/
/-- a switch over a string: by its hash, then the string itself; rows (hash, constant, which) -/
def sv_ {β : Type} (t : List Int32) (K : Int32 → β) : List (Int × Nat × Int32) → β
  | [] => K (-1)
  | (h, c, j) :: r => if as_hash t = Int32.ofInt h then (if ak_S c = t then K j else K (-1)) else sv_ t K r
def sx_ (t : List Int32) : List (Int × Nat × Int32) → Int32
  | [] => -1
  | (_, c, j) :: r => if ak_S c = t then j else sx_ t r
def sok_ : List (Int × Nat × Int32) → Bool
  | [] => true
  | (h, c, _) :: r => decide (as_hash (ak_S c) = Int32.ofInt h) && r.all (fun e => decide (¬ Int32.ofInt e.1 = Int32.ofInt h)) && sok_ r
theorem sx_no {t : List Int32} : ∀ {l : List (Int × Nat × Int32)}, sok_ l = true → (∀ e ∈ l, ¬ as_hash t = Int32.ofInt e.1) → sx_ t l = -1
  | [], _, _ => rfl
  | (h, c, j) :: r, hs, hn => by
    simp only [sok_, Bool.and_eq_true, decide_eq_true_eq] at hs
    unfold sx_
    rw [if_neg (fun q => hn (h, c, j) (by simp) (by rw [← q]; exact hs.1.1))]
    exact sx_no hs.2 (fun e he => hn e (by simp [he]))
theorem sv_eq {β : Type} {t : List Int32} {K : Int32 → β} : ∀ {l : List (Int × Nat × Int32)}, sok_ l = true → sv_ t K l = K (sx_ t l)
  | [], _ => rfl
  | (h, c, j) :: r, hs => by
    simp only [sok_, Bool.and_eq_true, decide_eq_true_eq] at hs
    unfold sv_ sx_
    by_cases h1 : as_hash t = Int32.ofInt h
    · rw [if_pos h1]
      by_cases h2 : ak_S c = t
      · rw [if_pos h2, if_pos h2]
      · rw [if_neg h2, if_neg h2, sx_no hs.2 (fun e he q => by
          have := List.all_eq_true.mp hs.1.2 e he
          simp only [decide_eq_true_eq] at this
          exact this (q.symm.trans h1))]
    · rw [if_neg h1, if_neg (fun q => h1 (by rw [← q]; exact hs.1.1)), sv_eq hs.2]
theorem sw_b {β : Type} {P : Prop} [Decidable P] {A B : β} : (if a_b (decide P) = 0 then A else B) = if P then B else A := by
  by_cases h : P
  · rw [decide_eq_true h, if_pos h]; rfl
  · rw [decide_eq_false h, if_neg h]; rfl
theorem sw_st {c : Prop} [Decidable c] {s : as_} {a y : Int32} {X : cx_O as_} (h : X = some (.inl (some (vi_ y)), s)) : (if c then some (.inl (some (vi_ a)), s) else X) = some (.inl (some (vi_ (if c then a else y))), s) := by
  rw [h]
  split <;> rfl
theorem ak_key (s : as_) (c : Nat) (h : ak_K c = (26, 0)) (hc : c < 3000) : a_key s (some c) = some (.inl (ak_S c)) := by
  have e : aK_ s c = (26, 0) := by
    unfold aK_
    rw [if_pos (by omega), if_pos hc, h]
  unfold a_key
  dsimp only
  rw [e, if_pos rfl]
  unfold aS_
  rw [if_pos (by omega)]
def sl_levelOf : List (Int × Nat × Int32) := [(38, 1018, 3), (42, 1029, 14), (43, 1027, 12), (45, 1028, 13), (47, 1030, 15), (60, 1023, 8), (61, 1021, 6), (62, 1025, 10), (124, 1017, 2), (1920, 1019, 4), (1921, 1024, 9), (1983, 1026, 11), (1984, 1020, 5), (3967, 1022, 7), (68906, 1015, 0), (81018, 1031, 16), (2392604, 1016, 1)]
theorem so_levelOf : sok_ sl_levelOf = true := by decide +kernel
theorem sj_levelOf (d : Nat) {x : Nat} {s : as_} {t : List Int32} (hK : (aK_ s x).1 = 26) (ht : aS_ s x = t) : aE (d + 2) 208 [vr_ (some x)] s = (fun j => aJ (d + 2) 208 402 [vi_ j] [] s) (sx_ t sl_levelOf) := by
  refine Eq.trans ?_ (sv_eq (t := t) (K := fun j => aJ (d + 2) 208 402 [vi_ j] [] s) so_levelOf)
  rw [ce_X1_levelOf, f_dp (f := 95) hK rfl, Option.bind_some, l_hash, cI_k]
  simp only [f_dp (f := 99) hK rfl, Option.bind_some, l_equals, cI_k, ht, sw_b, ak_key s 1018 rfl (by decide) , ak_key s 1029 rfl (by decide) , ak_key s 1027 rfl (by decide) , ak_key s 1028 rfl (by decide) , ak_key s 1030 rfl (by decide) , ak_key s 1023 rfl (by decide) , ak_key s 1021 rfl (by decide) , ak_key s 1025 rfl (by decide) , ak_key s 1017 rfl (by decide) , ak_key s 1019 rfl (by decide) , ak_key s 1024 rfl (by decide) , ak_key s 1026 rfl (by decide) , ak_key s 1020 rfl (by decide) , ak_key s 1022 rfl (by decide) , ak_key s 1015 rfl (by decide) , ak_key s 1031 rfl (by decide) , ak_key s 1016 rfl (by decide), Option.some.injEq, Sum.inl.injEq]
  rfl
def sg_levelOf (j : Int32) : Int32 := if j = Int32.ofInt 0 then 0 else if j = Int32.ofInt 1 then 0 else if j = Int32.ofInt 2 then 1 else if j = Int32.ofInt 3 then 2 else if j = Int32.ofInt 4 then 3 else if j = Int32.ofInt 5 then 3 else if j = Int32.ofInt 6 then 4 else if j = Int32.ofInt 7 then 4 else if j = Int32.ofInt 8 then 4 else if j = Int32.ofInt 9 then 4 else if j = Int32.ofInt 10 then 4 else if j = Int32.ofInt 11 then 4 else if j = Int32.ofInt 12 then 5 else if j = Int32.ofInt 13 then 5 else if j = Int32.ofInt 14 then 6 else if j = Int32.ofInt 15 then 6 else if j = Int32.ofInt 16 then 6 else -1
theorem s_levelOf (d : Nat) {x : Nat} {s : as_} {t : List Int32} (hK : (aK_ s x).1 = 26) (ht : aS_ s x = t) : aE (d + 2) 208 [vr_ (some x)] s = some (.inl (some (vi_ (sg_levelOf (sx_ t sl_levelOf)))), s) := by
  rw [sj_levelOf d hK ht]
  show aJ (d + 1 + 1) 208 402 [vi_ (sx_ t sl_levelOf)] [] s = _
  rw [cj_X1_levelOf_402]
  exact sw_st (sw_st (sw_st (sw_st (sw_st (sw_st (sw_st (sw_st (sw_st (sw_st (sw_st (sw_st (sw_st (sw_st (sw_st (sw_st (sw_st rfl))))))))))))))))
def sl_ends : List (Int × Nat × Int32) := [(-1881067216, 1068, 7), (-888821141, 1067, 6), (41, 1076, 1), (1157, 1075, 0), (2342564, 1066, 5), (2583950, 1052, 2), (63463647, 1065, 4), (66658563, 1053, 3), (2073854099, 1070, 8)]
theorem so_ends : sok_ sl_ends = true := by decide +kernel
theorem sj_ends (d : Nat) {x : Nat} {s : as_} {t : List Int32} (hK : (aK_ s x).1 = 26) (ht : aS_ s x = t) : aE (d + 2) 211 [vr_ (some x)] s = (fun j => aJ (d + 2) 211 218 [vi_ j] [] s) (sx_ t sl_ends) := by
  refine Eq.trans ?_ (sv_eq (t := t) (K := fun j => aJ (d + 2) 211 218 [vi_ j] [] s) so_ends)
  rw [ce_X1_ends, f_dp (f := 95) hK rfl, Option.bind_some, l_hash, cI_k]
  simp only [f_dp (f := 99) hK rfl, Option.bind_some, l_equals, cI_k, ht, sw_b, ak_key s 1068 rfl (by decide) , ak_key s 1067 rfl (by decide) , ak_key s 1076 rfl (by decide) , ak_key s 1075 rfl (by decide) , ak_key s 1066 rfl (by decide) , ak_key s 1052 rfl (by decide) , ak_key s 1065 rfl (by decide) , ak_key s 1053 rfl (by decide) , ak_key s 1070 rfl (by decide), Option.some.injEq, Sum.inl.injEq]
  rfl
def sg_ends (j : Int32) : Int32 := if j = Int32.ofInt 0 then 1 else if j = Int32.ofInt 1 then 1 else if j = Int32.ofInt 2 then 1 else if j = Int32.ofInt 3 then 1 else if j = Int32.ofInt 4 then 1 else if j = Int32.ofInt 5 then 1 else if j = Int32.ofInt 6 then 1 else if j = Int32.ofInt 7 then 1 else if j = Int32.ofInt 8 then 1 else 0
theorem s_ends (d : Nat) {x : Nat} {s : as_} {t : List Int32} (hK : (aK_ s x).1 = 26) (ht : aS_ s x = t) : aE (d + 2) 211 [vr_ (some x)] s = some (.inl (some (vi_ (sg_ends (sx_ t sl_ends)))), s) := by
  rw [sj_ends d hK ht]
  show aJ (d + 1 + 1) 211 218 [vi_ (sx_ t sl_ends)] [] s = _
  rw [cj_X1_ends_218]
  exact sw_st (sw_st (sw_st (sw_st (sw_st (sw_st (sw_st (sw_st (sw_st rfl))))))))
def sl_begins : List (Int × Nat × Int32) := [(-2032180703, 1064, 16), (-1881067216, 1068, 20), (-1839152530, 1074, 27), (-1787121742, 1057, 9), (-888821141, 1067, 19), (33, 1049, 1), (40, 1048, 0), (64, 1050, 2), (1156, 1051, 3), (2333, 1056, 8), (69801, 1061, 13), (75259, 1071, 24), (2061104, 1063, 15), (2193763, 1037, 23), (2342564, 1066, 18), (2571410, 1058, 10), (2583950, 1052, 4), (63463647, 1065, 17), (66658563, 1053, 5), (79578030, 1055, 7), (80906046, 1060, 12), (81434776, 1054, 6), (82563857, 1059, 11), (446837255, 1069, 21), (697350163, 1062, 14), (913251887, 1073, 26), (2073854099, 1070, 22), (2105276323, 1072, 25)]
theorem so_begins : sok_ sl_begins = true := by decide +kernel
theorem sj_begins (d : Nat) {x : Nat} {s : as_} {t : List Int32} (hK : (aK_ s x).1 = 26) (ht : aS_ s x = t) : aE (d + 2) 210 [vr_ (some x)] s = (fun j => aJ (d + 2) 210 655 [vi_ j] [] s) (sx_ t sl_begins) := by
  refine Eq.trans ?_ (sv_eq (t := t) (K := fun j => aJ (d + 2) 210 655 [vi_ j] [] s) so_begins)
  rw [ce_X1_begins, f_dp (f := 95) hK rfl, Option.bind_some, l_hash, cI_k]
  simp only [f_dp (f := 99) hK rfl, Option.bind_some, l_equals, cI_k, ht, sw_b, ak_key s 1064 rfl (by decide) , ak_key s 1068 rfl (by decide) , ak_key s 1074 rfl (by decide) , ak_key s 1057 rfl (by decide) , ak_key s 1067 rfl (by decide) , ak_key s 1049 rfl (by decide) , ak_key s 1048 rfl (by decide) , ak_key s 1050 rfl (by decide) , ak_key s 1051 rfl (by decide) , ak_key s 1056 rfl (by decide) , ak_key s 1061 rfl (by decide) , ak_key s 1071 rfl (by decide) , ak_key s 1063 rfl (by decide) , ak_key s 1037 rfl (by decide) , ak_key s 1066 rfl (by decide) , ak_key s 1058 rfl (by decide) , ak_key s 1052 rfl (by decide) , ak_key s 1065 rfl (by decide) , ak_key s 1053 rfl (by decide) , ak_key s 1055 rfl (by decide) , ak_key s 1060 rfl (by decide) , ak_key s 1054 rfl (by decide) , ak_key s 1059 rfl (by decide) , ak_key s 1069 rfl (by decide) , ak_key s 1062 rfl (by decide) , ak_key s 1073 rfl (by decide) , ak_key s 1070 rfl (by decide) , ak_key s 1072 rfl (by decide), Option.some.injEq, Sum.inl.injEq]
  rfl
def sg_begins (j : Int32) : Int32 := if j = Int32.ofInt 0 then 1 else if j = Int32.ofInt 1 then 1 else if j = Int32.ofInt 2 then 1 else if j = Int32.ofInt 3 then 1 else if j = Int32.ofInt 4 then 1 else if j = Int32.ofInt 5 then 1 else if j = Int32.ofInt 6 then 1 else if j = Int32.ofInt 7 then 1 else if j = Int32.ofInt 8 then 1 else if j = Int32.ofInt 9 then 1 else if j = Int32.ofInt 10 then 1 else if j = Int32.ofInt 11 then 1 else if j = Int32.ofInt 12 then 1 else if j = Int32.ofInt 13 then 1 else if j = Int32.ofInt 14 then 1 else if j = Int32.ofInt 15 then 1 else if j = Int32.ofInt 16 then 1 else if j = Int32.ofInt 17 then 1 else if j = Int32.ofInt 18 then 1 else if j = Int32.ofInt 19 then 1 else if j = Int32.ofInt 20 then 1 else if j = Int32.ofInt 21 then 1 else if j = Int32.ofInt 22 then 1 else if j = Int32.ofInt 23 then 1 else if j = Int32.ofInt 24 then 1 else if j = Int32.ofInt 25 then 1 else if j = Int32.ofInt 26 then 1 else if j = Int32.ofInt 27 then 1 else 0
theorem s_begins (d : Nat) {x : Nat} {s : as_} {t : List Int32} (hK : (aK_ s x).1 = 26) (ht : aS_ s x = t) : aE (d + 2) 210 [vr_ (some x)] s = some (.inl (some (vi_ (sg_begins (sx_ t sl_begins)))), s) := by
  rw [sj_begins d hK ht]
  show aJ (d + 1 + 1) 210 655 [vi_ (sx_ t sl_begins)] [] s = _
  rw [cj_X1_begins_655]
  exact sw_st (sw_st (sw_st (sw_st (sw_st (sw_st (sw_st (sw_st (sw_st (sw_st (sw_st (sw_st (sw_st (sw_st (sw_st (sw_st (sw_st (sw_st (sw_st (sw_st (sw_st (sw_st (sw_st (sw_st (sw_st (sw_st (sw_st (sw_st rfl)))))))))))))))))))))))))))
def sl_operatorOf : List (Int × Nat × Int32) := [(38, 1018, 5), (42, 1029, 2), (43, 1027, 0), (45, 1028, 1), (47, 1030, 3), (124, 1017, 6), (1920, 1019, 9), (68906, 1015, 7), (81018, 1031, 4), (2392604, 1016, 8)]
theorem so_operatorOf : sok_ sl_operatorOf = true := by decide +kernel
theorem sj_operatorOf (d : Nat) {x : Nat} {s : as_} {t : List Int32} (hK : (aK_ s x).1 = 26) (ht : aS_ s x = t) : aE (d + 2) 212 [vr_ (some x)] s = (fun j => aJ (d + 2) 212 241 [vi_ j] [] s) (sx_ t sl_operatorOf) := by
  refine Eq.trans ?_ (sv_eq (t := t) (K := fun j => aJ (d + 2) 212 241 [vi_ j] [] s) so_operatorOf)
  rw [ce_X1_operatorOf, f_dp (f := 95) hK rfl, Option.bind_some, l_hash, cI_k]
  simp only [f_dp (f := 99) hK rfl, Option.bind_some, l_equals, cI_k, ht, sw_b, ak_key s 1018 rfl (by decide) , ak_key s 1029 rfl (by decide) , ak_key s 1027 rfl (by decide) , ak_key s 1028 rfl (by decide) , ak_key s 1030 rfl (by decide) , ak_key s 1017 rfl (by decide) , ak_key s 1019 rfl (by decide) , ak_key s 1015 rfl (by decide) , ak_key s 1031 rfl (by decide) , ak_key s 1016 rfl (by decide), Option.some.injEq, Sum.inl.injEq]
  rfl
def sg_operatorOf (j : Int32) : Int32 := if j = Int32.ofInt 0 then 0 else if j = Int32.ofInt 1 then 1 else if j = Int32.ofInt 2 then 2 else if j = Int32.ofInt 3 then 3 else if j = Int32.ofInt 4 then 4 else if j = Int32.ofInt 5 then 5 else if j = Int32.ofInt 6 then 6 else if j = Int32.ofInt 7 then 7 else if j = Int32.ofInt 8 then 8 else if j = Int32.ofInt 9 then 9 else 10
theorem s_operatorOf (d : Nat) {x : Nat} {s : as_} {t : List Int32} (hK : (aK_ s x).1 = 26) (ht : aS_ s x = t) : aE (d + 2) 212 [vr_ (some x)] s = some (.inl (some (vi_ (sg_operatorOf (sx_ t sl_operatorOf)))), s) := by
  rw [sj_operatorOf d hK ht]
  show aJ (d + 1 + 1) 212 241 [vi_ (sx_ t sl_operatorOf)] [] s = _
  rw [cj_X1_operatorOf_241]
  exact sw_st (sw_st (sw_st (sw_st (sw_st (sw_st (sw_st (sw_st (sw_st (sw_st rfl)))))))))
def sl_commands : List (Int × Nat × Int32) := [(-1881067216, 1068, 10), (-1787121742, 1057, 1), (-888821141, 1067, 9), (2333, 1056, 0), (69801, 1061, 5), (2193763, 1037, 13), (2342564, 1066, 8), (2571410, 1058, 2), (63463647, 1065, 7), (80906046, 1060, 4), (82563857, 1059, 3), (446837255, 1069, 11), (697350163, 1062, 6), (2073854099, 1070, 12)]
theorem so_commands : sok_ sl_commands = true := by decide +kernel
theorem sj_commands (d : Nat) {x : Nat} {s : as_} {t : List Int32} (hK : (aK_ s x).1 = 26) (ht : aS_ s x = t) : aE (d + 2) 297 [vr_ (some x)] s = (fun j => aJ (d + 2) 297 347 [vi_ j] [] s) (sx_ t sl_commands) := by
  refine Eq.trans ?_ (sv_eq (t := t) (K := fun j => aJ (d + 2) 297 347 [vi_ j] [] s) so_commands)
  rw [ce_X13_commands, f_dp (f := 95) hK rfl, Option.bind_some, l_hash, cI_k]
  simp only [f_dp (f := 99) hK rfl, Option.bind_some, l_equals, cI_k, ht, sw_b, ak_key s 1068 rfl (by decide) , ak_key s 1057 rfl (by decide) , ak_key s 1067 rfl (by decide) , ak_key s 1056 rfl (by decide) , ak_key s 1061 rfl (by decide) , ak_key s 1037 rfl (by decide) , ak_key s 1066 rfl (by decide) , ak_key s 1058 rfl (by decide) , ak_key s 1065 rfl (by decide) , ak_key s 1060 rfl (by decide) , ak_key s 1059 rfl (by decide) , ak_key s 1069 rfl (by decide) , ak_key s 1062 rfl (by decide) , ak_key s 1070 rfl (by decide), Option.some.injEq, Sum.inl.injEq]
  rfl
def sg_commands (j : Int32) : Int32 := if j = Int32.ofInt 0 then 1 else if j = Int32.ofInt 1 then 1 else if j = Int32.ofInt 2 then 1 else if j = Int32.ofInt 3 then 1 else if j = Int32.ofInt 4 then 1 else if j = Int32.ofInt 5 then 1 else if j = Int32.ofInt 6 then 1 else if j = Int32.ofInt 7 then 1 else if j = Int32.ofInt 8 then 1 else if j = Int32.ofInt 9 then 1 else if j = Int32.ofInt 10 then 1 else if j = Int32.ofInt 11 then 1 else if j = Int32.ofInt 12 then 1 else if j = Int32.ofInt 13 then 1 else 0
theorem s_commands (d : Nat) {x : Nat} {s : as_} {t : List Int32} (hK : (aK_ s x).1 = 26) (ht : aS_ s x = t) : aE (d + 2) 297 [vr_ (some x)] s = some (.inl (some (vi_ (sg_commands (sx_ t sl_commands)))), s) := by
  rw [sj_commands d hK ht]
  show aJ (d + 1 + 1) 297 347 [vi_ (sx_ t sl_commands)] [] s = _
  rw [cj_X13_commands_347]
  exact sw_st (sw_st (sw_st (sw_st (sw_st (sw_st (sw_st (sw_st (sw_st (sw_st (sw_st (sw_st (sw_st (sw_st rfl)))))))))))))
def sl_isKeyword : List (Int × Nat × Int32) := [(-1881202277, 1045, 16), (-524341629, 1047, 18), (-522683818, 1046, 17), (2115, 1034, 5), (2135, 1043, 14), (2187, 1038, 9), (2531, 1040, 11), (2683, 1042, 13), (64951, 1033, 4), (68906, 1015, 1), (70454, 1036, 7), (77491, 1032, 3), (81018, 1031, 0), (84852, 1035, 6), (2131257, 1041, 12), (2193763, 1037, 8), (2252384, 1044, 15), (2392604, 1016, 2), (2573853, 1039, 10)]
theorem so_isKeyword : sok_ sl_isKeyword = true := by decide +kernel
theorem sj_isKeyword (d : Nat) {x : Nat} {s : as_} {t : List Int32} (hK : (aK_ s x).1 = 26) (ht : aS_ s x = t) : aE (d + 2) 209 [vr_ (some x)] s = (fun j => aJ (d + 2) 209 448 [vr_ (some x), vi_ j] [] s) (sx_ t sl_isKeyword) := by
  refine Eq.trans ?_ (sv_eq (t := t) (K := fun j => aJ (d + 2) 209 448 [vr_ (some x), vi_ j] [] s) so_isKeyword)
  rw [ce_X1_isKeyword, f_dp (f := 95) hK rfl, Option.bind_some, l_hash, cI_k]
  simp only [f_dp (f := 99) hK rfl, Option.bind_some, l_equals, cI_k, ht, sw_b, ak_key s 1045 rfl (by decide) , ak_key s 1047 rfl (by decide) , ak_key s 1046 rfl (by decide) , ak_key s 1034 rfl (by decide) , ak_key s 1043 rfl (by decide) , ak_key s 1038 rfl (by decide) , ak_key s 1040 rfl (by decide) , ak_key s 1042 rfl (by decide) , ak_key s 1033 rfl (by decide) , ak_key s 1015 rfl (by decide) , ak_key s 1036 rfl (by decide) , ak_key s 1032 rfl (by decide) , ak_key s 1031 rfl (by decide) , ak_key s 1035 rfl (by decide) , ak_key s 1041 rfl (by decide) , ak_key s 1037 rfl (by decide) , ak_key s 1044 rfl (by decide) , ak_key s 1016 rfl (by decide) , ak_key s 1039 rfl (by decide), Option.some.injEq, Sum.inl.injEq]
  rfl
def sl_relationOf : List (Int × Nat × Int32) := [(60, 1023, 2), (61, 1021, 0), (62, 1025, 4), (1921, 1024, 3), (3967, 1022, 1)]
theorem so_relationOf : sok_ sl_relationOf = true := by decide +kernel
def sg_relationOf (j : Int32) : Int32 := if j = Int32.ofInt 0 then 0 else if j = Int32.ofInt 1 then 1 else if j = Int32.ofInt 2 then 2 else if j = Int32.ofInt 3 then 3 else if j = Int32.ofInt 4 then 4 else 5
theorem s_relationOf (d : Nat) {x : Nat} {s : as_} {t : List Int32} (hK : (aK_ s x).1 = 26) (ht : aS_ s x = t) : aE (d + 2) 213 [vr_ (some x)] s = some (.inl (some (vi_ (sg_relationOf (sx_ t sl_relationOf)))), s) := by
  have e : ∀ j : Int32, (if j = Int32.ofInt 0 then some (.inl (some (vi_ 0)), s) else if j = Int32.ofInt 1 then some (.inl (some (vi_ 1)), s) else if j = Int32.ofInt 2 then some (.inl (some (vi_ 2)), s) else if j = Int32.ofInt 3 then some (.inl (some (vi_ 3)), s) else if j = Int32.ofInt 4 then some (.inl (some (vi_ 4)), s) else some (.inl (some (vi_ 5)), s) : cx_O as_) = some (.inl (some (vi_ (sg_relationOf j))), s) := fun j => sw_st (sw_st (sw_st (sw_st (sw_st rfl))))
  rw [← e, ← sv_eq (K := fun j => (if j = Int32.ofInt 0 then some (.inl (some (vi_ 0)), s) else if j = Int32.ofInt 1 then some (.inl (some (vi_ 1)), s) else if j = Int32.ofInt 2 then some (.inl (some (vi_ 2)), s) else if j = Int32.ofInt 3 then some (.inl (some (vi_ 3)), s) else if j = Int32.ofInt 4 then some (.inl (some (vi_ 4)), s) else some (.inl (some (vi_ 5)), s) : cx_O as_)) so_relationOf, ce_X1_relationOf, f_dp (f := 95) hK rfl, Option.bind_some, l_hash, cI_k]
  simp only [f_dp (f := 99) hK rfl, Option.bind_some, l_equals, cI_k, ht, sw_b, ak_key s 1023 rfl (by decide) , ak_key s 1021 rfl (by decide) , ak_key s 1025 rfl (by decide) , ak_key s 1024 rfl (by decide) , ak_key s 1022 rfl (by decide), Option.some.injEq, Sum.inl.injEq]
  rfl
