/-! the words of the language, by gen/kw.py: their numbers are the reference's -/
def kw_ (l : List Int32) : Nat :=
  if l = [71, 76, 79, 66, 65, 76] then 40 else -- GLOBAL
  if l = [77, 65, 78, 73, 70, 69, 83, 84] then 41 else -- MANIFEST
  if l = [83, 84, 65, 84, 73, 67] then 42 else -- STATIC
  if l = [76, 69, 84] then 43 else -- LET
  if l = [65, 78, 68] then 44 else -- AND
  if l = [66, 69] then 45 else -- BE
  if l = [86, 69, 67] then 46 else -- VEC
  if l = [73, 70] then 47 else -- IF
  if l = [68, 79] then 48 else -- DO
  if l = [85, 78, 76, 69, 83, 83] then 49 else -- UNLESS
  if l = [84, 69, 83, 84] then 50 else -- TEST
  if l = [79, 82] then 51 else -- OR
  if l = [87, 72, 73, 76, 69] then 52 else -- WHILE
  if l = [85, 78, 84, 73, 76] then 53 else -- UNTIL
  if l = [70, 79, 82] then 54 else -- FOR
  if l = [84, 79] then 55 else -- TO
  if l = [66, 89] then 56 else -- BY
  if l = [83, 87, 73, 84, 67, 72, 79, 78] then 57 else -- SWITCHON
  if l = [73, 78, 84, 79] then 58 else -- INTO
  if l = [67, 65, 83, 69] then 59 else -- CASE
  if l = [68, 69, 70, 65, 85, 76, 84] then 60 else -- DEFAULT
  if l = [66, 82, 69, 65, 75] then 61 else -- BREAK
  if l = [76, 79, 79, 80] then 62 else -- LOOP
  if l = [69, 78, 68, 67, 65, 83, 69] then 63 else -- ENDCASE
  if l = [82, 69, 84, 85, 82, 78] then 64 else -- RETURN
  if l = [82, 69, 83, 85, 76, 84, 73, 83] then 65 else -- RESULTIS
  if l = [70, 73, 78, 73, 83, 72] then 66 else -- FINISH
  if l = [71, 79, 84, 79] then 67 else -- GOTO
  if l = [82, 69, 80, 69, 65, 84] then 68 else -- REPEAT
  if l = [82, 69, 80, 69, 65, 84, 87, 72, 73, 76, 69] then 69 else -- REPEATWHILE
  if l = [82, 69, 80, 69, 65, 84, 85, 78, 84, 73, 76] then 70 else -- REPEATUNTIL
  if l = [69, 81, 86] then 71 else -- EQV
  if l = [78, 69, 81, 86] then 72 else -- NEQV
  if l = [82, 69, 77] then 73 else -- REM
  if l = [84, 82, 85, 69] then 74 else -- TRUE
  if l = [70, 65, 76, 83, 69] then 75 else -- FALSE
  if l = [86, 65, 76, 79, 70] then 76 else -- VALOF
  if l = [84, 65, 66, 76, 69] then 77 else -- TABLE
  if l = [71, 69, 84] then 78 else -- GET
  if l = [84, 72, 69, 78] then 48 else -- THEN
  if l = [69, 76, 83, 69] then 51 else -- ELSE
  if l = [78, 79, 84] then 33 else -- NOT
  1
theorem kw_st {c : Prop} [Decidable c] {s : mm_S} {a y : Nat} {X : mm_O} (h : X = some (some (vi_ (nI y)), s)) : (if c then some (some (vi_ (nI a)), s) else X) = some (some (vi_ (nI (if c then a else y))), s) := by
  split
  · rfl
  · exact h
set_option maxRecDepth 100000 in
theorem m_keyword (d : Nat) (s : mm_S) (at0 n : Nat) (hn : at0 + n ≤ 6000) : mE (d + 2) 4 [vr_ (some 0), vi_ (nI at0), vi_ (nI n)] s = some (some (vi_ (nI (kw_ (rw_ (s 3) at0 n)))), s) := by
  have k0 : kb_ 78393072828748 0 16 = [71, 76, 79, 66, 65, 76] := by decide +kernel
  have k1 : kb_ 5566816691025171284 0 16 = [77, 65, 78, 73, 70, 69, 83, 84] := by decide +kernel
  have k2 : kb_ 91621338401091 0 16 = [83, 84, 65, 84, 73, 67] := by decide +kernel
  have k3 : kb_ 4998484 0 16 = [76, 69, 84] := by decide +kernel
  have k4 : kb_ 4279876 0 16 = [65, 78, 68] := by decide +kernel
  have k5 : kb_ 16965 0 16 = [66, 69] := by decide +kernel
  have k6 : kb_ 5653827 0 16 = [86, 69, 67] := by decide +kernel
  have k7 : kb_ 18758 0 16 = [73, 70] := by decide +kernel
  have k8 : kb_ 17487 0 16 = [68, 79] := by decide +kernel
  have k9 : kb_ 93794775421779 0 16 = [85, 78, 76, 69, 83, 83] := by decide +kernel
  have k10 : kb_ 1413829460 0 16 = [84, 69, 83, 84] := by decide +kernel
  have k11 : kb_ 20306 0 16 = [79, 82] := by decide +kernel
  have k12 : kb_ 374874917957 0 16 = [87, 72, 73, 76, 69] := by decide +kernel
  have k13 : kb_ 366386366796 0 16 = [85, 78, 84, 73, 76] := by decide +kernel
  have k14 : kb_ 4607826 0 16 = [70, 79, 82] := by decide +kernel
  have k15 : kb_ 21583 0 16 = [84, 79] := by decide +kernel
  have k16 : kb_ 16985 0 16 = [66, 89] := by decide +kernel
  have k17 : kb_ 6005349254376738638 0 16 = [83, 87, 73, 84, 67, 72, 79, 78] := by decide +kernel
  have k18 : kb_ 1229870159 0 16 = [73, 78, 84, 79] := by decide +kernel
  have k19 : kb_ 1128354629 0 16 = [67, 65, 83, 69] := by decide +kernel
  have k20 : kb_ 19216466462461012 0 16 = [68, 69, 70, 65, 85, 76, 84] := by decide +kernel
  have k21 : kb_ 284848111947 0 16 = [66, 82, 69, 65, 75] := by decide +kernel
  have k22 : kb_ 1280266064 0 16 = [76, 79, 79, 80] := by decide +kernel
  have k23 : kb_ 19507828486132549 0 16 = [69, 78, 68, 67, 65, 83, 69] := by decide +kernel
  have k24 : kb_ 90457721098830 0 16 = [82, 69, 84, 85, 82, 78] := by decide +kernel
  have k25 : kb_ 5928236110321043795 0 16 = [82, 69, 83, 85, 76, 84, 73, 83] := by decide +kernel
  have k26 : kb_ 77280659985224 0 16 = [70, 73, 78, 73, 83, 72] := by decide +kernel
  have k27 : kb_ 1196381263 0 16 = [71, 79, 84, 79] := by decide +kernel
  have k28 : kb_ 90457652937044 0 16 = [82, 69, 80, 69, 65, 84] := by decide +kernel
  have k29 : kb_ 5928232742882137928 4803653 16 = [82, 69, 80, 69, 65, 84, 87, 72, 73, 76, 69] := by decide +kernel
  have k30 : kb_ 5928232742882137422 5523788 16 = [82, 69, 80, 69, 65, 84, 85, 78, 84, 73, 76] := by decide +kernel
  have k31 : kb_ 4542806 0 16 = [69, 81, 86] := by decide +kernel
  have k32 : kb_ 1313165654 0 16 = [78, 69, 81, 86] := by decide +kernel
  have k33 : kb_ 5391693 0 16 = [82, 69, 77] := by decide +kernel
  have k34 : kb_ 1414681925 0 16 = [84, 82, 85, 69] := by decide +kernel
  have k35 : kb_ 301743231813 0 16 = [70, 65, 76, 83, 69] := by decide +kernel
  have k36 : kb_ 370462707526 0 16 = [86, 65, 76, 79, 70] := by decide +kernel
  have k37 : kb_ 361872116805 0 16 = [84, 65, 66, 76, 69] := by decide +kernel
  have k38 : kb_ 4670804 0 16 = [71, 69, 84] := by decide +kernel
  have k39 : kb_ 1414022478 0 16 = [84, 72, 69, 78] := by decide +kernel
  have k40 : kb_ 1162629957 0 16 = [69, 76, 83, 69] := by decide +kernel
  have k41 : kb_ 5132116 0 16 = [78, 79, 84] := by decide +kernel
  rw [me_keyword]
  simp only [m_isText _ s _ _ at0 n hn, mm_bI, zb_0, decide_eq_false_iff_not, ite_not, k0, k1, k2, k3, k4, k5, k6, k7, k8, k9, k10, k11, k12, k13, k14, k15, k16, k17, k18, k19, k20, k21, k22, k23, k24, k25, k26, k27, k28, k29, k30, k31, k32, k33, k34, k35, k36, k37, k38, k39, k40, k41]
  unfold kw_
  repeat (refine kw_st ?_)
  rfl
