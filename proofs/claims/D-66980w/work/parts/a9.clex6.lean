/-! ===== the component's scanner: signs, names, a token, all tokens ===== -/
/-- a sign's constant -/
def SgR (g : Nat × Nat) (r : Option Nat) : Prop := (g.1 = 0 → r = none) ∧ (g.1 ≠ 0 → ∃ k, r = some k ∧ ak_K k = (26, 0) ∧ k < 3000 ∧ ak_S k = sgt_ g.1 ∧ (ak_S k).length = g.2)
theorem SgR_k (k : Nat) {m : Nat} {w : Nat} (h : (decide (m ≠ 0) && decide (ak_K k = (26, 0)) && decide (k < 3000) && decide (ak_S k = sgt_ m) && decide ((ak_S k).length = w)) = true) : SgR (m, w) (some k) := by
  simp only [Bool.and_eq_true, decide_eq_true_eq] at h
  obtain ⟨⟨⟨⟨h1, h2⟩, h3⟩, h4⟩, h5⟩ := h
  exact ⟨fun e => absurd e h1, fun _ => ⟨k, rfl, h2, h3, h4, h5⟩⟩
section clex6
variable {s s' : as_} {x A TL SB : Nat} {t : Nat → Nat} {n p line : Nat} {sb : List Int32} {ids : List Nat} {M : Nat → Prop}
set_option maxHeartbeats 1000000 in
theorem x_sign (d : Nat) (ht' : ∀ i, i < n → t i < 256) : ∃ r, aE (d + 1) 264 [vi_ (pkc_ t n p), vi_ (pkc_ t n (p + 1))] s = some (.inl (some (vr_ r)), s) ∧ SgR (sg_ (tx_ t n p) (tx_ t n (p + 1))) r := by
  rw [ce_X10_sign]
  simp only [show Int32.ofInt 33 = (33 : Int32) from rfl, show Int32.ofInt 36 = (36 : Int32) from rfl, show Int32.ofInt 37 = (37 : Int32) from rfl, show Int32.ofInt 38 = (38 : Int32) from rfl, show Int32.ofInt 40 = (40 : Int32) from rfl, show Int32.ofInt 41 = (41 : Int32) from rfl, show Int32.ofInt 42 = (42 : Int32) from rfl, show Int32.ofInt 43 = (43 : Int32) from rfl, show Int32.ofInt 44 = (44 : Int32) from rfl, show Int32.ofInt 45 = (45 : Int32) from rfl, show Int32.ofInt 47 = (47 : Int32) from rfl, show Int32.ofInt 58 = (58 : Int32) from rfl, show Int32.ofInt 59 = (59 : Int32) from rfl, show Int32.ofInt 60 = (60 : Int32) from rfl, show Int32.ofInt 61 = (61 : Int32) from rfl, show Int32.ofInt 62 = (62 : Int32) from rfl, show Int32.ofInt 64 = (64 : Int32) from rfl, show Int32.ofInt 124 = (124 : Int32) from rfl, show Int32.ofInt 126 = (126 : Int32) from rfl, pk_tx (q := p) ht' 33 (by decide) (by decide), pk_tx (q := p) ht' 36 (by decide) (by decide), pk_tx (q := p) ht' 37 (by decide) (by decide), pk_tx (q := p) ht' 38 (by decide) (by decide), pk_tx (q := p) ht' 40 (by decide) (by decide), pk_tx (q := p) ht' 41 (by decide) (by decide), pk_tx (q := p) ht' 42 (by decide) (by decide), pk_tx (q := p) ht' 43 (by decide) (by decide), pk_tx (q := p) ht' 44 (by decide) (by decide), pk_tx (q := p) ht' 45 (by decide) (by decide), pk_tx (q := p) ht' 47 (by decide) (by decide), pk_tx (q := p) ht' 58 (by decide) (by decide), pk_tx (q := p) ht' 59 (by decide) (by decide), pk_tx (q := p) ht' 60 (by decide) (by decide), pk_tx (q := p) ht' 61 (by decide) (by decide), pk_tx (q := p) ht' 62 (by decide) (by decide), pk_tx (q := p) ht' 64 (by decide) (by decide), pk_tx (q := p) ht' 124 (by decide) (by decide), pk_tx (q := p) ht' 126 (by decide) (by decide), pk_tx (q := p + 1) ht' 40 (by decide) (by decide), pk_tx (q := p + 1) ht' 41 (by decide) (by decide), pk_tx (q := p + 1) ht' 61 (by decide) (by decide), pk_tx (q := p + 1) ht' 60 (by decide) (by decide), pk_tx (q := p + 1) ht' 62 (by decide) (by decide)]
  generalize tx_ t n p = a
  generalize tx_ t n (p + 1) = b
  by_cases h33 : a = 33
  · subst h33
    have e : sg_ 33 b = (18, 1) := by unfold sg_; simp
    rw [e]
    exact ⟨some 1049, by simp, SgR_k 1049 (by decide +kernel)⟩
  by_cases h36 : a = 36
  · subst h36
    by_cases b40 : b = 40
    · subst b40
      have e : sg_ 36 40 = (10, 2) := by decide
      rw [e]
      exact ⟨some 1051, by simp, SgR_k 1051 (by decide +kernel)⟩
    by_cases b41 : b = 41
    · subst b41
      have e : sg_ 36 41 = (11, 2) := by decide
      rw [e]
      exact ⟨some 1075, by simp, SgR_k 1075 (by decide +kernel)⟩
    have e : sg_ 36 b = (0, 1) := by unfold sg_; simp [b40, b41]
    rw [e]
    exact ⟨none, by simp [b40, b41], fun _ => rfl, fun q => absurd rfl q⟩
  by_cases h37 : a = 37
  · subst h37
    have e : sg_ 37 b = (19, 1) := by unfold sg_; simp
    rw [e]
    exact ⟨some 1084, by simp, SgR_k 1084 (by decide +kernel)⟩
  by_cases h38 : a = 38
  · subst h38
    have e : sg_ 38 b = (34, 1) := by unfold sg_; simp
    rw [e]
    exact ⟨some 1018, by simp, SgR_k 1018 (by decide +kernel)⟩
  by_cases h40 : a = 40
  · subst h40
    have e : sg_ 40 b = (12, 1) := by unfold sg_; simp
    rw [e]
    exact ⟨some 1048, by simp, SgR_k 1048 (by decide +kernel)⟩
  by_cases h41 : a = 41
  · subst h41
    have e : sg_ 41 b = (13, 1) := by unfold sg_; simp
    rw [e]
    exact ⟨some 1076, by simp, SgR_k 1076 (by decide +kernel)⟩
  by_cases h42 : a = 42
  · subst h42
    have e : sg_ 42 b = (23, 1) := by unfold sg_; simp
    rw [e]
    exact ⟨some 1029, by simp, SgR_k 1029 (by decide +kernel)⟩
  by_cases h43 : a = 43
  · subst h43
    have e : sg_ 43 b = (21, 1) := by unfold sg_; simp
    rw [e]
    exact ⟨some 1027, by simp, SgR_k 1027 (by decide +kernel)⟩
  by_cases h44 : a = 44
  · subst h44
    have e : sg_ 44 b = (14, 1) := by unfold sg_; simp
    rw [e]
    exact ⟨some 1082, by simp, SgR_k 1082 (by decide +kernel)⟩
  by_cases h45 : a = 45
  · subst h45
    by_cases b62 : b = 62
    · subst b62
      have e : sg_ 45 62 = (36, 2) := by decide
      rw [e]
      exact ⟨some 1081, by simp, SgR_k 1081 (by decide +kernel)⟩
    have e : sg_ 45 b = (22, 1) := by unfold sg_; simp [b62]
    rw [e]
    exact ⟨some 1028, by simp [b62], SgR_k 1028 (by decide +kernel)⟩
  by_cases h47 : a = 47
  · subst h47
    have e : sg_ 47 b = (24, 1) := by unfold sg_; simp
    rw [e]
    exact ⟨some 1030, by simp, SgR_k 1030 (by decide +kernel)⟩
  by_cases h58 : a = 58
  · subst h58
    by_cases b61 : b = 61
    · subst b61
      have e : sg_ 58 61 = (16, 2) := by decide
      rw [e]
      exact ⟨some 1078, by simp, SgR_k 1078 (by decide +kernel)⟩
    have e : sg_ 58 b = (17, 1) := by unfold sg_; simp [b61]
    rw [e]
    exact ⟨some 1079, by simp [b61], SgR_k 1079 (by decide +kernel)⟩
  by_cases h59 : a = 59
  · subst h59
    have e : sg_ 59 b = (15, 1) := by unfold sg_; simp
    rw [e]
    exact ⟨some 1083, by simp, SgR_k 1083 (by decide +kernel)⟩
  by_cases h60 : a = 60
  · subst h60
    by_cases b61 : b = 61
    · subst b61
      have e : sg_ 60 61 = (28, 2) := by decide
      rw [e]
      exact ⟨some 1024, by simp, SgR_k 1024 (by decide +kernel)⟩
    by_cases b60 : b = 60
    · subst b60
      have e : sg_ 60 60 = (31, 2) := by decide
      rw [e]
      exact ⟨some 1019, by simp, SgR_k 1019 (by decide +kernel)⟩
    have e : sg_ 60 b = (27, 1) := by unfold sg_; simp [b61, b60]
    rw [e]
    exact ⟨some 1023, by simp [b61, b60], SgR_k 1023 (by decide +kernel)⟩
  by_cases h61 : a = 61
  · subst h61
    have e : sg_ 61 b = (25, 1) := by unfold sg_; simp
    rw [e]
    exact ⟨some 1021, by simp, SgR_k 1021 (by decide +kernel)⟩
  by_cases h62 : a = 62
  · subst h62
    by_cases b61 : b = 61
    · subst b61
      have e : sg_ 62 61 = (30, 2) := by decide
      rw [e]
      exact ⟨some 1026, by simp, SgR_k 1026 (by decide +kernel)⟩
    by_cases b62 : b = 62
    · subst b62
      have e : sg_ 62 62 = (32, 2) := by decide
      rw [e]
      exact ⟨some 1020, by simp, SgR_k 1020 (by decide +kernel)⟩
    have e : sg_ 62 b = (29, 1) := by unfold sg_; simp [b61, b62]
    rw [e]
    exact ⟨some 1025, by simp [b61, b62], SgR_k 1025 (by decide +kernel)⟩
  by_cases h64 : a = 64
  · subst h64
    have e : sg_ 64 b = (20, 1) := by unfold sg_; simp
    rw [e]
    exact ⟨some 1050, by simp, SgR_k 1050 (by decide +kernel)⟩
  by_cases h124 : a = 124
  · subst h124
    have e : sg_ 124 b = (35, 1) := by unfold sg_; simp
    rw [e]
    exact ⟨some 1017, by simp, SgR_k 1017 (by decide +kernel)⟩
  by_cases h126 : a = 126
  · subst h126
    by_cases b61 : b = 61
    · subst b61
      have e : sg_ 126 61 = (26, 2) := by decide
      rw [e]
      exact ⟨some 1022, by simp, SgR_k 1022 (by decide +kernel)⟩
    have e : sg_ 126 b = (33, 1) := by unfold sg_; simp [b61]
    rw [e]
    exact ⟨some 1080, by simp [b61], SgR_k 1080 (by decide +kernel)⟩
  have e : sg_ a b = (0, 1) := by unfold sg_; simp [h33, h36, h37, h38, h40, h41, h42, h43, h44, h45, h47, h58, h59, h60, h61, h62, h64, h124, h126]
  rw [e]
  exact ⟨none, by simp [h33, h36, h37, h38, h40, h41, h42, h43, h44, h45, h47, h58, h59, h60, h61, h62, h64, h124, h126], fun _ => rfl, fun q => absurd rfl q⟩
theorem x_string (d : Nat) (h : LX s x A TL SB t n p line sb ids) (hp : p < n) (hc : tx_ t n p = 34) : TkR x A TL SB t n line ids s p (aE (d + 4) 263 [vr_ (some x)] s) (on_ t n p) := by
  obtain ⟨b, ⟨k1, k2, k3, k4⟩, ⟨i1, i2, i3⟩, ⟨r1, r2, r3⟩, ⟨hn, ht⟩, e1, e2⟩ := id h
  have h1 := LX_at h (p + 1)
  have eo : on_ t n p = (match sr_ t n (n + 1) (p + 1) 0 with
    | none => none
    | some r => some ((4, p, 0, [] ++ r.1), r.2)) := by
    unfold on_
    rw [hc, show cL_ 34 = false from by decide, show cD_ 34 = false from by decide, if_neg (by decide), if_neg (by decide), if_neg (by decide), if_neg (by decide), if_pos rfl]
    cases sr_ t n (n + 1) (p + 1) 0 <;> rfl
  rw [eo, ce_X10_string, f_gi (f := 80) k1 rfl, Option.bind_some, Option.bind_some, i2, nI_1, f_pi (f := 80) k1 rfl rfl, Option.bind_some, f_gr (f := 83) (s := awI s x 80 (nI (p + 1))) k1 rfl, Option.bind_some, h1.2.2.2.1.2.2, f_dp (f := 118) (s := awI s x 80 (nI (p + 1))) k4 rfl, Option.bind_some, l_sbZero, cV_k]
  exact x_str_25 d (pl := p) (s0 := s) (n + 1) (p + 1) 0 _ [] (by omega) (by omega) rfl (by omega) (by omega) (LX_sb h1 []) (Kp_S (Kp_I Kp_rf 80 _ (Or.inl (Or.inl rfl))) _ (Or.inl (Or.inr rfl))) (Rm_wk Rm_rf (by omega) (by omega))
/-! words of the language -/
def KW_ : List (List Int32) := [[71, 76, 79, 66, 65, 76], [77, 65, 78, 73, 70, 69, 83, 84], [83, 84, 65, 84, 73, 67], [76, 69, 84], [65, 78, 68], [66, 69], [86, 69, 67], [73, 70], [68, 79], [85, 78, 76, 69, 83, 83], [84, 69, 83, 84], [79, 82], [87, 72, 73, 76, 69], [85, 78, 84, 73, 76], [70, 79, 82], [84, 79], [66, 89], [83, 87, 73, 84, 67, 72, 79, 78], [73, 78, 84, 79], [67, 65, 83, 69], [68, 69, 70, 65, 85, 76, 84], [66, 82, 69, 65, 75], [76, 79, 79, 80], [69, 78, 68, 67, 65, 83, 69], [82, 69, 84, 85, 82, 78], [82, 69, 83, 85, 76, 84, 73, 83], [70, 73, 78, 73, 83, 72], [71, 79, 84, 79], [82, 69, 80, 69, 65, 84], [82, 69, 80, 69, 65, 84, 87, 72, 73, 76, 69], [82, 69, 80, 69, 65, 84, 85, 78, 84, 73, 76], [69, 81, 86], [78, 69, 81, 86], [82, 69, 77], [84, 82, 85, 69], [70, 65, 76, 83, 69], [86, 65, 76, 79, 70], [84, 65, 66, 76, 69], [71, 69, 84], [84, 72, 69, 78], [69, 76, 83, 69], [78, 79, 84]]
theorem kw_in : (KW_.all fun l => decide (kw_ l ≠ 1)) = true := by decide +kernel
theorem kw_out {l : List Int32} (h : l ∉ KW_) : kw_ l = 1 := by
  have hn : ∀ y ∈ KW_, ¬ l = y := fun y hy e => h (e ▸ hy)
  unfold kw_
  rw [if_neg (hn [71, 76, 79, 66, 65, 76] (by decide))]
  rw [if_neg (hn [77, 65, 78, 73, 70, 69, 83, 84] (by decide))]
  rw [if_neg (hn [83, 84, 65, 84, 73, 67] (by decide))]
  rw [if_neg (hn [76, 69, 84] (by decide))]
  rw [if_neg (hn [65, 78, 68] (by decide))]
  rw [if_neg (hn [66, 69] (by decide))]
  rw [if_neg (hn [86, 69, 67] (by decide))]
  rw [if_neg (hn [73, 70] (by decide))]
  rw [if_neg (hn [68, 79] (by decide))]
  rw [if_neg (hn [85, 78, 76, 69, 83, 83] (by decide))]
  rw [if_neg (hn [84, 69, 83, 84] (by decide))]
  rw [if_neg (hn [79, 82] (by decide))]
  rw [if_neg (hn [87, 72, 73, 76, 69] (by decide))]
  rw [if_neg (hn [85, 78, 84, 73, 76] (by decide))]
  rw [if_neg (hn [70, 79, 82] (by decide))]
  rw [if_neg (hn [84, 79] (by decide))]
  rw [if_neg (hn [66, 89] (by decide))]
  rw [if_neg (hn [83, 87, 73, 84, 67, 72, 79, 78] (by decide))]
  rw [if_neg (hn [73, 78, 84, 79] (by decide))]
  rw [if_neg (hn [67, 65, 83, 69] (by decide))]
  rw [if_neg (hn [68, 69, 70, 65, 85, 76, 84] (by decide))]
  rw [if_neg (hn [66, 82, 69, 65, 75] (by decide))]
  rw [if_neg (hn [76, 79, 79, 80] (by decide))]
  rw [if_neg (hn [69, 78, 68, 67, 65, 83, 69] (by decide))]
  rw [if_neg (hn [82, 69, 84, 85, 82, 78] (by decide))]
  rw [if_neg (hn [82, 69, 83, 85, 76, 84, 73, 83] (by decide))]
  rw [if_neg (hn [70, 73, 78, 73, 83, 72] (by decide))]
  rw [if_neg (hn [71, 79, 84, 79] (by decide))]
  rw [if_neg (hn [82, 69, 80, 69, 65, 84] (by decide))]
  rw [if_neg (hn [82, 69, 80, 69, 65, 84, 87, 72, 73, 76, 69] (by decide))]
  rw [if_neg (hn [82, 69, 80, 69, 65, 84, 85, 78, 84, 73, 76] (by decide))]
  rw [if_neg (hn [69, 81, 86] (by decide))]
  rw [if_neg (hn [78, 69, 81, 86] (by decide))]
  rw [if_neg (hn [82, 69, 77] (by decide))]
  rw [if_neg (hn [84, 82, 85, 69] (by decide))]
  rw [if_neg (hn [70, 65, 76, 83, 69] (by decide))]
  rw [if_neg (hn [86, 65, 76, 79, 70] (by decide))]
  rw [if_neg (hn [84, 65, 66, 76, 69] (by decide))]
  rw [if_neg (hn [71, 69, 84] (by decide))]
  rw [if_neg (hn [84, 72, 69, 78] (by decide))]
  rw [if_neg (hn [69, 76, 83, 69] (by decide))]
  rw [if_neg (hn [78, 79, 84] (by decide))]
theorem sx_in {u : List Int32} : ∀ {l : List (Int × Nat × Int32)}, sx_ u l ≠ -1 → ∃ e ∈ l, ak_S e.2.1 = u
  | [], h => absurd rfl h
  | (a, c, j) :: r, h => by
    unfold sx_ at h
    by_cases q : ak_S c = u
    · exact ⟨(a, c, j), by simp, q⟩
    · rw [if_neg q] at h
      obtain ⟨e, he, q⟩ := sx_in h
      exact ⟨e, by simp [he], q⟩
def ik_ (u : List Int32) : Bool := decide (sx_ u sl_isKeyword ≠ -1) || (decide (65 ≤ u.headD 0 ∧ u.headD 0 ≤ 90) && (decide (sg_begins (sx_ u sl_begins) ≠ 0) || decide (sg_ends (sx_ u sl_ends) ≠ 0)))
theorem ik_in : (KW_.all fun l => ik_ l) = true := by decide +kernel
theorem ik_o1 : (sl_isKeyword.all fun e => KW_.elem (ak_S e.2.1)) = true := by decide +kernel
theorem ik_o2 : (sl_begins.all fun e => KW_.elem (ak_S e.2.1) || !decide (65 ≤ (ak_S e.2.1).headD 0 ∧ (ak_S e.2.1).headD 0 ≤ 90)) = true := by decide +kernel
theorem ik_o3 : (sl_ends.all fun e => KW_.elem (ak_S e.2.1) || !decide (65 ≤ (ak_S e.2.1).headD 0 ∧ (ak_S e.2.1).headD 0 ≤ 90)) = true := by decide +kernel
theorem ik_kw (u : List Int32) : ik_ u = decide (kw_ u ≠ 1) := by
  by_cases h : u ∈ KW_
  · have h1 := List.all_eq_true.mp kw_in u h
    have h2 := List.all_eq_true.mp ik_in u h
    simp only [decide_eq_true_eq] at h1
    rw [h2, decide_eq_true h1]
  · rw [kw_out h]
    have e1 : sx_ u sl_isKeyword = -1 := by
      refine Decidable.byContradiction fun q => ?_
      obtain ⟨e, he, rfl⟩ := sx_in q
      exact h (List.elem_iff.mp (List.all_eq_true.mp ik_o1 e he))
    have e2 : decide (65 ≤ u.headD 0 ∧ u.headD 0 ≤ 90) = true → sx_ u sl_begins = -1 := fun hd => by
      refine Decidable.byContradiction fun q => ?_
      obtain ⟨e, he, rfl⟩ := sx_in q
      have := List.all_eq_true.mp ik_o2 e he
      rw [hd, Bool.not_true, Bool.or_false] at this
      exact h (List.elem_iff.mp this)
    have e3 : decide (65 ≤ u.headD 0 ∧ u.headD 0 ≤ 90) = true → sx_ u sl_ends = -1 := fun hd => by
      refine Decidable.byContradiction fun q => ?_
      obtain ⟨e, he, rfl⟩ := sx_in q
      have := List.all_eq_true.mp ik_o3 e he
      rw [hd, Bool.not_true, Bool.or_false] at this
      exact h (List.elem_iff.mp this)
    unfold ik_
    rw [e1]
    cases hd : decide (65 ≤ u.headD 0 ∧ u.headD 0 ≤ 90) with
    | false => rfl
    | true =>
      rw [e2 hd, e3 hd]
      rfl
end clex6
