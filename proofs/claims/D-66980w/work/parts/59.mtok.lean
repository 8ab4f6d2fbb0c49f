/-! ===== tokens of the reference ===== -/
/-- whether x is one of a row of numbers -/
def ch_ {α : Type} : List Nat → Int32 → α → α → α
  | [], _, _, b => b
  | c :: l, x, a, b => if x = nI c then a else ch_ l x a b
theorem ch_el {α : Type} {k : Nat} (hk : k < 2 ^ 31) (a b : α) : ∀ l : List Nat, (l.all fun c => decide (c < 2 ^ 31)) = true → ch_ l (nI k) a b = if l.elem k = true then a else b
  | [], _ => rfl
  | c :: l, h => by
    simp only [List.all_cons, Bool.and_eq_true, decide_eq_true_eq] at h
    unfold ch_
    simp only [neq_ hk h.1]
    by_cases e : k = c
    · rw [if_pos e, if_pos (by simp [e])]
    · have e2 : (c :: l).elem k = l.elem k := by
        rw [List.elem_cons, show (k == c) = false from beq_eq_false_iff_ne.mpr e]
      rw [if_neg e, ch_el hk a b l h.2, e2]
theorem zb_if {s : mm_S} (b : Bool) : (if b = true then (some (some (vi_ 1), s) : mm_O) else some (some (vi_ 0), s)) = some (some (vi_ (zb_ b)), s) := by cases b <;> rfl
def eL_ (k : Nat) : Bool := [1, 2, 4, 11, 13, 74, 75, 61, 62, 63, 64, 66].elem k
def dl_ (k : Nat) : Bool := [10, 47, 49, 50, 52, 53, 54, 57, 61, 62, 63, 64, 65, 66, 67].elem k
def bE_ (k : Nat) : Bool := [1, 2, 4, 12, 18, 20, 10, 74, 75, 76, 77, 59, 60].elem k || (dl_ k && !([10].elem k)) || [43, 40, 41, 42].elem k
theorem m_endsLine (d k : Nat) (s : mm_S) (hk : k < 2 ^ 31) : mE (d + 1) 9 [vi_ (nI k)] s = some (some (vi_ (zb_ (eL_ k))), s) := by
  rw [me_endsLine]
  refine (ch_el hk _ _ [1, 2, 4, 11, 13, 74, 75, 61, 62, 63, 64, 66] (by decide)).trans ?_
  exact zb_if (eL_ k)
theorem m_isDoless (d k : Nat) (s : mm_S) (hk : k < 2 ^ 31) : mE (d + 1) 11 [vi_ (nI k)] s = some (some (vi_ (zb_ (dl_ k))), s) := by
  rw [me_isDoless]
  refine (ch_el hk _ _ [10, 47, 49, 50, 52, 53, 54, 57, 61, 62, 63, 64, 65, 66, 67] (by decide)).trans ?_
  exact zb_if (dl_ k)
theorem m_isBeginning (d k : Nat) (s : mm_S) (hk : k < 2 ^ 31) : mE (d + 2) 10 [vi_ (nI k)] s = some (some (vi_ (zb_ (bE_ k))), s) := by
  have e92 : mJ (d + 2) 10 92 [vi_ (nI k)] [] s = some (some (vi_ (zb_ ([43, 40, 41, 42].elem k))), s) := by
    rw [mj_isBeginning_92]
    refine (ch_el hk _ _ [43, 40, 41, 42] (by decide)).trans ?_
    exact zb_if _
  rw [me_isBeginning, m_isDoless d k s hk]
  simp only [mm_bI, zb_0]
  refine (ch_el hk _ _ [1, 2, 4, 12, 18, 20, 10, 74, 75, 76, 77, 59, 60] (by decide)).trans ?_
  unfold bE_
  cases h1 : [1, 2, 4, 12, 18, 20, 10, 74, 75, 76, 77, 59, 60].elem k with
  | true => rfl
  | false =>
    simp only [Bool.false_eq_true, if_false, Bool.false_or]
    cases h2 : dl_ k with
    | false =>
      simp only [if_true, Bool.false_and, Bool.false_or]
      exact e92
    | true =>
      simp only [Bool.true_eq_false, if_false, Bool.true_and, neq1_ 10 hk (by decide)]
      by_cases h3 : k = 10
      · rw [if_pos h3, e92, h3]
        rfl
      · rw [if_neg h3]
        have : [10].elem k = false := by simp [h3]
        rw [this]
        rfl
/-- a token: its kind, its place, its number, its text -/
abbrev tk_ : Type := Nat × Nat × Int32 × List Int32
/-- one token more: kinds, lines of the last and of this one; ahead of it a ; where one is understood -/
def ta_ (T : List tk_) (last line : Nat) (x : tk_) : List tk_ := match T.getLast? with
  | none => T ++ [x]
  | some y => if last < line ∧ eL_ y.1 = true ∧ bE_ x.1 = true then T ++ [(15, x.2.1, 0, [])] ++ [x] else T ++ [x]
/-- how the number of a token stands in the reference -/
def mTv (L S : List (List Int32)) (x : tk_) (v : Int32) : Prop :=
  (x.1 = 2 → v = x.2.2.1) ∧ (x.1 = 1 → ∃ j, v = nI j ∧ L[j]? = some x.2.2.2) ∧ (x.1 = 4 → ∃ j, v = nI j ∧ S[j]? = some x.2.2.2) ∧ (x.1 = 10 ∨ x.1 = 11 → if x.2.2.2 = [] then v = -1 else ∃ j, v = nI j ∧ L[j]? = some x.2.2.2)
def mTk (s : mm_S) (L S : List (List Int32)) (T : List tk_) : Prop := s 0 8 = nI T.length ∧ ∀ (j : Nat) (x : tk_), T[j]? = some x → x.1 < 100 ∧ s 9 j = nI x.1 ∧ s 10 j = nI x.2.1 ∧ mTv L S x (s 11 j)
theorem mTv_up {L L' S S' : List (List Int32)} {x : tk_} {v : Int32} (h : mTv L S x v) (hL : L <+: L') (hS : S <+: S') : mTv L' S' x v := by
  have go : ∀ {A B : List (List Int32)} {j : Nat} {y : List Int32}, A <+: B → A[j]? = some y → B[j]? = some y := fun {A B j y} hp hy => by
    obtain ⟨w, rfl⟩ := hp
    rw [List.getElem?_append_left (List.getElem?_eq_some_iff.mp hy).1]
    exact hy
  obtain ⟨h1, h2, h3, h4⟩ := h
  refine ⟨h1, fun e => ?_, fun e => ?_, fun e => ?_⟩
  · obtain ⟨j, a, b⟩ := h2 e
    exact ⟨j, a, go hL b⟩
  · obtain ⟨j, a, b⟩ := h3 e
    exact ⟨j, a, go hS b⟩
  · have := h4 e
    split
    · rename_i q; rw [if_pos q] at this; exact this
    · rename_i q
      rw [if_neg q] at this
      obtain ⟨j, a, b⟩ := this
      exact ⟨j, a, go hL b⟩
theorem mTk_add {s s' : mm_S} {L S : List (List Int32)} {T : List tk_} {x : tk_} (h : mTk s L S T) (h8 : s' 0 8 = nI (T.length + 1)) (hk : x.1 < 100) (h9 : s' 9 T.length = nI x.1) (h10 : s' 10 T.length = nI x.2.1) (h11 : mTv L S x (s' 11 T.length))
    (hu : ∀ j, j < T.length → s' 9 j = s 9 j ∧ s' 10 j = s 10 j ∧ s' 11 j = s 11 j) : mTk s' L S (T ++ [x]) := by
  refine ⟨by simpa using h8, fun j y hy => ?_⟩
  by_cases hj : j < T.length
  · rw [List.getElem?_append_left hj] at hy
    obtain ⟨a, b, c, e⟩ := h.2 j y hy
    obtain ⟨u1, u2, u3⟩ := hu j hj
    rw [u1, u2, u3]
    exact ⟨a, b, c, e⟩
  · have hj2 : j = T.length := by
      have := (List.getElem?_eq_some_iff.mp hy).1
      simp at this
      omega
    subst hj2
    simp at hy
    subst hy
    exact ⟨hk, h9, h10, h11⟩
theorem m_token_73 (d : Nat) (x : tk_) (v : Int32) {s : mm_S} {L S : List (List Int32)} {T : List tk_} {line : Nat} (h : mTk s L S T) (hT : T.length < 12100) (hk : x.1 < 100) (hl : s 0 19 = nI line) (hv : mTv L S x v) :
    ∃ s', mJ (d + 1) 12 73 [vr_ (some 0), vi_ (nI x.1), vi_ (nI x.2.1), vi_ v] [] s = some (none, s') ∧ mTk s' L S (T ++ [x]) ∧ s' 0 20 = nI line := by
  rw [mj_token_73, h.1, mm_w_n hT (by decide), Option.bind_some]
  have e1 : mm_u s 9 T.length (nI x.1) 0 8 = nI T.length := by rw [mu_n (by omega), h.1]
  rw [e1, mm_w_n hT (by decide), Option.bind_some]
  have e2 : mm_u (mm_u s 9 T.length (nI x.1)) 10 T.length (nI x.2.1) 0 8 = nI T.length := by rw [mu_n (by omega), e1]
  rw [e2, mm_w_n hT (by decide), Option.bind_some]
  refine ⟨_, rfl, mTk_add h ?_ hk ?_ ?_ ?_ ?_, ?_⟩
  · rw [mu_n (by omega), mu_s, mu_n (by omega), e2, nI_1]
  · rw [mu_n (by omega), mu_n (by omega), mu_n (by omega), mu_n (by omega), mu_s]
  · rw [mu_n (by omega), mu_n (by omega), mu_n (by omega), mu_s]
  · rw [mu_n (by omega), mu_n (by omega), mu_s]; exact hv
  · intro j hj
    refine ⟨?_, ?_, ?_⟩ <;> rw [mu_n (by omega), mu_n (by omega), mu_n (by omega), mu_n (by omega), mu_n (by omega)]
  · rw [mu_s, mu_n (by omega), mu_n (by omega), mu_n (by omega), hl]
theorem m_token (d : Nat) (x : tk_) (v : Int32) {s : mm_S} {L S : List (List Int32)} {T : List tk_} {last line : Nat} (h : mTk s L S T) (hT : T.length + 1 < 12100) (hk : x.1 < 100) (h19 : s 0 19 = nI line) (h20 : s 0 20 = nI last) (hl : last < 2 ^ 31) (hl2 : line < 2 ^ 31) (hv : mTv L S x v) :
    ∃ s', mE (d + 3) 12 [vr_ (some 0), vi_ (nI x.1), vi_ (nI x.2.1), vi_ v] s = some (none, s') ∧ mTk s' L S (ta_ T last line x) ∧ s' 0 20 = nI line := by
  have base : ta_ T last line x = T ++ [x] → ∃ s', mJ (d + 3) 12 73 [vr_ (some 0), vi_ (nI x.1), vi_ (nI x.2.1), vi_ v] [] s = some (none, s') ∧ mTk s' L S (ta_ T last line x) ∧ s' 0 20 = nI line := fun e2 => by
    rw [e2]
    exact m_token_73 (d + 2) x v h (by omega) hk h19 hv
  rw [me_token, h.1, h19, h20]
  simp only [nlt2_ 0 (show T.length < 2 ^ 31 by omega) (by decide), nlt_ hl hl2]
  cases hg : T.getLast? with
  | none =>
    have : T = [] := List.getLast?_eq_none_iff.mp hg
    rw [if_neg (by rw [this]; simp)]
    exact base (by unfold ta_; rw [hg])
  | some y =>
    have hne : 0 < T.length := by
      cases T with
      | nil => cases hg
      | cons _ _ => simp
    have hy : T[T.length - 1]? = some y := by rw [← hg, List.getLast?_eq_getElem?]
    obtain ⟨y1, y2, y3, y4⟩ := h.2 _ _ hy
    rw [if_pos hne]
    have hta : ta_ T last line x = if last < line ∧ eL_ y.1 = true ∧ bE_ x.1 = true then T ++ [(15, x.2.1, 0, [])] ++ [x] else T ++ [x] := by unfold ta_; rw [hg]
    by_cases hll : last < line
    · rw [if_pos hll, show (nI T.length - 1 : Int32) = nI (T.length - 1) from nsb_ (a := T.length) (b := 1) (by omega), mm_a_n (by omega) (by decide), Option.bind_some, y2, m_endsLine (d + 1) _ _ (by omega)]
      simp only [mm_bI, zb_0]
      cases he : eL_ y.1 with
      | false =>
        rw [if_pos rfl]
        exact base (by rw [hta, he]; simp)
      | true =>
        rw [if_neg (by decide), m_isBeginning d _ _ (by omega)]
        simp only [zb_0]
        cases hb : bE_ x.1 with
        | false =>
          rw [if_pos rfl]
          exact base (by rw [hta, hb]; simp)
        | true =>
          rw [if_neg (by decide), h.1, mm_w_n (by omega) (by decide), Option.bind_some]
          have e1 : mm_u s 9 T.length 15 0 8 = nI T.length := by rw [mu_n (by omega), h.1]
          rw [e1, mm_w_n (by omega) (by decide), Option.bind_some]
          have e2 : mm_u (mm_u s 9 T.length 15) 10 T.length (nI x.2.1) 0 8 = nI T.length := by rw [mu_n (by omega), e1]
          rw [e2, hta, if_pos ⟨hll, he, hb⟩]
          have h2 : mTk (mm_u (mm_u (mm_u s 9 T.length 15) 10 T.length (nI x.2.1)) 0 8 (nI T.length + 1)) L S (T ++ [(15, x.2.1, 0, [])]) := by
            refine mTk_add h ?_ (show 15 < 100 by decide) ?_ ?_ ?_ ?_
            · rw [mu_s, nI_1]
            · rw [mu_n (by omega), mu_n (by omega), mu_s]; rfl
            · rw [mu_n (by omega), mu_s]
            · exact ⟨fun e => absurd e (show ¬ 15 = 2 by decide), fun e => absurd e (show ¬ 15 = 1 by decide), fun e => absurd e (show ¬ 15 = 4 by decide), fun e => absurd e (show ¬ (15 = 10 ∨ 15 = 11) by decide)⟩
            · intro j hj
              refine ⟨?_, ?_, ?_⟩ <;> rw [mu_n (by omega), mu_n (by omega), mu_n (by omega)]
          exact m_token_73 (d + 2) x v h2 (by simp; omega) hk (by rw [mu_n (by omega), mu_n (by omega), mu_n (by omega), h19]) hv
    · rw [if_neg hll]
      exact base (by rw [hta, if_neg (by omega)])
