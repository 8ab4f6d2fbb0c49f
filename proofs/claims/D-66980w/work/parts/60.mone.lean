/-! ===== one token of the reference ===== -/
theorem fr_0 {W : Nat} {s s' : mm_S} (h : fr_ W s s') (k : Nat) (hk : Nat.testBit W k = false) : s' 0 k = s 0 k := h 0 k (by rw [if_pos rfl]; exact hk)
theorem fr_a {W : Nat} {s s' : mm_S} (h : fr_ W s s') (k : Nat) (h0 : k ≠ 0) (hk : Nat.testBit W k = false) : s' k = s k := funext fun i => h k i (by rw [if_neg h0]; exact hk)
theorem mSrc_e {s s' : mm_S} {t : Nat → Nat} {n : Nat} (h : mSrc s t n) (e3 : s' 3 = s 3) (e4 : s' 0 4 = s 0 4) : mSrc s' t n := ⟨e4.trans h.1, h.2.1, fun p hp => by rw [e3]; exact h.2.2 p hp⟩
theorem mNm_e {s s' : mm_S} {L : List (List Int32)} (h : mNm s L) (e3 : s' 3 = s 3) (e5 : s' 0 5 = s 0 5) (e6 : s' 6 = s 6) (e7 : s' 7 = s 7) : mNm s' L := ⟨e5.trans h.1, fun j x hx => by rw [e3, e6, e7]; exact h.2 j x hx⟩
theorem mSt_e {s s' : mm_S} {S : List (List Int32)} {tot : Nat} (h : mSt s S tot) (e14 : s' 14 = s 14) (e15 : s' 0 15 = s 0 15) (e16 : s' 16 = s 16) (e17 : s' 17 = s 17) (e18 : s' 0 18 = s 0 18) : mSt s' S tot := ⟨e18.trans h.1, e15.trans h.2.1, fun j x hx => by rw [e14, e16, e17]; exact h.2.2 j x hx⟩
theorem mTk_e {s s' : mm_S} {L S : List (List Int32)} {T : List tk_} (h : mTk s L S T) (e8 : s' 0 8 = s 0 8) (e9 : s' 9 = s 9) (e10 : s' 10 = s 10) (e11 : s' 11 = s 11) : mTk s' L S T := ⟨e8.trans h.1, fun j x hx => by rw [e9, e10, e11]; exact h.2 j x hx⟩
theorem mTk_up {s : mm_S} {L L' S S' : List (List Int32)} {T : List tk_} (h : mTk s L S T) (hL : L <+: L') (hS : S <+: S') : mTk s L' S' T := ⟨h.1, fun j x hx => by
  obtain ⟨a, b, c, e⟩ := h.2 j x hx
  exact ⟨a, b, c, mTv_up e hL hS⟩⟩
/-- the reference's scanner at a place -/
def mLx (s : mm_S) (t : Nat → Nat) (n : Nat) (T : List tk_) (L S : List (List Int32)) (tot line last : Nat) : Prop := mSrc s t n ∧ mNm s L ∧ mSt s S tot ∧ mTk s L S T ∧ s 0 19 = nI line ∧ s 0 20 = nI last
/-- changes outside the scanner's own fields -/
theorem mLx_fr {W : Nat} {s s' : mm_S} {t : Nat → Nat} {n : Nat} {T : List tk_} {L S : List (List Int32)} {tot line last : Nat} (h : mLx s t n T L S tot line last) (hf : fr_ W s s') (hw : W &&& 2084856 = 0) : mLx s' t n T L S tot line last := by
  have tb : ∀ k, Nat.testBit 2084856 k = true → Nat.testBit W k = false := fun k hk => by
    have e := congrArg (fun z => Nat.testBit z k) hw
    simp only [Nat.testBit_and, hk, Bool.and_true, Nat.zero_testBit] at e
    exact e
  obtain ⟨h1, h2, h3, h4, h5, h6⟩ := h
  have a3 := fr_a hf 3 (by decide) (tb 3 (by decide))
  refine ⟨mSrc_e h1 a3 (fr_0 hf 4 (tb 4 (by decide))), mNm_e h2 a3 (fr_0 hf 5 (tb 5 (by decide))) (fr_a hf 6 (by decide) (tb 6 (by decide))) (fr_a hf 7 (by decide) (tb 7 (by decide))),
    mSt_e h3 (fr_a hf 14 (by decide) (tb 14 (by decide))) (fr_0 hf 15 (tb 15 (by decide))) (fr_a hf 16 (by decide) (tb 16 (by decide))) (fr_a hf 17 (by decide) (tb 17 (by decide))) (fr_0 hf 18 (tb 18 (by decide))),
    mTk_e h4 (fr_0 hf 8 (tb 8 (by decide))) (fr_a hf 9 (by decide) (tb 9 (by decide))) (fr_a hf 10 (by decide) (tb 10 (by decide))) (fr_a hf 11 (by decide) (tb 11 (by decide))), (fr_0 hf 19 (tb 19 (by decide))).trans h5, (fr_0 hf 20 (tb 20 (by decide))).trans h6⟩
theorem nm_ad_pre (L : List (List Int32)) (x : List Int32) : L <+: nm_ad L x := by
  unfold nm_ad
  split
  · exact List.prefix_refl _
  · exact List.prefix_append _ _
theorem nm_ad_get (L : List (List Int32)) (x : List Int32) : (nm_ad L x)[nm_ix (nm_ad L x) x]? = some x := by
  have key : ∀ A : List (List Int32), nm_ix A x < A.length → A[nm_ix A x]? = some x := fun A h => by
    have h2 := List.findIdx_getElem (xs := A) (p := fun y => decide (y = x)) (w := h)
    rw [List.getElem?_eq_getElem h]
    exact congrArg some (of_decide_eq_true h2)
  refine key _ ?_
  unfold nm_ad
  split
  · assumption
  · rename_i h
    unfold nm_ix at h ⊢
    rw [List.findIdx_append]
    simp [h]
theorem nm_ad_nd {L : List (List Int32)} {x : List Int32} (h : L.Nodup) : (nm_ad L x).Nodup := by
  unfold nm_ad
  split
  · exact h
  · rename_i hx
    rw [List.nodup_append]
    refine ⟨h, by simp, fun a ha b hb e => hx ?_⟩
    simp at hb
    subst hb
    subst e
    unfold nm_ix
    exact List.findIdx_lt_length_of_exists ⟨a, ha, by simp⟩
theorem nm_ad_len (L : List (List Int32)) (x : List Int32) : (nm_ad L x).length ≤ L.length + 1 := by
  unfold nm_ad
  split <;> simp
/-- the token at p (which is none of the blanks), and the place behind it -/
def on_ (t : Nat → Nat) (n p : Nat) : Option (tk_ × Nat) :=
  if cL_ (tx_ t n p) = true then
    if 40 < rs_ t n n p - p then none else some ((kw_ (tw_ t p (rs_ t n n p - p)), p, 0, tw_ t p (rs_ t n n p - p)), rs_ t n n p)
  else if cD_ (tx_ t n p) = true then
    if (dg_ t n 10 (n + 1) p 0).2 = p ∨ ¬ (dg_ t n 10 (n + 1) p 0).1 < 4294967296 then none else some ((2, p, nI (dg_ t n 10 (n + 1) p 0).1, []), (dg_ t n 10 (n + 1) p 0).2)
  else if tx_ t n p = 35 then
    if tx_ t n (p + 1) = 88 then
      if (dg_ t n 16 (n + 1) (p + 2) 0).2 = p + 2 ∨ ¬ (dg_ t n 16 (n + 1) (p + 2) 0).1 < 4294967296 then none else some ((2, p, nI (dg_ t n 16 (n + 1) (p + 2) 0).1, []), (dg_ t n 16 (n + 1) (p + 2) 0).2)
    else
      if (dg_ t n 8 (n + 1) (p + 1) 0).2 = p + 1 ∨ ¬ (dg_ t n 8 (n + 1) (p + 1) 0).1 < 4294967296 then none else some ((2, p, nI (dg_ t n 8 (n + 1) (p + 1) 0).1, []), (dg_ t n 8 (n + 1) (p + 1) 0).2)
  else if tx_ t n p = 39 then
    match lc_ t n (p + 1) 39 with
    | none => none
    | some r => if tx_ t n r.2 = 39 then some ((2, p, nI r.1, []), r.2 + 1) else none
  else if tx_ t n p = 34 then
    match sr_ t n (n + 1) (p + 1) 0 with
    | none => none
    | some r => some ((4, p, 0, r.1), r.2)
  else if (sg_ (tx_ t n p) (tx_ t n (p + 1))).1 = 0 then none
  else if (sg_ (tx_ t n p) (tx_ t n (p + 1))).1 = 10 ∨ (sg_ (tx_ t n p) (tx_ t n (p + 1))).1 = 11 then
    if 40 < rs_ t n n (p + 2) - p - 2 then none else some (((sg_ (tx_ t n p) (tx_ t n (p + 1))).1, p, 0, tw_ t (p + 2) (rs_ t n n (p + 2) - p - 2)), rs_ t n n (p + 2))
  else some (((sg_ (tx_ t n p) (tx_ t n (p + 1))).1, p, 0, []), p + (sg_ (tx_ t n p) (tx_ t n (p + 1))).2)
/-- what the reference's `one` does at p: with names and texts L', S' behind it -/
def mOn (r : mm_O) (t : Nat → Nat) (n p : Nat) (T : List tk_) (L S : List (List Int32)) (tot line last : Nat) : Prop := match on_ t n p with
  | none => ∃ s', r = some (some (vi_ (-1 - nI p)), s') ∧ mLx s' t n T L S tot line last
  | some x => x.1.1 < 100 ∧ p < x.2 ∧ x.2 ≤ n ∧ ∃ s' L' S' tot', r = some (some (vi_ (nI x.2)), s') ∧ mLx s' t n (ta_ T last line x.1) L' S' tot' line line ∧ L'.Nodup ∧ L'.length ≤ L.length + 1 ∧ S'.length ≤ S.length + 1 ∧ tot' + p ≤ tot + x.2
theorem m_fin (d : Nat) (x : tk_) (v : Int32) {s : mm_S} {t : Nat → Nat} {n : Nat} {T : List tk_} {L S : List (List Int32)} {tot line last : Nat} (h : mLx s t n T L S tot line last) (hT : T.length + 1 < 12100) (hk : x.1 < 100) (hl : last < 2 ^ 31) (hl2 : line < 2 ^ 31) (hv : mTv L S x v) :
    ∃ s', mE (d + 3) 12 [vr_ (some 0), vi_ (nI x.1), vi_ (nI x.2.1), vi_ v] s = some (none, s') ∧ mLx s' t n (ta_ T last line x) L S tot line line := by
  obtain ⟨h1, h2, h3, h4, h5, h6⟩ := h
  obtain ⟨s', q1, q2, q3⟩ := m_token d x v h4 hT hk h5 h6 hl hl2 hv
  have hf := mE_fr q1
  have a3 := fr_a hf 3 (by decide) (by decide)
  exact ⟨s', q1, mSrc_e h1 a3 (fr_0 hf 4 (by decide)), mNm_e h2 a3 (fr_0 hf 5 (by decide)) (fr_a hf 6 (by decide) (by decide)) (fr_a hf 7 (by decide) (by decide)),
    mSt_e h3 (fr_a hf 14 (by decide) (by decide)) (fr_0 hf 15 (by decide)) (fr_a hf 16 (by decide) (by decide)) (fr_a hf 17 (by decide) (by decide)) (fr_0 hf 18 (by decide)), q2, (fr_0 hf 19 (by decide)).trans h5, q3⟩
