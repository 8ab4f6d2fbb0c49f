/-! ===== the component's parser: levels of operators ===== -/
/-- the component's level of a kind -/
def lw_ (k : Nat) : Int32 := if lv_ k = 0 then -1 else nI (lv_ k - 1)
section clev
variable {s s' : as_} {x TL IL GS SL p dp iE n : Nat} {ids : List Nat} {T : List tk_} {eo : Option Nat}
theorem lw_sg : ((List.range 37).all fun k => decide (k < 10) || decide (lvl_ 3 (sgt_ k) = lw_ k)) = true := by decide +kernel
theorem lw_kw : (KW_.all fun w => decide (lvl_ 4 w = lw_ (kw_ w))) = true := by decide +kernel
theorem lw_ok (hT : TA s TL ids iE T eo n) : lvl_ (tkk T eo p) (tkx T p) = lw_ (Kn T p) := by
  unfold tkk tkx Kn
  cases hy : T[p]? with
  | none =>
    dsimp only
    rcases eK_n eo with e | e <;> rw [e] <;> rfl
  | some y =>
    dsimp only
    rcases cw_cs (tk_v hT hy) with ⟨e1, e2⟩ | ⟨e1, e2⟩ | ⟨e1, e2⟩ | ⟨e1, e2, e3, e4⟩ | ⟨e1, e2, e3, e4, e5⟩
    · rw [e2, e1]; rfl
    · rw [e2, e1]; rfl
    · rw [e2, e1]; rfl
    · rw [e3, e4]
      have hs := List.all_eq_true.mp lw_sg y.1 (by simp; omega)
      simp only [Bool.or_eq_true, decide_eq_true_eq] at hs
      exact hs.resolve_left (by omega)
    · rw [e4, e5, e3]
      have hs := List.all_eq_true.mp lw_kw _ e1
      simp only [decide_eq_true_eq] at hs
      exact hs
theorem lv_7 (k : Nat) : lv_ k ≤ 7 := by
  unfold lv_
  repeat' split
  all_goals omega
theorem y_level (d : Nat) (h : CP s x TL IL GS SL p dp) (hT : TA s TL ids iE T eo n) (hp : p ≤ T.length) {l : Nat} (hl : l < 7) : aE (d + 3) 301 [vr_ (some x), vi_ (nI l)] s = some (.inl (some (vi_ (zb_ (decide (lv_ (Kn T p) = l + 1))))), s) := by
  rw [y_isOf d h hT hp, lw_ok hT]
  have h7 := lv_7 (Kn T p)
  have e : (lw_ (Kn T p) = nI l) = (lv_ (Kn T p) = l + 1) := by
    unfold lw_
    by_cases c : lv_ (Kn T p) = 0
    · rw [if_pos c, c]
      apply propext
      constructor
      · intro q
        have : (-1 : Int32).toInt = (nI l).toInt := by rw [q]
        rw [nI_toInt (by omega)] at this
        have e1 : (-1 : Int32).toInt = -1 := by decide
        omega
      · intro q; omega
    · rw [if_neg c, neq_ (by omega) (by omega)]
      apply propext
      constructor <;> intro q <;> omega
  simp only [e]
end clev
