/-! ===== the component's scanner: its state, looking ahead, blanks ===== -/
/-- the scanner x: text A (n bytes t), place p, line, its tokens ids in TL, its builder SB -/
def LX (s : as_) (x A TL SB : Nat) (t : Nat → Nat) (n p line : Nat) (sb : List Int32) (ids : List Nat) : Prop :=
  ((4000 ≤ x ∧ x < aN_ s) ∧ (4000 ≤ A ∧ A < aN_ s) ∧ (4000 ≤ TL ∧ TL < aN_ s) ∧ (4000 ≤ SB ∧ SB < aN_ s)) ∧
  ((aK_ s x).1 = 4 ∧ aK_ s A = (201, 6000) ∧ (aK_ s TL).1 = 36 ∧ (aK_ s SB).1 = 27) ∧
  (aI_ s x 79 = nI n ∧ aI_ s x 80 = nI p ∧ aI_ s x 81 = nI line) ∧
  (aR_ s x 78 = some A ∧ aR_ s x 82 = some TL ∧ aR_ s x 83 = some SB) ∧
  (n ≤ 6000 ∧ ∀ i, i < n → t i < 256 ∧ aI_ s A i = (nI (t i)).toInt8.toInt32) ∧ aS_ s SB = sb ∧ aL_ s TL = ids.map some
section clex
variable {s s' : as_} {x A TL SB : Nat} {t : Nat → Nat} {n p line : Nat} {sb : List Int32} {ids : List Nat}
/-- the scanner stays where what it holds stays -/
theorem LX_of (h : LX s x A TL SB t n p line sb ids) {p' line' : Nat} {sb' : List Int32} {ids' : List Nat} (hN : aN_ s ≤ aN_ s') (hK : ∀ a, a < aN_ s → aK_ s' a = aK_ s a) (h79 : aI_ s' x 79 = aI_ s x 79) (h80 : aI_ s' x 80 = nI p') (h81 : aI_ s' x 81 = nI line') (hR : ∀ k, aR_ s' x k = aR_ s x k) (hA : ∀ i, aI_ s' A i = aI_ s A i) (hS : aS_ s' SB = sb') (hL : aL_ s' TL = ids'.map some) : LX s' x A TL SB t n p' line' sb' ids' := by
  obtain ⟨⟨b1, b2, b3, b4⟩, ⟨k1, k2, k3, k4⟩, ⟨i1, i2, i3⟩, ⟨r1, r2, r3⟩, ⟨hn, ht⟩, e1, e2⟩ := h
  refine ⟨⟨⟨b1.1, by omega⟩, ⟨b2.1, by omega⟩, ⟨b3.1, by omega⟩, ⟨b4.1, by omega⟩⟩, ⟨?_, ?_, ?_, ?_⟩, ⟨h79.trans i1, h80, h81⟩, ⟨(hR _).trans r1, (hR _).trans r2, (hR _).trans r3⟩, ⟨hn, fun i hi => ⟨(ht i hi).1, (hA i).trans (ht i hi).2⟩⟩, hS, hL⟩
  · rw [hK _ b1.2]; exact k1
  · rw [hK _ b2.2]; exact k2
  · rw [hK _ b3.2]; exact k3
  · rw [hK _ b4.2]; exact k4
theorem LX_ne (h : LX s x A TL SB t n p line sb ids) : x ≠ A ∧ x ≠ TL ∧ x ≠ SB ∧ A ≠ TL ∧ A ≠ SB ∧ TL ≠ SB := by
  obtain ⟨_, ⟨k1, k2, k3, k4⟩, _⟩ := h
  have k2' : (aK_ s A).1 = 201 := by rw [k2]
  refine ⟨?_, ?_, ?_, ?_, ?_, ?_⟩ <;> (rintro rfl; omega)
theorem LX_Kp {M : Nat → Prop} (h : LX s x A TL SB t n p line sb ids) (hk : Kp M s s') (h1 : ¬ M x) (h2 : ¬ M A) (h3 : ¬ M TL) (h4 : ¬ M SB) : LX s' x A TL SB t n p line sb ids := by
  obtain ⟨⟨b1, b2, b3, b4⟩, ⟨k1, k2, k3, k4⟩, ⟨i1, i2, i3⟩, ⟨r1, r2, r3⟩, ⟨hn, ht⟩, e1, e2⟩ := h
  obtain ⟨hN, hk⟩ := hk
  have q1 := hk x b1.2 h1
  have q2 := hk A b2.2 h2
  have q3 := hk TL b3.2 h3
  have q4 := hk SB b4.2 h4
  exact ⟨⟨⟨b1.1, by omega⟩, ⟨b2.1, by omega⟩, ⟨b3.1, by omega⟩, ⟨b4.1, by omega⟩⟩, ⟨by rw [q1.2.2.1]; exact k1, q2.2.2.1.trans k2, by rw [q3.2.2.1]; exact k3, by rw [q4.2.2.1]; exact k4⟩, ⟨(q1.1 _).trans i1, (q1.1 _).trans i2, (q1.1 _).trans i3⟩, ⟨(q1.2.1 _).trans r1, (q1.2.1 _).trans r2, (q1.2.1 _).trans r3⟩, ⟨hn, fun i hi => ⟨(ht i hi).1, (q2.1 i).trans (ht i hi).2⟩⟩, q4.2.2.2.1.trans e1, q3.2.2.2.2.1.trans e2⟩
theorem LX_at (h : LX s x A TL SB t n p line sb ids) (p' : Nat) : LX (awI s x 80 (nI p')) x A TL SB t n p' line sb ids := by
  have hne := LX_ne h
  have b1 := h.1.1.1
  refine LX_of h (Nat.le_refl _) (fun _ _ => rfl) ?_ ?_ ?_ (fun _ => rfl) (fun i => ?_) h.2.2.2.2.2.1 h.2.2.2.2.2.2
  · rw [aI_awI, if_neg (by omega)]
  · rw [aI_awI, if_pos ⟨b1, rfl, rfl⟩]
  · rw [aI_awI, if_neg (by omega)]; exact h.2.2.1.2.2
  · rw [aI_awI, if_neg (fun q => hne.1 q.2.1.symm)]
theorem LX_ln (h : LX s x A TL SB t n p line sb ids) (line' : Nat) : LX (awI s x 81 (nI line')) x A TL SB t n p line' sb ids := by
  have hne := LX_ne h
  have b1 := h.1.1.1
  refine LX_of h (Nat.le_refl _) (fun _ _ => rfl) ?_ ?_ ?_ (fun _ => rfl) (fun i => ?_) h.2.2.2.2.2.1 h.2.2.2.2.2.2
  · rw [aI_awI, if_neg (by omega)]
  · rw [aI_awI, if_neg (by omega)]; exact h.2.2.1.2.1
  · rw [aI_awI, if_pos ⟨b1, rfl, rfl⟩]
  · rw [aI_awI, if_neg (fun q => hne.1 q.2.1.symm)]
theorem LX_sb (h : LX s x A TL SB t n p line sb ids) (l : List Int32) : LX (awS s SB l) x A TL SB t n p line l ids := by
  refine LX_of h (Nat.le_refl _) (fun _ _ => rfl) rfl h.2.2.1.2.1 h.2.2.1.2.2 (fun _ => rfl) (fun i => rfl) ?_ h.2.2.2.2.2.2
  rw [aS_awS, if_pos ⟨h.1.2.2.2.1, rfl⟩]
theorem LX_C (h : LX s x A TL SB t n p line sb ids) (c z : Nat) : LX (awC s c z) x A TL SB t n p line sb ids := h
/-- the byte at a place, -1 behind the last one -/
def pkc_ (t : Nat → Nat) (n q : Nat) : Int32 := if q < n then nI (t q) else -1
theorem pk_tx {q : Nat} (ht : ∀ i, i < n → t i < 256) (c : Nat) (h0 : c ≠ 0) (hc : c < 2 ^ 31) : (pkc_ t n q = (OfNat.ofNat c : Int32)) = (tx_ t n q = c) := by
  unfold pkc_ tx_
  by_cases h : q < n
  · rw [if_pos h, if_pos h]
    exact neq1_ c (by have := ht q h; omega) hc
  · rw [if_neg h, if_neg h]
    apply propext
    constructor
    · intro e
      exfalso
      have e1 : (-1 : Int32).toInt = (nI c).toInt := congrArg Int32.toInt e
      rw [nI_toInt hc] at e1
      have : (-1 : Int32).toInt = -1 := rfl
      omega
    · intro e; omega
theorem x_peek (d : Nat) (h : LX s x A TL SB t n p line sb ids) (k : Nat) (hk : k ≤ 2) (hp : p ≤ n) : aE (d + 1) 253 [vr_ (some x), vi_ (nI k)] s = some (.inl (some (vi_ (pkc_ t n (p + k)))), s) := by
  obtain ⟨_, ⟨k1, k2, k3, k4⟩, ⟨i1, i2, i3⟩, ⟨r1, r2, r3⟩, ⟨hn, ht⟩, e1, e2⟩ := h
  rw [ce_X10_peek, f_gi (f := 80) k1 rfl, Option.bind_some, f_gi (f := 79) k1 rfl, Option.bind_some, i1, i2, nI_add]
  simp only [nlt_ (show p + k < 2 ^ 31 by omega) (show n < 2 ^ 31 by omega)]
  unfold pkc_
  by_cases c : p + k < n
  · rw [if_pos c, if_pos c, f_gr (f := 78) k1 rfl, Option.bind_some, Option.bind_some, r1, nI_add, f_ai k2 rfl (by omega) (by decide), Option.bind_some, (ht _ c).2, by_255 _ (ht _ c).1]
  · rw [if_neg c, if_neg c]
theorem x_peek0 (d : Nat) (h : LX s x A TL SB t n p line sb ids) (hp : p ≤ n) : aE (d + 1) 253 [vr_ (some x), vi_ 0] s = some (.inl (some (vi_ (pkc_ t n p))), s) := x_peek d h 0 (by omega) hp
theorem x_isLetter (d : Nat) (q : Nat) (ht : ∀ i, i < n → t i < 256) : aE (d + 1) 255 [vi_ (pkc_ t n q)] s = some (.inl (some (vi_ (zb_ (cL_ (tx_ t n q))))), s) := by
  rw [ce_X10_isLetter]
  unfold pkc_ tx_
  by_cases h : q < n
  · rw [if_pos h, if_pos h]
    have := ht q h
    simp only [nlt1_ 65 (show t q < 2 ^ 31 by omega) (by decide), nlt1_ 97 (show t q < 2 ^ 31 by omega) (by decide), nlt2_ 122 (show t q < 2 ^ 31 by omega) (by decide), nlt2_ 90 (show t q < 2 ^ 31 by omega) (by decide)]
    cases hb : cL_ (t q) with
    | true =>
      have hr : (97 ≤ t q ∧ t q ≤ 122) ∨ (65 ≤ t q ∧ t q ≤ 90) := by unfold cL_ at hb; simpa using hb
      repeat' split
      all_goals first | rfl | (exfalso; omega)
    | false =>
      have hr : ¬ ((97 ≤ t q ∧ t q ≤ 122) ∨ (65 ≤ t q ∧ t q ≤ 90)) := fun e => by
        have : cL_ (t q) = true := by unfold cL_; simpa using e
        rw [hb] at this; cases this
      repeat' split
      all_goals first | rfl | (exfalso; omega)
  · rw [if_neg h, if_neg h]
    rfl
theorem x_isDigit (d : Nat) (q : Nat) (ht : ∀ i, i < n → t i < 256) : aE (d + 1) 258 [vi_ (pkc_ t n q)] s = some (.inl (some (vi_ (zb_ (cD_ (tx_ t n q))))), s) := by
  rw [ce_X10_isDigit]
  unfold pkc_ tx_
  by_cases h : q < n
  · rw [if_pos h, if_pos h]
    have := ht q h
    simp only [nlt1_ 48 (show t q < 2 ^ 31 by omega) (by decide), nlt2_ 57 (show t q < 2 ^ 31 by omega) (by decide)]
    cases hb : cD_ (t q) with
    | true =>
      have hr : 48 ≤ t q ∧ t q ≤ 57 := by unfold cD_ at hb; simpa using hb
      repeat' split
      all_goals first | rfl | (exfalso; omega)
    | false =>
      have hr : ¬ (48 ≤ t q ∧ t q ≤ 57) := fun e => by
        have : cD_ (t q) = true := by unfold cD_; simpa using e
        rw [hb] at this; cases this
      repeat' split
      all_goals first | rfl | (exfalso; omega)
  · rw [if_neg h, if_neg h]
    rfl
end clex
