/-! ===== signs of a text: what the reference's small questions answer ===== -/
def zb_ (b : Bool) : Int32 := match b with
  | true => 1
  | false => 0
theorem zb_0 (b : Bool) : (zb_ b = 0) = (b = false) := by cases b <;> simp [zb_]
theorem nlt1_ {a : Nat} (k : Nat) (ha : a < 2 ^ 31) (hk : k < 2 ^ 31) : (nI a < OfNat.ofNat k) = (a < k) := nlt_ ha hk
theorem nlt2_ {a : Nat} (k : Nat) (ha : a < 2 ^ 31) (hk : k < 2 ^ 31) : ((OfNat.ofNat k : Int32) < nI a) = (k < a) := nlt_ hk ha
theorem neq1_ {a : Nat} (k : Nat) (ha : a < 2 ^ 31) (hk : k < 2 ^ 31) : (nI a = OfNat.ofNat k) = (a = k) := neq_ ha hk
def cL_ (c : Nat) : Bool := (decide (97 ≤ c) && decide (c ≤ 122)) || (decide (65 ≤ c) && decide (c ≤ 90))
def cD_ (c : Nat) : Bool := decide (48 ≤ c) && decide (c ≤ 57)
def cR_ (c : Nat) : Bool := cL_ c || cD_ c || decide (c = 46) || decide (c = 95)
theorem m_isLetter (d c : Nat) (s : mm_S) (hc : c < 256) : mE (d + 1) 5 [vi_ (nI c)] s = some (some (vi_ (zb_ (cL_ c))), s) := by
  have h : c < 2 ^ 31 := by omega
  rw [me_isLetter]
  simp only [nlt1_ 97 h (by decide), nlt1_ 65 h (by decide), nlt2_ 90 h (by decide), nlt2_ 122 h (by decide)]
  unfold cL_
  repeat' split
  all_goals first
    | (rw [show ((decide (97 ≤ c) && decide (c ≤ 122)) || (decide (65 ≤ c) && decide (c ≤ 90))) = true by simp; omega]; rfl)
    | (rw [show ((decide (97 ≤ c) && decide (c ≤ 122)) || (decide (65 ≤ c) && decide (c ≤ 90))) = false by simp; omega]; rfl)
theorem m_isDigit (d c : Nat) (s : mm_S) (hc : c < 2 ^ 31) : mE (d + 1) 6 [vi_ (nI c)] s = some (some (vi_ (zb_ (cD_ c))), s) := by
  rw [me_isDigit]
  simp only [nlt1_ 48 hc (by decide), nlt2_ 57 hc (by decide)]
  unfold cD_
  repeat' split
  all_goals first
    | (rw [show (decide (48 ≤ c) && decide (c ≤ 57)) = true by simp; omega]; rfl)
    | (rw [show (decide (48 ≤ c) && decide (c ≤ 57)) = false by simp; omega]; rfl)
theorem m_isRest (d c : Nat) (s : mm_S) (hc : c < 256) : mE (d + 2) 7 [vi_ (nI c)] s = some (some (vi_ (zb_ (cR_ c))), s) := by
  have h : c < 2 ^ 31 := by omega
  rw [me_isRest, m_isLetter d c s hc]
  simp only [mm_bI, zb_0, m_isDigit d c s h, neq1_ 46 h (by decide), neq1_ 95 h (by decide)]
  unfold cR_
  cases cL_ c <;> cases cD_ c <;> simp
  · by_cases h1 : c = 46
    · simp [h1, zb_]
    · by_cases h2 : c = 95 <;> simp [h1, h2, zb_]
  all_goals rfl
/-- the text t, n bytes long, lies in the reference's row src -/
def mSrc (s : mm_S) (t : Nat → Nat) (n : Nat) : Prop := s 0 4 = nI n ∧ n ≤ 6000 ∧ ∀ p, p < n → t p < 256 ∧ s 3 p = (nI (t p)).toInt8.toInt32
theorem by_255 : ∀ c, c < 256 → (nI c).toInt8.toInt32 &&& 255 = nI c := by decide +kernel
/-- the byte at p; 0 behind the end -/
def tx_ (t : Nat → Nat) (n p : Nat) : Nat := if p < n then t p else 0
theorem tx_lt {s : mm_S} {t : Nat → Nat} {n : Nat} (h : mSrc s t n) (p : Nat) : tx_ t n p < 256 := by
  unfold tx_
  split
  · rename_i hp; exact (h.2.2 p hp).1
  · omega
theorem m_look (d p : Nat) {s : mm_S} {t : Nat → Nat} {n : Nat} (h : mSrc s t n) (hp : p < 2 ^ 31) : mE (d + 1) 8 [vr_ (some 0), vi_ (nI p)] s = some (some (vi_ (nI (tx_ t n p))), s) := by
  have hn : n < 2 ^ 31 := by have := h.2.1; omega
  rw [me_look, h.1]
  simp only [nlt_ hp hn]
  unfold tx_
  by_cases hq : p < n
  · have h2 := h.2.1
    rw [if_pos hq, if_pos hq, mm_a_n (by omega) (by decide), Option.bind_some, (h.2.2 p hq).2, by_255 _ (h.2.2 p hq).1]
  · rw [if_neg hq, if_neg hq]
    rfl
/-! ===== a sign of a text between quotes ===== -/
/-- what * and a sign behind it mean -/
def es_ (c : Nat) : Option Nat := if c = 78 then some 10 else if c = 83 then some 32 else if c = 84 then some 9 else if c = 39 then some 39 else if c = 34 then some 34 else if c = 42 then some 42 else none
/-- the sign at p: its value, the place behind it -/
def lc_ (t : Nat → Nat) (n p q : Nat) : Option (Nat × Nat) :=
  if tx_ t n p < 32 ∨ 126 < tx_ t n p ∨ tx_ t n p = q then none
  else if tx_ t n p = 42 then (es_ (tx_ t n (p + 1))).map fun v => (v, p + 2)
  else some (tx_ t n p, p + 1)
theorem mSrc_u {s : mm_S} {t : Nat → Nat} {n k : Nat} {x : Int32} (h : mSrc s t n) (hk : k ≠ 4) : mSrc (mm_u s 0 k x) t n := by
  refine ⟨?_, h.2.1, fun p hp => ⟨(h.2.2 p hp).1, ?_⟩⟩
  · rw [mu_n (by omega)]; exact h.1
  · rw [mu_n (by omega)]; exact (h.2.2 p hp).2
theorem mu_id (s : mm_S) (k i : Nat) : mm_u s k i (s k i) = s := by
  funext a b
  unfold mm_u
  by_cases h1 : a = k
  · by_cases h2 : b = i <;> simp [h1, h2]
  · simp [h1]
theorem mu_mu (s : mm_S) (k i : Nat) (x y : Int32) : mm_u (mm_u s k i x) k i y = mm_u s k i y := by
  funext a b
  unfold mm_u
  by_cases h1 : a = k
  · by_cases h2 : b = i <;> simp [h1, h2]
  · simp [h1]
/-- a place behind, as an int; -1 where there is none -/
def op_ (r : Option (Nat × Nat)) : Int32 := match r with
  | none => -1
  | some r => nI r.2
theorem m_oneC (d p q : Nat) {s : mm_S} {t : Nat → Nat} {n : Nat} (h : mSrc s t n) (hp : p < 2 ^ 30) (hq : q < 2 ^ 31) : ∃ x, mE (d + 2) 13 [vr_ (some 0), vi_ (nI p), vi_ (nI q)] s = some (some (vi_ (op_ (lc_ t n p q))), mm_u s 0 21 x) ∧ ∀ r, lc_ t n p q = some r → x = nI r.1 := by
  have hb := tx_lt h p
  have hb1 := tx_lt h (p + 1)
  have b31 : tx_ t n p < 2 ^ 31 := by omega
  have c31 : tx_ t n (p + 1) < 2 ^ 31 := by omega
  rw [me_oneC, m_look _ p h (by omega)]
  have e1 : nI p + 1 = nI (p + 1) := nI_1 p
  have e2 : nI p + 2 = nI (p + 2) := nI_add p 2
  have hl := m_look (d := d) (p := p + 1) (mSrc_u (k := 21) (x := nI (tx_ t n p)) h (by omega)) (by omega)
  simp only [mm_bI, nlt1_ 32 b31 (by decide), nlt2_ 126 b31 (by decide), neq_ b31 hq, neq1_ 42 b31 (by decide), e1, e2, hl, neq1_ 78 c31 (by decide), neq1_ 83 c31 (by decide), neq1_ 84 c31 (by decide), neq1_ 39 c31 (by decide), neq1_ 34 c31 (by decide), neq1_ 42 c31 (by decide), mu_mu]
  unfold lc_ es_
  by_cases c1 : tx_ t n p < 32
  · exact ⟨s 0 21, by simp [c1, mu_id, op_]⟩
  by_cases c2 : 126 < tx_ t n p
  · exact ⟨s 0 21, by simp [c1, c2, mu_id, op_]⟩
  by_cases c3 : tx_ t n p = q
  · exact ⟨s 0 21, by simp [c1, c2, c3, mu_id, op_]⟩
  have c5 : ¬ (tx_ t n p < 32 ∨ 126 < tx_ t n p ∨ tx_ t n p = q) := by omega
  by_cases c4 : tx_ t n p = 42
  · simp only [c1, c2, c3, if_false, if_neg c5, if_pos c4]
    generalize tx_ t n (p + 1) = z
    by_cases d1 : z = 78
    · exact ⟨10, by simp [d1, op_]; rfl⟩
    by_cases d2 : z = 83
    · exact ⟨32, by simp [d2, op_]; rfl⟩
    by_cases d3 : z = 84
    · exact ⟨9, by simp [d3, op_]; rfl⟩
    by_cases d4 : z = 39
    · exact ⟨nI 39, by simp [d4, op_]⟩
    by_cases d5 : z = 34
    · exact ⟨nI 34, by simp [d5, op_]⟩
    by_cases d6 : z = 42
    · exact ⟨nI 42, by simp [d6, op_]⟩
    exact ⟨nI (tx_ t n p), by simp [d1, d2, d3, d4, d5, d6, op_]⟩
  · exact ⟨nI (tx_ t n p), by simp [c1, c2, c3, c4, op_]⟩
