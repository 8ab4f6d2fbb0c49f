/-- the sign that two bytes begin with: its kind, its length; kind 0 when there is none -/
def sg_ (c d : Nat) : Nat × Nat :=
  if c = 36 ∧ d = 40 then (10, 2) else if c = 36 ∧ d = 41 then (11, 2) else if c = 58 ∧ d = 61 then (16, 2) else if c = 126 ∧ d = 61 then (26, 2) else if c = 60 ∧ d = 61 then (28, 2) else
  if c = 62 ∧ d = 61 then (30, 2) else if c = 60 ∧ d = 60 then (31, 2) else if c = 62 ∧ d = 62 then (32, 2) else if c = 45 ∧ d = 62 then (36, 2) else
  if c = 40 then (12, 1) else if c = 41 then (13, 1) else if c = 44 then (14, 1) else if c = 59 then (15, 1) else if c = 58 then (17, 1) else if c = 33 then (18, 1) else if c = 37 then (19, 1) else if c = 64 then (20, 1) else
  if c = 43 then (21, 1) else if c = 45 then (22, 1) else if c = 42 then (23, 1) else if c = 47 then (24, 1) else if c = 61 then (25, 1) else if c = 60 then (27, 1) else if c = 62 then (29, 1) else if c = 126 then (33, 1) else
  if c = 38 then (34, 1) else if c = 124 then (35, 1) else (0, 1)
def kI_ (k : Nat) : Int32 := if k = 0 then -1 else nI k
theorem sg_st {α β : Type} {P : Prop} [Decidable P] {x y : β} {k : α → β} {a b : α} (h1 : x = k a) (h2 : y = k b) : (if P then x else y) = k (if P then a else b) := by
  split <;> assumption
def sgR_ (s : mm_S) (r : Nat × Nat) : mm_O := some (some (vi_ (kI_ r.1)), mm_u s 0 23 (nI r.2))
theorem m_signAt (d p : Nat) {s : mm_S} {t : Nat → Nat} {n : Nat} (h : mSrc s t n) (hp : p < 2 ^ 30) : mE (d + 3) 17 [vr_ (some 0), vi_ (nI p)] s = some (some (vi_ (kI_ (sg_ (tx_ t n p) (tx_ t n (p + 1))).1)), mm_u s 0 23 (nI (sg_ (tx_ t n p) (tx_ t n (p + 1))).2)) := by
  have hb := tx_lt h p
  have b31 : tx_ t n p < 2 ^ 31 := by omega
  have h2 := mSrc_u (k := 23) (x := 2) h (by omega)
  have h3 := mSrc_u (k := 23) (x := 1) h2 (by omega)
  have pr : ∀ a b : Nat, a < 2 ^ 31 → b < 2 ^ 31 → mE (d + 2) 16 [vr_ (some 0), vi_ (nI p), vi_ (nI a), vi_ (nI b)] (mm_u s 0 23 2) = some (some (vi_ (zb_ (decide (tx_ t n p = a ∧ tx_ t n (p + 1) = b)))), mm_u s 0 23 2) := fun a b ha hb => by
    rw [m_isPair d p a b h2 hp ha hb]
    congr 4
    simp
  have p0 : mE (d + 2) 16 [vr_ (some 0), vi_ (nI p), vi_ 36, vi_ 40] (mm_u s 0 23 2) = _ := pr 36 40 (by decide) (by decide)
  have p1 : mE (d + 2) 16 [vr_ (some 0), vi_ (nI p), vi_ 36, vi_ 41] (mm_u s 0 23 2) = _ := pr 36 41 (by decide) (by decide)
  have p2 : mE (d + 2) 16 [vr_ (some 0), vi_ (nI p), vi_ 58, vi_ 61] (mm_u s 0 23 2) = _ := pr 58 61 (by decide) (by decide)
  have p3 : mE (d + 2) 16 [vr_ (some 0), vi_ (nI p), vi_ 126, vi_ 61] (mm_u s 0 23 2) = _ := pr 126 61 (by decide) (by decide)
  have p4 : mE (d + 2) 16 [vr_ (some 0), vi_ (nI p), vi_ 60, vi_ 61] (mm_u s 0 23 2) = _ := pr 60 61 (by decide) (by decide)
  have p5 : mE (d + 2) 16 [vr_ (some 0), vi_ (nI p), vi_ 62, vi_ 61] (mm_u s 0 23 2) = _ := pr 62 61 (by decide) (by decide)
  have p6 : mE (d + 2) 16 [vr_ (some 0), vi_ (nI p), vi_ 60, vi_ 60] (mm_u s 0 23 2) = _ := pr 60 60 (by decide) (by decide)
  have p7 : mE (d + 2) 16 [vr_ (some 0), vi_ (nI p), vi_ 62, vi_ 62] (mm_u s 0 23 2) = _ := pr 62 62 (by decide) (by decide)
  have p8 : mE (d + 2) 16 [vr_ (some 0), vi_ (nI p), vi_ 45, vi_ 62] (mm_u s 0 23 2) = _ := pr 45 62 (by decide) (by decide)
  have lk := m_look (d + 1) p h3 (by omega)
  rw [mu_mu] at lk
  rw [me_signAt]
  simp only [p0, p1, p2, p3, p4, p5, p6, p7, p8, mm_bI, mu_mu, zb_0, decide_eq_false_iff_not, ite_not, lk, neq1_ 40 b31 (by decide), neq1_ 41 b31 (by decide), neq1_ 44 b31 (by decide), neq1_ 59 b31 (by decide), neq1_ 58 b31 (by decide), neq1_ 33 b31 (by decide), neq1_ 37 b31 (by decide), neq1_ 64 b31 (by decide), neq1_ 43 b31 (by decide), neq1_ 45 b31 (by decide), neq1_ 42 b31 (by decide), neq1_ 47 b31 (by decide), neq1_ 61 b31 (by decide), neq1_ 60 b31 (by decide), neq1_ 62 b31 (by decide), neq1_ 126 b31 (by decide), neq1_ 38 b31 (by decide), neq1_ 124 b31 (by decide)]
  show _ = sgR_ s (sg_ (tx_ t n p) (tx_ t n (p + 1)))
  unfold sg_
  repeat (refine sg_st (k := sgR_ s) rfl ?_)
  rfl
theorem lc_le {t : Nat → Nat} {n p q : Nat} {r : Nat × Nat} (h : lc_ t n p q = some r) : p < n ∧ r.2 ≤ n ∧ p < r.2 ∧ r.1 < 128 := by
  unfold lc_ at h
  split at h
  · cases h
  · rename_i h0
    have hp : p < n := Decidable.byContradiction fun q => h0 (by rw [tx_big (by omega)]; omega)
    split at h
    · rename_i h42
      unfold es_ at h
      by_cases hp1 : p + 1 < n
      · repeat' (split at h)
        all_goals first
          | (cases h; done)
          | (cases h; exact ⟨hp, by simp; omega, by simp, by simp⟩)
      · rw [tx_big (show n ≤ p + 1 by omega)] at h
        simp at h
    · cases h
      exact ⟨hp, by simp; omega, by simp, by simp; omega⟩
