/-! ===== the two parsers side by side: a declaration within a block: LET ===== -/
section pci
variable {T : List tk_} {eo : Option Nat} {n : Nat} {V : Nat → Int32} {L : List (List Int32)} {lx : Bool} {ids : List Nat} {iE x TL IL GS SL : Nat}
theorem g3_con {p dp nd k : Nat} {os : List tr_} {R : List gl_} {sc : List (Int32 × Nat)} (hM : Mn T 3 R.length os.length p dp sc.length nd) (hT : T.length < 2600) (y : Nat) (hy : y < 2) (h : Kn T p = k) (hk : k = 40 ∨ k = 41 ∨ k = 42) : pR_ (Kn T) V T.length lx ((3, y, 0, 0) :: R, os, p, dp, sc, nd) = if Kn T (p + 1) = 10 then (if dp = 60 then some (.error (p + 1)) else pR_ (Kn T) V T.length lx ((4, 10 + k, 0, 0) :: (5, 10 + k, p, os.length) :: R, os, p + 1 + 1, dp + 1, (V (p + 1), dp) :: sc, nd)) else some (.error (p + 1)) := by
  obtain ⟨m1, m2, m3, m4, m5, m6⟩ := id hM
  subst h
  have g3 : pS_ (Kn T) V T.length lx 3 y 0 0 (R, os, p, dp, sc, nd) = (if isD_ (Kn T p) = true then (if Kn T p = 43 then ok_ ((7, y, 0, 0) :: (8, y, p, os.length) :: R, os, p + 1, dp, sc, nd) else (if Kn T (p + 1) = 10 then (if dp = 60 then fl_ (p + 1) else ok_ ((4, 10 + Kn T p, 0, 0) :: (5, 10 + Kn T p, p, os.length) :: R, os, p + 1 + 1, dp + 1, (V (p + 1), dp) :: sc, nd)) else fl_ (p + 1))) else fl_ p) := rfl
  have hd : isD_ (Kn T p) = true := by rcases hk with q | q | q <;> rw [q] <;> rfl
  rw [if_pos hd, if_neg (by omega)] at g3
  by_cases c10 : Kn T (p + 1) = 10
  · rw [if_pos c10] at g3 ⊢
    by_cases c60 : dp = 60
    · rw [if_pos c60] at g3 ⊢
      exact pR_er (pb_I (by first | omega | (simp only [List.length_cons]; omega)) (by first | omega | (simp only [List.length_cons]; omega)) (by omega) (by omega) (by omega) (by omega) (by omega) (by omega)) g3
    · rw [if_neg c60] at g3 ⊢
      exact pR_ok (pb_I (by first | omega | (simp only [List.length_cons]; omega)) (by first | omega | (simp only [List.length_cons]; omega)) (by omega) (by omega) (by omega) (by omega) (by omega) (by omega)) g3
  · rw [if_neg c10] at g3 ⊢
    exact pR_er (pb_I (by first | omega | (simp only [List.length_cons]; omega)) (by first | omega | (simp only [List.length_cons]; omega)) (by omega) (by omega) (by omega) (by omega) (by omega) (by omega)) g3
end pci
