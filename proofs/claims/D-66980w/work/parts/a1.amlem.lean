/-! ===== reading after writing in the abstract memory: by gen/gen_amlem.py ===== -/
section amlem
variable (s : as_)
theorem aI_awR (a k : Nat) (b j : Nat) (x : Option Nat) : aI_ (awR s b j x) a k = aI_ s a k := rfl
theorem aI_awK (a k : Nat) (b : Nat) (x : Nat × Nat) : aI_ (awK s b x) a k = aI_ s a k := rfl
theorem aI_awS (a k : Nat) (b : Nat) (x : List Int32) : aI_ (awS s b x) a k = aI_ s a k := rfl
theorem aI_awL (a k : Nat) (b : Nat) (x : List (Option Nat)) : aI_ (awL s b x) a k = aI_ s a k := rfl
theorem aI_awM (a k : Nat) (b : Nat) (x : List ((List Int32 ⊕ Int32) × Option Nat)) : aI_ (awM s b x) a k = aI_ s a k := rfl
theorem aI_awC (a k : Nat) (c z : Nat) : aI_ (awC s c z) a k = aI_ s a k := rfl
theorem aR_awI (a k : Nat) (b j : Nat) (x : Int32) : aR_ (awI s b j x) a k = aR_ s a k := rfl
theorem aR_awK (a k : Nat) (b : Nat) (x : Nat × Nat) : aR_ (awK s b x) a k = aR_ s a k := rfl
theorem aR_awS (a k : Nat) (b : Nat) (x : List Int32) : aR_ (awS s b x) a k = aR_ s a k := rfl
theorem aR_awL (a k : Nat) (b : Nat) (x : List (Option Nat)) : aR_ (awL s b x) a k = aR_ s a k := rfl
theorem aR_awM (a k : Nat) (b : Nat) (x : List ((List Int32 ⊕ Int32) × Option Nat)) : aR_ (awM s b x) a k = aR_ s a k := rfl
theorem aR_awC (a k : Nat) (c z : Nat) : aR_ (awC s c z) a k = aR_ s a k := rfl
theorem aK_awI (a : Nat) (b j : Nat) (x : Int32) : aK_ (awI s b j x) a = aK_ s a := rfl
theorem aK_awR (a : Nat) (b j : Nat) (x : Option Nat) : aK_ (awR s b j x) a = aK_ s a := rfl
theorem aK_awS (a : Nat) (b : Nat) (x : List Int32) : aK_ (awS s b x) a = aK_ s a := rfl
theorem aK_awL (a : Nat) (b : Nat) (x : List (Option Nat)) : aK_ (awL s b x) a = aK_ s a := rfl
theorem aK_awM (a : Nat) (b : Nat) (x : List ((List Int32 ⊕ Int32) × Option Nat)) : aK_ (awM s b x) a = aK_ s a := rfl
theorem aK_awC (a : Nat) (c z : Nat) : aK_ (awC s c z) a = aK_ s a := rfl
theorem aN_awI  (b j : Nat) (x : Int32) : aN_ (awI s b j x)  = aN_ s  := rfl
theorem aN_awR  (b j : Nat) (x : Option Nat) : aN_ (awR s b j x)  = aN_ s  := rfl
theorem aN_awK  (b : Nat) (x : Nat × Nat) : aN_ (awK s b x)  = aN_ s  := rfl
theorem aN_awS  (b : Nat) (x : List Int32) : aN_ (awS s b x)  = aN_ s  := rfl
theorem aN_awL  (b : Nat) (x : List (Option Nat)) : aN_ (awL s b x)  = aN_ s  := rfl
theorem aN_awM  (b : Nat) (x : List ((List Int32 ⊕ Int32) × Option Nat)) : aN_ (awM s b x)  = aN_ s  := rfl
theorem aN_awC  (c z : Nat) : aN_ (awC s c z)  = aN_ s  := rfl
theorem aS_awI (a : Nat) (b j : Nat) (x : Int32) : aS_ (awI s b j x) a = aS_ s a := rfl
theorem aS_awR (a : Nat) (b j : Nat) (x : Option Nat) : aS_ (awR s b j x) a = aS_ s a := rfl
theorem aS_awK (a : Nat) (b : Nat) (x : Nat × Nat) : aS_ (awK s b x) a = aS_ s a := rfl
theorem aS_awL (a : Nat) (b : Nat) (x : List (Option Nat)) : aS_ (awL s b x) a = aS_ s a := rfl
theorem aS_awM (a : Nat) (b : Nat) (x : List ((List Int32 ⊕ Int32) × Option Nat)) : aS_ (awM s b x) a = aS_ s a := rfl
theorem aS_awC (a : Nat) (c z : Nat) : aS_ (awC s c z) a = aS_ s a := rfl
theorem aL_awI (a : Nat) (b j : Nat) (x : Int32) : aL_ (awI s b j x) a = aL_ s a := rfl
theorem aL_awR (a : Nat) (b j : Nat) (x : Option Nat) : aL_ (awR s b j x) a = aL_ s a := rfl
theorem aL_awK (a : Nat) (b : Nat) (x : Nat × Nat) : aL_ (awK s b x) a = aL_ s a := rfl
theorem aL_awS (a : Nat) (b : Nat) (x : List Int32) : aL_ (awS s b x) a = aL_ s a := rfl
theorem aL_awM (a : Nat) (b : Nat) (x : List ((List Int32 ⊕ Int32) × Option Nat)) : aL_ (awM s b x) a = aL_ s a := rfl
theorem aL_awC (a : Nat) (c z : Nat) : aL_ (awC s c z) a = aL_ s a := rfl
theorem aM_awI (a : Nat) (b j : Nat) (x : Int32) : aM_ (awI s b j x) a = aM_ s a := rfl
theorem aM_awR (a : Nat) (b j : Nat) (x : Option Nat) : aM_ (awR s b j x) a = aM_ s a := rfl
theorem aM_awK (a : Nat) (b : Nat) (x : Nat × Nat) : aM_ (awK s b x) a = aM_ s a := rfl
theorem aM_awS (a : Nat) (b : Nat) (x : List Int32) : aM_ (awS s b x) a = aM_ s a := rfl
theorem aM_awL (a : Nat) (b : Nat) (x : List (Option Nat)) : aM_ (awL s b x) a = aM_ s a := rfl
theorem aM_awC (a : Nat) (c z : Nat) : aM_ (awC s c z) a = aM_ s a := rfl
theorem aC_awI  (b j : Nat) (x : Int32) : aC_ (awI s b j x)  = aC_ s  := rfl
theorem aC_awR  (b j : Nat) (x : Option Nat) : aC_ (awR s b j x)  = aC_ s  := rfl
theorem aC_awK  (b : Nat) (x : Nat × Nat) : aC_ (awK s b x)  = aC_ s  := rfl
theorem aC_awS  (b : Nat) (x : List Int32) : aC_ (awS s b x)  = aC_ s  := rfl
theorem aC_awL  (b : Nat) (x : List (Option Nat)) : aC_ (awL s b x)  = aC_ s  := rfl
theorem aC_awM  (b : Nat) (x : List ((List Int32 ⊕ Int32) × Option Nat)) : aC_ (awM s b x)  = aC_ s  := rfl
theorem aZ_awI  (b j : Nat) (x : Int32) : aZ_ (awI s b j x)  = aZ_ s  := rfl
theorem aZ_awR  (b j : Nat) (x : Option Nat) : aZ_ (awR s b j x)  = aZ_ s  := rfl
theorem aZ_awK  (b : Nat) (x : Nat × Nat) : aZ_ (awK s b x)  = aZ_ s  := rfl
theorem aZ_awS  (b : Nat) (x : List Int32) : aZ_ (awS s b x)  = aZ_ s  := rfl
theorem aZ_awL  (b : Nat) (x : List (Option Nat)) : aZ_ (awL s b x)  = aZ_ s  := rfl
theorem aZ_awM  (b : Nat) (x : List ((List Int32 ⊕ Int32) × Option Nat)) : aZ_ (awM s b x)  = aZ_ s  := rfl
theorem aC_awC (c z : Nat) : aC_ (awC s c z) = aC_ s + c := rfl
theorem aZ_awC (c z : Nat) : aZ_ (awC s c z) = aZ_ s + z := rfl
theorem aI_awI (a k b j : Nat) (x : Int32) : aI_ (awI s b j x) a k = if 4000 ≤ a ∧ a = b ∧ k = j then x else aI_ s a k := by
  unfold aI_ awI
  by_cases h : a < 4000
  · simp only [h, if_true, show ¬ 4000 ≤ a by omega, false_and, if_false]
  · rw [if_neg h, if_neg h]
    by_cases h1 : a = b
    · by_cases h2 : k = j
      · rw [if_pos ⟨by omega, h1, h2⟩]; simp [h1, h2]
      · rw [if_neg (by omega)]; simp [h2]
    · rw [if_neg (by omega)]; simp [h1]
theorem aR_awR (a k b j : Nat) (x : Option Nat) : aR_ (awR s b j x) a k = if a = b ∧ k = j then x else aR_ s a k := by
  unfold aR_ awR
  by_cases h1 : a = b
  · by_cases h2 : k = j
    · rw [if_pos ⟨h1, h2⟩]; simp [h1, h2]
    · rw [if_neg (by omega)]; simp [h2]
  · rw [if_neg (by omega)]; simp [h1]
theorem aK_awK (a b : Nat) (x : Nat × Nat) : aK_ (awK s b x) a = if 4000 ≤ a ∧ a = b then x else aK_ s a := by
  unfold aK_ awK au_
  by_cases h : a < 4000
  · simp only [h, if_true, show ¬ 4000 ≤ a by omega, false_and, if_false]
  · rw [if_neg h, if_neg h]
    by_cases h1 : a = b
    · rw [if_pos ⟨by omega, h1⟩]; simp [h1]
    · rw [if_neg (by omega)]; simp [h1]
theorem aS_awS (a b : Nat) (x : List Int32) : aS_ (awS s b x) a = if 4000 ≤ a ∧ a = b then x else aS_ s a := by
  unfold aS_ awS au_
  by_cases h : a < 4000
  · simp only [h, if_true, show ¬ 4000 ≤ a by omega, false_and, if_false]
  · rw [if_neg h, if_neg h]
    by_cases h1 : a = b
    · rw [if_pos ⟨by omega, h1⟩]; simp [h1]
    · rw [if_neg (by omega)]; simp [h1]
theorem aL_awL (a b : Nat) (x : List (Option Nat)) : aL_ (awL s b x) a = if a = b then x else aL_ s a := rfl
theorem aM_awM (a b : Nat) (x : List ((List Int32 ⊕ Int32) × Option Nat)) : aM_ (awM s b x) a = if a = b then x else aM_ s a := rfl
theorem aI_anew (a k : Nat) (x : Nat × Nat) : aI_ (anew s x) a k = if 4000 ≤ a ∧ a = aN_ s then 0 else aI_ s a k := by
  unfold aI_ anew aN_
  by_cases h : a < 4000
  · simp only [h, if_true, show ¬ 4000 ≤ a by omega, false_and, if_false]
  · rw [if_neg h, if_neg h]
    by_cases h1 : a = s.2.2.2.1
    · rw [if_pos ⟨by omega, h1⟩]; simp [h1]
    · rw [if_neg (by omega)]; simp [h1]
theorem aR_anew (a k : Nat) (x : Nat × Nat) : aR_ (anew s x) a k = if a = aN_ s then none else aR_ s a k := rfl
theorem aK_anew (a : Nat) (x : Nat × Nat) : aK_ (anew s x) a = if 4000 ≤ a ∧ a = aN_ s then x else aK_ s a := by
  unfold aK_ anew aN_ au_
  by_cases h : a < 4000
  · simp only [h, if_true, show ¬ 4000 ≤ a by omega, false_and, if_false]
  · rw [if_neg h, if_neg h]
    by_cases h1 : a = s.2.2.2.1
    · rw [if_pos ⟨by omega, h1⟩]; simp [h1]
    · rw [if_neg (by omega)]; simp [h1]
theorem aN_anew (x : Nat × Nat) : aN_ (anew s x) = aN_ s + 1 := rfl
theorem aS_anew (a : Nat) (x : Nat × Nat) : aS_ (anew s x) a = if 4000 ≤ a ∧ a = aN_ s then [] else aS_ s a := by
  unfold aS_ anew aN_ au_
  by_cases h : a < 4000
  · simp only [h, if_true, show ¬ 4000 ≤ a by omega, false_and, if_false]
  · rw [if_neg h, if_neg h]
    by_cases h1 : a = s.2.2.2.1
    · rw [if_pos ⟨by omega, h1⟩]; simp [h1]
    · rw [if_neg (by omega)]; simp [h1]
theorem aL_anew (a : Nat) (x : Nat × Nat) : aL_ (anew s x) a = if a = aN_ s then [] else aL_ s a := rfl
theorem aM_anew (a : Nat) (x : Nat × Nat) : aM_ (anew s x) a = if a = aN_ s then [] else aM_ s a := rfl
theorem aC_anew (x : Nat × Nat) : aC_ (anew s x) = aC_ s := rfl
theorem aZ_anew (x : Nat × Nat) : aZ_ (anew s x) = aZ_ s := rfl
end amlem
