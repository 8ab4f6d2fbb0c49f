/-! ===== tags: the reference's numbers against the component's texts ===== -/
/-- the reference's number of a tag -/
def VL (L : List (List Int32)) (u : List Int32) (v : Int32) : Prop := if u = [] then v = -1 else ∃ j, v = nI j ∧ L[j]? = some u
/-- open sections, the last one first -/
def SV (L : List (List Int32)) : List (List Int32) → List (Int32 × Nat) → Prop
  | [], [] => True
  | u :: r, g :: w => VL L u g.1 ∧ SV L r w
  | _, _ => False
section cvl
variable {L : List (List Int32)} {u u' : List Int32} {v v' : Int32}
theorem VL_neg (hl : L.length < 2 ^ 31) (h : VL L u v) : (v < 0) = (u = []) := by
  unfold VL at h
  by_cases c : u = []
  · rw [if_pos c] at h
    rw [h]
    simp only [c, eq_iff_iff, iff_true]
    decide
  · rw [if_neg c] at h
    obtain ⟨j, rfl, hj⟩ := h
    have : j < L.length := (List.getElem?_eq_some_iff.mp hj).1
    simp only [c, eq_iff_iff, iff_false]
    exact nI_pos (by omega)
theorem VL_eq (hn : L.Nodup) (hl : L.length < 2 ^ 31) (h : VL L u v) (h' : VL L u' v') : (v = v') = (u = u') := by
  have n1 := VL_neg hl h
  have n2 := VL_neg hl h'
  unfold VL at h h'
  by_cases c : u = []
  · by_cases c' : u' = []
    · rw [if_pos c] at h
      rw [if_pos c'] at h'
      simp [h, h', c, c']
    · simp only [c, eq_iff_iff, iff_true] at n1
      simp only [c', eq_iff_iff, iff_false] at n2
      have e : ¬ v = v' := fun q => n2 (q ▸ n1)
      have e2 : ¬ u = u' := fun q => c' (q ▸ c)
      simp only [e, e2]
  · by_cases c' : u' = []
    · simp only [c, eq_iff_iff, iff_false] at n1
      simp only [c', eq_iff_iff, iff_true] at n2
      have e : ¬ v = v' := fun q => n1 (q ▸ n2)
      have e2 : ¬ u = u' := fun q => c (q ▸ c')
      simp only [e, e2]
    · rw [if_neg c] at h
      rw [if_neg c'] at h'
      obtain ⟨j, rfl, hj⟩ := h
      obtain ⟨k, rfl, hk⟩ := h'
      have b1 : j < L.length := (List.getElem?_eq_some_iff.mp hj).1
      have b2 : k < L.length := (List.getElem?_eq_some_iff.mp hk).1
      rw [neq_ (by omega) (by omega)]
      apply propext
      constructor
      · rintro rfl
        rw [hj] at hk
        exact Option.some.inj hk
      · rintro rfl
        exact (List.getElem?_inj b1 hn).mp (hj.trans hk.symm)
theorem hs_ok (hn : L.Nodup) (hl : L.length < 2 ^ 31) (h : VL L u v) : ∀ {ur : List (List Int32)} {sc : List (Int32 × Nat)}, SV L ur sc → hs_ v sc = decide (u ∈ ur)
  | [], [], _ => by simp [hs_]
  | a :: r, g :: w, hs => by
    have ih := hs_ok hn hl h hs.2
    have e := VL_eq hn hl hs.1 h
    unfold hs_
    rw [ih]
    simp only [e, List.mem_cons]
    by_cases c : a = u
    · simp [c]
    · have c' : ¬ u = a := fun q => c q.symm
      simp [c, c']
  | [], _ :: _, hs => hs.elim
  | _ :: _, [], hs => hs.elim
end cvl
