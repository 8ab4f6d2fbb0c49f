/-! ===== the component's methods over the abstract memory: what stays, fields, calls of the library ===== -/
/-- what was there stays, but for M -/
def Kp (M : Nat → Prop) (s s' : as_) : Prop := aN_ s ≤ aN_ s' ∧ ∀ a, a < aN_ s → ¬ M a → (∀ k, aI_ s' a k = aI_ s a k) ∧ (∀ k, aR_ s' a k = aR_ s a k) ∧ aK_ s' a = aK_ s a ∧ aS_ s' a = aS_ s a ∧ aL_ s' a = aL_ s a ∧ aM_ s' a = aM_ s a
/-- at most so many cells and slots more -/
def Rm (c z : Nat) (s s' : as_) : Prop := aC_ s' ≤ aC_ s + c ∧ aZ_ s' ≤ aZ_ s + z
section cbase
variable {M : Nat → Prop} {s s0 s1 s2 : as_}
theorem Kp_rf : Kp M s s := ⟨Nat.le_refl _, fun _ _ _ => ⟨fun _ => rfl, fun _ => rfl, rfl, rfl, rfl, rfl⟩⟩
theorem Kp_tr (h : Kp M s s1) (h' : Kp M s1 s2) : Kp M s s2 := ⟨Nat.le_trans h.1 h'.1, fun a ha hm => by
  obtain ⟨a1, a2, a3, a4, a5, a6⟩ := h.2 a ha hm
  obtain ⟨b1, b2, b3, b4, b5, b6⟩ := h'.2 a (Nat.lt_of_lt_of_le ha h.1) hm
  exact ⟨fun k => (b1 k).trans (a1 k), fun k => (b2 k).trans (a2 k), b3.trans a3, b4.trans a4, b5.trans a5, b6.trans a6⟩⟩
theorem Kp_wk {M' : Nat → Prop} (h : Kp M s s1) (hm : ∀ a, a < aN_ s → M a → M' a) : Kp M' s s1 := ⟨h.1, fun a ha hn => h.2 a ha (fun q => hn (hm a ha q))⟩
/-- what a callee may write that it made its own, or that is the caller's -/
theorem Kp_in {M' : Nat → Prop} (h : Kp M s0 s) (h' : Kp M' s s1) (hm : ∀ a, M' a → M a ∨ aN_ s0 ≤ a) : Kp M s0 s1 := ⟨Nat.le_trans h.1 h'.1, fun a ha hn => by
  obtain ⟨a1, a2, a3, a4, a5, a6⟩ := h.2 a ha hn
  obtain ⟨b1, b2, b3, b4, b5, b6⟩ := h'.2 a (Nat.lt_of_lt_of_le ha h.1) (fun q => by
    rcases hm a q with q | q
    · exact hn q
    · omega)
  exact ⟨fun k => (b1 k).trans (a1 k), fun k => (b2 k).trans (a2 k), b3.trans a3, b4.trans a4, b5.trans a5, b6.trans a6⟩⟩
theorem Kp_I (h : Kp M s0 s) {a : Nat} (k : Nat) (x : Int32) (ha : M a ∨ aN_ s0 ≤ a) : Kp M s0 (awI s a k x) := ⟨h.1, fun b hb hn => by
  obtain ⟨a1, a2, a3, a4, a5, a6⟩ := h.2 b hb hn
  refine ⟨fun j => ?_, a2, a3, a4, a5, a6⟩
  rw [aI_awI, if_neg (fun q => by
    obtain ⟨_, rfl, _⟩ := q
    rcases ha with q | q
    · exact hn q
    · omega)]
  exact a1 j⟩
theorem Kp_R (h : Kp M s0 s) {a : Nat} (k : Nat) (x : Option Nat) (ha : M a ∨ aN_ s0 ≤ a) : Kp M s0 (awR s a k x) := ⟨h.1, fun b hb hn => by
  obtain ⟨a1, a2, a3, a4, a5, a6⟩ := h.2 b hb hn
  refine ⟨a1, fun j => ?_, a3, a4, a5, a6⟩
  rw [aR_awR, if_neg (fun q => by
    obtain ⟨rfl, _⟩ := q
    rcases ha with q | q
    · exact hn q
    · omega)]
  exact a2 j⟩
theorem Kp_K (h : Kp M s0 s) {a : Nat} (x : Nat × Nat) (ha : M a ∨ aN_ s0 ≤ a) : Kp M s0 (awK s a x) := ⟨h.1, fun b hb hn => by
  obtain ⟨a1, a2, a3, a4, a5, a6⟩ := h.2 b hb hn
  refine ⟨a1, a2, ?_, a4, a5, a6⟩
  rw [aK_awK, if_neg (fun q => by
    obtain ⟨_, rfl⟩ := q
    rcases ha with q | q
    · exact hn q
    · omega)]
  exact a3⟩
theorem Kp_S (h : Kp M s0 s) {a : Nat} (x : List Int32) (ha : M a ∨ aN_ s0 ≤ a) : Kp M s0 (awS s a x) := ⟨h.1, fun b hb hn => by
  obtain ⟨a1, a2, a3, a4, a5, a6⟩ := h.2 b hb hn
  refine ⟨a1, a2, a3, ?_, a5, a6⟩
  rw [aS_awS, if_neg (fun q => by
    obtain ⟨_, rfl⟩ := q
    rcases ha with q | q
    · exact hn q
    · omega)]
  exact a4⟩
theorem Kp_L (h : Kp M s0 s) {a : Nat} (x : List (Option Nat)) (ha : M a ∨ aN_ s0 ≤ a) : Kp M s0 (awL s a x) := ⟨h.1, fun b hb hn => by
  obtain ⟨a1, a2, a3, a4, a5, a6⟩ := h.2 b hb hn
  refine ⟨a1, a2, a3, a4, ?_, a6⟩
  rw [aL_awL, if_neg (fun q => by
    subst q
    rcases ha with q | q
    · exact hn q
    · omega)]
  exact a5⟩
theorem Kp_M (h : Kp M s0 s) {a : Nat} (x : List ((List Int32 ⊕ Int32) × Option Nat)) (ha : M a ∨ aN_ s0 ≤ a) : Kp M s0 (awM s a x) := ⟨h.1, fun b hb hn => by
  obtain ⟨a1, a2, a3, a4, a5, a6⟩ := h.2 b hb hn
  refine ⟨a1, a2, a3, a4, a5, ?_⟩
  rw [aM_awM, if_neg (fun q => by
    subst q
    rcases ha with q | q
    · exact hn q
    · omega)]
  exact a6⟩
theorem Kp_C (h : Kp M s0 s) (c z : Nat) : Kp M s0 (awC s c z) := h
theorem Kp_new (h : Kp M s0 s) (x : Nat × Nat) : Kp M s0 (anew s x) := ⟨Nat.le_trans h.1 (Nat.le_succ _), fun b hb hn => by
  obtain ⟨a1, a2, a3, a4, a5, a6⟩ := h.2 b hb hn
  have hne : ¬ b = aN_ s := by have := h.1; omega
  refine ⟨fun j => ?_, fun j => ?_, ?_, ?_, ?_, ?_⟩
  · rw [aI_anew, if_neg (fun q => hne q.2)]; exact a1 j
  · rw [aR_anew, if_neg hne]; exact a2 j
  · rw [aK_anew, if_neg (fun q => hne q.2)]; exact a3
  · rw [aS_anew, if_neg (fun q => hne q.2)]; exact a4
  · rw [aL_anew, if_neg hne]; exact a5
  · rw [aM_anew, if_neg hne]; exact a6⟩
theorem Rm_rf : Rm 0 0 s s := ⟨Nat.le_refl _, Nat.le_refl _⟩
theorem Rm_tr {c z c' z' : Nat} (h : Rm c z s s1) (h' : Rm c' z' s1 s2) : Rm (c + c') (z + z') s s2 := ⟨by have := h.1; have := h'.1; omega, by have := h.2; have := h'.2; omega⟩
theorem Rm_wk {c z c' z' : Nat} (h : Rm c z s s1) (hc : c ≤ c') (hz : z ≤ z') : Rm c' z' s s1 := ⟨by have := h.1; omega, by have := h.2; omega⟩
/-! fields -/
theorem f_gi {f x c : Nat} (h : (aK_ s x).1 = c) (hc : ac_f f c = true) : a_gi f (some x) s = some (aI_ s x f) := by
  unfold a_gi
  dsimp only
  rw [h, if_pos hc]
theorem f_gr {f x c : Nat} (h : (aK_ s x).1 = c) (hc : ac_f f c = true) : a_gr f (some x) s = some (aR_ s x f) := by
  unfold a_gr
  dsimp only
  rw [h, if_pos hc]
theorem f_pi {f x c : Nat} {v : Int32} (h : (aK_ s x).1 = c) (hc : ac_f f c = true) (hz : (!af_z f || mm_01 v) = true) : a_pi f (some x) v s = some (awI s x f v) := by
  unfold a_pi
  dsimp only
  rw [h, hc, hz]
  rfl
theorem f_pr {f x c : Nat} {v : Option Nat} (h : (aK_ s x).1 = c) (hc : ac_f f c = true) : a_pr f (some x) v s = some (awR s x f v) := by
  unfold a_pr
  dsimp only
  rw [h, if_pos hc]
theorem f_dp {f x c : Nat} (h : (aK_ s x).1 = c) (hc : ac_m f c = true) : a_dp f (some x) s = some f := by
  unfold a_dp
  dsimp only
  rw [h, if_pos hc]
theorem f_ai {t x c n : Nat} {i : Nat} (h : aK_ s x = (c, n)) (hc : ac_a t c = true) (hi : i < n) (hn : n < 2 ^ 31) : a_ai t (some x) (nI i) s = some (aI_ s x i) := by
  unfold a_ai
  dsimp only
  rw [h]
  dsimp only
  rw [hc, mm_in_n hi hn, nI_clamp (by omega)]
  rfl
theorem f_wi {t x c n : Nat} {i : Nat} {v : Int32} (h : aK_ s x = (c, n)) (hc : ac_a t c = true) (hi : i < n) (hn : n < 2 ^ 31) : a_wi t (some x) (nI i) v s = some (awI s x i (a_nb c v)) := by
  unfold a_wi
  dsimp only
  rw [h]
  dsimp only
  rw [hc, mm_in_n hi hn, nI_clamp (by omega)]
  rfl
/-! results of calls -/
theorem cV_k {σ : Type} {h : Nat → σ → cx_O σ} (s : σ) (k : σ → cx_O σ) : cx_bV h (some (.inl none, s)) k = k s := rfl
theorem cI_k {σ : Type} {h : Nat → σ → cx_O σ} (v : Int32) (s : σ) (k : Int32 → σ → cx_O σ) : cx_bI h (some (.inl (some (vi_ v)), s)) k = k v s := rfl
theorem cR_k {σ : Type} {h : Nat → σ → cx_O σ} (v : Option Nat) (s : σ) (k : Option Nat → σ → cx_O σ) : cx_bR h (some (.inl (some (vr_ v)), s)) k = k v s := rfl
theorem cV_x {σ : Type} {h : Nat → σ → cx_O σ} (a : Nat) (s : σ) (k : σ → cx_O σ) : cx_bV h (some (.inr a, s)) k = h a s := rfl
theorem cI_x {σ : Type} {h : Nat → σ → cx_O σ} (a : Nat) (s : σ) (k : Int32 → σ → cx_O σ) : cx_bI h (some (.inr a, s)) k = h a s := rfl
theorem cR_x {σ : Type} {h : Nat → σ → cx_O σ} (a : Nat) (s : σ) (k : Option Nat → σ → cx_O σ) : cx_bR h (some (.inr a, s)) k = h a s := rfl
/-! the library -/
theorem l_obj (d x : Nat) (s : as_) : aE (d + 1) 151 [vr_ (some x)] s = some (.inl none, s) := aE_pm d _ _ s rfl
theorem l_rte (d x : Nat) (s : as_) : aE (d + 1) 124 [vr_ (some x)] s = some (.inl none, s) := aE_pm d _ _ s rfl
theorem l_nse (d x : Nat) (s : as_) : aE (d + 1) 133 [vr_ (some x)] s = some (.inl none, s) := aE_pm d _ _ s rfl
theorem l_newL (d x : Nat) (s : as_) : aE (d + 1) 72 [vr_ (some x)] s = some (.inl none, awL s x []) := aE_pm d _ _ s rfl
theorem l_add (d x : Nat) (y : Option Nat) (s : as_) : aE (d + 1) 73 [vr_ (some x), vr_ y] s = some (.inl (some (vi_ 1)), al_add s x y) := aE_pm d _ _ s rfl
theorem l_get (d x : Nat) {i : Nat} {y : Option Nat} {s : as_} (h : (aL_ s x)[i]? = some y) (hl : (aL_ s x).length < 2 ^ 31) : aE (d + 1) 79 [vr_ (some x), vi_ (nI i)] s = some (.inl (some (vr_ y)), s) := by
  have hi : i < (aL_ s x).length := (List.getElem?_eq_some_iff.mp h).1
  refine aE_pm d _ _ s ?_
  show (if mm_in (nI i) (aL_ s x).length then _ else _) = _
  rw [mm_in_n hi hl, if_pos rfl, nI_clamp (by omega)]
  show a_r ((aL_ s x).getD i none) s = _
  rw [List.getD_eq_getElem?_getD, h]
  rfl
theorem l_size (d x : Nat) (s : as_) : aE (d + 1) 78 [vr_ (some x)] s = some (.inl (some (vi_ (nI (aL_ s x).length))), s) := aE_pm d _ _ s rfl
theorem l_empty (d x : Nat) (s : as_) : aE (d + 1) 77 [vr_ (some x)] s = some (.inl (some (vi_ (a_b (aL_ s x).isEmpty))), s) := aE_pm d _ _ s rfl
theorem l_len (d x : Nat) (s : as_) : aE (d + 1) 86 [vr_ (some x)] s = some (.inl (some (vi_ (nI (aS_ s x).length))), s) := aE_pm d _ _ s rfl
theorem l_hash (d x : Nat) (s : as_) : aE (d + 1) 95 [vr_ (some x)] s = some (.inl (some (vi_ (as_hash (aS_ s x)))), s) := aE_pm d _ _ s rfl
theorem l_equals (d x : Nat) (y : Option Nat) (s : as_) : aE (d + 1) 99 [vr_ (some x), vr_ y] s = some (.inl (some (vi_ (a_b (decide (a_key s y = some (.inl (aS_ s x))))))), s) := aE_pm d _ _ s rfl
theorem l_isEmpty (d x : Nat) (s : as_) : aE (d + 1) 104 [vr_ (some x)] s = some (.inl (some (vi_ (a_b (aS_ s x).isEmpty))), s) := aE_pm d _ _ s rfl
theorem l_charAt (d x : Nat) {i : Nat} {c : Int32} {s : as_} (h : (aS_ s x)[i]? = some c) (hl : (aS_ s x).length < 2 ^ 31) : aE (d + 1) 88 [vr_ (some x), vi_ (nI i)] s = some (.inl (some (vi_ c)), s) := by
  have hi : i < (aS_ s x).length := (List.getElem?_eq_some_iff.mp h).1
  refine aE_pm d _ _ s ?_
  show (if mm_in (nI i) (aS_ s x).length then _ else _) = _
  rw [mm_in_n hi hl, if_pos rfl, nI_clamp (by omega)]
  show a_i ((aS_ s x).getD i 0) s = _
  rw [List.getD_eq_getElem?_getD, h]
  rfl
theorem l_find (d x : Nat) {c : Int32} {s : as_} (h : 0 ≤ c ∧ c < 256) : aE (d + 1) 102 [vr_ (some x), vi_ c] s = some (.inl (some (vi_ (as_find (aS_ s x) c 0))), s) := by
  refine aE_pm d _ _ s ?_
  show (if 0 ≤ c ∧ c < 256 then _ else _) = _
  rw [if_pos h]
theorem l_sbInit (d x : Nat) (s : as_) : aE (d + 1) 117 [vr_ (some x)] s = some (.inl none, awC (awS s x []) 1 16) := aE_pm d _ _ s rfl
theorem l_sbZero (d x : Nat) (s : as_) : aE (d + 1) 118 [vr_ (some x), vi_ 0] s = some (.inl none, awS s x []) := aE_pm d _ _ s rfl
theorem l_sbApp (d x : Nat) {c : Int32} {s : as_} (h : 0 ≤ c ∧ c < 256) : aE (d + 1) 119 [vr_ (some x), vi_ c] s = some (.inl (some (vr_ (some x))), as_app s x c) := by
  refine aE_pm d _ _ s ?_
  show (if 0 ≤ c ∧ c < 256 then _ else _) = _
  rw [if_pos h]
theorem l_sbLen (d x : Nat) (s : as_) : aE (d + 1) 120 [vr_ (some x)] s = some (.inl (some (vi_ (nI (aS_ s x).length))), s) := aE_pm d _ _ s rfl
theorem l_sbStr (d x : Nat) (s : as_) : aE (d + 1) 121 [vr_ (some x)] s = some (.inl (some (vr_ (some (aN_ s)))), as_new s (aS_ s x)) := aE_pm d _ _ s rfl
theorem l_max (d : Nat) (x y : Int32) (s : as_) : aE (d + 1) 193 [vi_ x, vi_ y] s = some (.inl (some (vi_ (if x < y then y else x))), s) := aE_pm d _ _ s rfl
theorem l_min (d : Nat) (x y : Int32) (s : as_) : aE (d + 1) 192 [vi_ x, vi_ y] s = some (.inl (some (vi_ (if y < x then y else x))), s) := aE_pm d _ _ s rfl
theorem l_abs (d : Nat) (x : Int32) (s : as_) : aE (d + 1) 194 [vi_ x] s = some (.inl (some (vi_ (if x < 0 then -x else x))), s) := aE_pm d _ _ s rfl
end cbase
