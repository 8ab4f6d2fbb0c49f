/-! ===== the component's nodes: made, a part put behind the others ===== -/
/-- a row of nodes from a reference on -/
def chn (s : as_) : Option Nat → List Nat → Prop
  | r, [] => r = none
  | r, a :: l => r = some a ∧ chn s (aR_ s a 107) l
/-- the parts of a node -/
def Ch (s : as_) (id : Nat) (l : List Nat) : Prop := chn s (aR_ s id 105) l ∧ aR_ s id 106 = l.getLast?
def isN (s : as_) (a : Nat) : Prop := (aK_ s a).1 = 9 ∨ (aK_ s a).1 = 5
/-- the memory with one part more -/
def wt_ (s : as_) (id : Nat) (l : List Nat) (y : Option Nat) : as_ := match l.getLast? with
  | none => awR (awR s id 105 y) id 106 y
  | some b => awR (awR s b 107 y) id 106 y
/-- a new node's memory -/
def nn_ (s : as_) (id : Nat) (k : Option Nat) (pl : Int32) : as_ := awI (awI (awR (awR s id 103 (some 1010)) id 99 k) id 100 pl) id 101 pl
section cnode
variable {s s' s0 : as_} {id y : Nat} {l : List Nat} {M : Nat → Prop}
theorem chn_fr : ∀ {l : List Nat} {r : Option Nat}, (∀ a, a ∈ l → aR_ s' a 107 = aR_ s a 107) → chn s r l → chn s' r l
  | [], r, _, h => h
  | a :: l, r, hf, h => ⟨h.1, by rw [hf a (by simp)]; exact chn_fr (fun b hb => hf b (by simp [hb])) h.2⟩
theorem chn_sn : ∀ {l : List Nat} {r : Option Nat} {b : Nat}, (∀ a, a ∈ l → aR_ s' a 107 = aR_ s a 107) → aR_ s' b 107 = some y → aR_ s' y 107 = none → chn s r (l ++ [b]) → chn s' r (l ++ [b] ++ [y])
  | [], r, b, _, h1, h2, h => ⟨h.1, by show aR_ s' b 107 = some y ∧ aR_ s' y 107 = none; exact ⟨h1, h2⟩⟩
  | a :: l, r, b, hf, h1, h2, h => ⟨h.1, by
      have : chn s (aR_ s a 107) (l ++ [b]) := h.2
      have q := chn_sn (fun c hc => hf c (by simp [hc])) h1 h2 this
      rw [hf a (by simp)]
      exact q⟩
theorem nfc_ {f a : Nat} (h : isN s a) (hf : ac_f f 9 = true ∧ ac_f f 5 = true) : ∃ c, (aK_ s a).1 = c ∧ ac_f f c = true := by
  rcases h with h | h
  · exact ⟨9, h, hf.1⟩
  · exact ⟨5, h, hf.2⟩
theorem n_pr {f a : Nat} {v : Option Nat} (h : isN s a) (hf : ac_f f 9 = true ∧ ac_f f 5 = true) : a_pr f (some a) v s = some (awR s a f v) := by
  obtain ⟨c, h1, h2⟩ := nfc_ h hf
  exact f_pr h1 h2
theorem n_gr {f a : Nat} (h : isN s a) (hf : ac_f f 9 = true ∧ ac_f f 5 = true) : a_gr f (some a) s = some (aR_ s a f) := by
  obtain ⟨c, h1, h2⟩ := nfc_ h hf
  exact f_gr h1 h2
theorem n_gi {f a : Nat} (h : isN s a) (hf : ac_f f 9 = true ∧ ac_f f 5 = true) : a_gi f (some a) s = some (aI_ s a f) := by
  obtain ⟨c, h1, h2⟩ := nfc_ h hf
  exact f_gi h1 h2
theorem n_pi {f a : Nat} {v : Int32} (h : isN s a) (hf : ac_f f 9 = true ∧ ac_f f 5 = true) (hz : (!af_z f || mm_01 v) = true) : a_pi f (some a) v s = some (awI s a f v) := by
  obtain ⟨c, h1, h2⟩ := nfc_ h hf
  exact f_pi h1 h2 hz
theorem n_dp {f a : Nat} (h : isN s a) (hf : ac_m f 9 = true ∧ ac_m f 5 = true) : a_dp f (some a) s = some f := by
  rcases h with h | h
  · exact f_dp h hf.1
  · exact f_dp h hf.2
theorem y_new (d : Nat) (h : isN s id) (k : Option Nat) (pl : Int32) : aE (d + 2) 305 [vr_ (some id), vr_ k, vi_ pl] s = some (.inl none, nn_ s id k pl) := by
  rw [ce_X14_init, l_obj, cV_k, n_pr (f := 103) h (by decide), Option.bind_some, n_pr (f := 99) (s := awR s id 103 (some 1010)) h (by decide), Option.bind_some, n_pi (f := 100) (s := awR (awR s id 103 (some 1010)) id 99 k) h (by decide) rfl, Option.bind_some, n_pi (f := 101) (s := awI (awR (awR s id 103 (some 1010)) id 99 k) id 100 pl) h (by decide) rfl, Option.bind_some]
  rfl
theorem y_with (d : Nat) (h : isN s id) (hC : Ch s id l) (hl : ∀ a, a ∈ l → isN s a) (v : Option Nat) : aE (d + 1) 306 [vr_ (some id), vr_ v] s = some (.inl (some (vr_ (some id))), wt_ s id l v) := by
  rw [ce_X14_with, n_gr (f := 106) h (by decide), Option.bind_some, hC.2]
  unfold wt_
  cases hb : l.getLast? with
  | none =>
    dsimp only
    rw [if_pos rfl, n_pr (f := 105) h (by decide), Option.bind_some, n_pr (f := 106) (s := awR s id 105 v) h (by decide), Option.bind_some]
  | some b =>
    have hm : b ∈ l := List.mem_of_getLast? hb
    dsimp only
    rw [if_neg (by simp), Option.bind_some, n_pr (f := 107) (hl b hm) (by decide), Option.bind_some, n_pr (f := 106) (s := awR s b 107 v) h (by decide), Option.bind_some]
theorem wt_I (a k : Nat) (v : Option Nat) : aI_ (wt_ s id l v) a k = aI_ s a k := by unfold wt_; split <;> rfl
theorem wt_K (a : Nat) (v : Option Nat) : aK_ (wt_ s id l v) a = aK_ s a := by unfold wt_; split <;> rfl
theorem wt_S (a : Nat) (v : Option Nat) : aS_ (wt_ s id l v) a = aS_ s a := by unfold wt_; split <;> rfl
theorem wt_L (a : Nat) (v : Option Nat) : aL_ (wt_ s id l v) a = aL_ s a := by unfold wt_; split <;> rfl
theorem wt_N (v : Option Nat) : aN_ (wt_ s id l v) = aN_ s := by unfold wt_; split <;> rfl
theorem wt_Rm (v : Option Nat) : Rm 0 0 s (wt_ s id l v) := by unfold wt_; split <;> exact ⟨Nat.le_refl _, Nat.le_refl _⟩
theorem wt_R (a k : Nat) (v : Option Nat) (h : k ≠ 105 ∧ k ≠ 106 ∧ k ≠ 107) : aR_ (wt_ s id l v) a k = aR_ s a k := by
  unfold wt_
  split
  · rw [aR_awR, if_neg (by omega), aR_awR, if_neg (by omega)]
  · rw [aR_awR, if_neg (by omega), aR_awR, if_neg (by omega)]
theorem wt_Kp (h : Kp M s0 s) (hi : M id ∨ aN_ s0 ≤ id) (hl : ∀ a, a ∈ l → M a ∨ aN_ s0 ≤ a) (v : Option Nat) : Kp M s0 (wt_ s id l v) := by
  unfold wt_
  split
  · exact Kp_R (Kp_R h 105 _ hi) 106 _ hi
  · rename_i b hb
    exact Kp_R (Kp_R h 107 _ (hl b (List.mem_of_getLast? hb))) 106 _ hi
theorem wt_Ch (hC : Ch s id l) (hn : l.Nodup) (hi : id ∉ l) (hy : aR_ s y 107 = none) (h1 : y ∉ l) (h2 : y ≠ id) : Ch (wt_ s id l (some y)) id (l ++ [y]) := by
  refine ⟨?_, ?_⟩
  · rcases ls_cs l with rfl | ⟨l0, b, rfl⟩
    · show aR_ (awR (awR s id 105 (some y)) id 106 (some y)) id 105 = some y ∧ aR_ (awR (awR s id 105 (some y)) id 106 (some y)) y 107 = none
      refine ⟨?_, ?_⟩
      · rw [aR_awR, if_neg (by omega), aR_awR, if_pos ⟨rfl, rfl⟩]
      · rw [aR_awR, if_neg (by omega), aR_awR, if_neg (by omega)]; exact hy
    · have e : wt_ s id (l0 ++ [b]) (some y) = awR (awR s b 107 (some y)) id 106 (some y) := by unfold wt_; rw [List.getLast?_concat]
      rw [e]
      have hb : b ∉ l0 := by
        have := List.nodup_append.mp hn
        exact fun q => this.2.2 b q b (by simp) rfl
      have hbi : id ≠ b := fun q => hi (by simp [q])
      have hyb : y ≠ b := fun q => h1 (by simp [q])
      have hf : aR_ (awR (awR s b 107 (some y)) id 106 (some y)) id 105 = aR_ s id 105 := by rw [aR_awR, if_neg (by omega), aR_awR, if_neg (by omega)]
      rw [hf]
      refine chn_sn (s := s) (fun a ha => ?_) ?_ ?_ hC.1
      · have : a ≠ b := fun q => hb (q ▸ ha)
        rw [aR_awR, if_neg (by omega), aR_awR, if_neg (by omega)]
      · rw [aR_awR, if_neg (by omega), aR_awR, if_pos ⟨rfl, rfl⟩]
      · rw [aR_awR, if_neg (by omega), aR_awR, if_neg (by omega)]; exact hy
  · rw [List.getLast?_concat]
    unfold wt_
    split
    · rw [aR_awR, if_pos ⟨rfl, rfl⟩]
    · rw [aR_awR, if_pos ⟨rfl, rfl⟩]
end cnode
