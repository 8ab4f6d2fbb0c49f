/-! ===== cx_B rises with its callees and jumps, and rests on finitely many of them ===== -/
section cxFix
variable {σ : Type}
theorem cx_bV_up {h1 h2 : Nat → σ → cx_O σ} {r1 r2 : cx_O σ} {k1 k2 : σ → cx_O σ} {q} (h : cx_bV h1 r1 k1 = some q) (hh : ∀ a s x, h1 a s = some x → h2 a s = some x) (hr : ∀ x, r1 = some x → r2 = some x) (hk : ∀ s x, k1 s = some x → k2 s = some x) : cx_bV h2 r2 k2 = some q := by
  unfold cx_bV at h
  split at h
  · rw [hr _ rfl]; exact hk _ _ h
  · rw [hr _ rfl]; exact hh _ _ _ h
  · cases h
theorem cx_bI_up {h1 h2 : Nat → σ → cx_O σ} {r1 r2 : cx_O σ} {k1 k2 : Int32 → σ → cx_O σ} {q} (h : cx_bI h1 r1 k1 = some q) (hh : ∀ a s x, h1 a s = some x → h2 a s = some x) (hr : ∀ x, r1 = some x → r2 = some x) (hk : ∀ v s x, k1 v s = some x → k2 v s = some x) : cx_bI h2 r2 k2 = some q := by
  unfold cx_bI at h
  split at h
  · rw [hr _ rfl]; exact hk _ _ _ h
  · rw [hr _ rfl]; exact hh _ _ _ h
  · cases h
theorem cx_bL_up {h1 h2 : Nat → σ → cx_O σ} {r1 r2 : cx_O σ} {k1 k2 : Int64 → σ → cx_O σ} {q} (h : cx_bL h1 r1 k1 = some q) (hh : ∀ a s x, h1 a s = some x → h2 a s = some x) (hr : ∀ x, r1 = some x → r2 = some x) (hk : ∀ v s x, k1 v s = some x → k2 v s = some x) : cx_bL h2 r2 k2 = some q := by
  unfold cx_bL at h
  split at h
  · rw [hr _ rfl]; exact hk _ _ _ h
  · rw [hr _ rfl]; exact hh _ _ _ h
  · cases h
theorem cx_bR_up {h1 h2 : Nat → σ → cx_O σ} {r1 r2 : cx_O σ} {k1 k2 : Option Nat → σ → cx_O σ} {q} (h : cx_bR h1 r1 k1 = some q) (hh : ∀ a s x, h1 a s = some x → h2 a s = some x) (hr : ∀ x, r1 = some x → r2 = some x) (hk : ∀ v s x, k1 v s = some x → k2 v s = some x) : cx_bR h2 r2 k2 = some q := by
  unfold cx_bR at h
  split at h
  · rw [hr _ rfl]; exact hk _ _ _ h
  · rw [hr _ rfl]; exact hh _ _ _ h
  · cases h
theorem cx_sw_up {β : Type} {x : Int32} {d : Int} {k1 k2 : Nat → Option β} (hk : ∀ t x, k1 t = some x → k2 t = some x) : ∀ (ps : List (Int × Int)) {q}, cx_sw x d k1 ps = some q → cx_sw x d k2 ps = some q
  | [], q, h => hk _ _ h
  | (c, t) :: r, q, h => by
    unfold cx_sw at h ⊢
    split at h
    · rename_i e; rw [if_pos e]; exact hk _ _ h
    · rename_i e; rw [if_neg e]; exact cx_sw_up hk r h
theorem cx_ib_up {β : Type} {b : Bool} {x1 x2 y1 y2 : Option β} {q} (h : cx_ib b x1 y1 = some q) (hx : ∀ x, x1 = some x → x2 = some x) (hy : ∀ x, y1 = some x → y2 = some x) : cx_ib b x2 y2 = some q := by
  cases b
  · exact hy _ h
  · exact hx _ h
theorem cx_ite_up {β : Type} {c : Prop} [Decidable c] {x1 x2 y1 y2 : Option β} {q} (h : (if c then x1 else y1) = some q) (hx : ∀ x, x1 = some x → x2 = some x) (hy : ∀ x, y1 = some x → y2 = some x) : (if c then x2 else y2) = some q := by
  split at h
  · rename_i e; rw [if_pos e]; exact hx _ h
  · rename_i e; rw [if_neg e]; exact hy _ h
theorem cx_at_up {h1 h2 : Nat → σ → cx_O σ} {a : Option Nat} {s : σ} {q} (h : cx_at h1 a s = some q) (hh : ∀ a s x, h1 a s = some x → h2 a s = some x) : cx_at h2 a s = some q := by
  cases a with
  | none => cases h
  | some a => exact hh _ _ _ h
theorem cx_bV_cp {hF : Nat → Nat → σ → cx_O σ} {h0 : Nat → σ → cx_O σ} {r : cx_O σ} {rF : Nat → cx_O σ} {K : σ → cx_O σ} {kF : Nat → σ → cx_O σ} {q} (h : cx_bV h0 r K = some q) (hh : ∀ a s x, h0 a s = some x → ∃ n, hF n a s = some x) (hr : ∀ x, r = some x → ∃ n, rF n = some x) (hk : ∀ s x, K s = some x → ∃ n, kF n s = some x)
    (uh : ∀ a b, a ≤ b → ∀ z s x, hF a z s = some x → hF b z s = some x) (ur : ∀ a b, a ≤ b → ∀ x, rF a = some x → rF b = some x) (uk : ∀ a b, a ≤ b → ∀ s x, kF a s = some x → kF b s = some x) : ∃ n, cx_bV (hF n) (rF n) (kF n) = some q := by
  unfold cx_bV at h
  split at h
  · obtain ⟨n, hn⟩ := hr _ rfl
    obtain ⟨m, hm⟩ := hk _ _ h
    refine ⟨max n m, ?_⟩
    rw [ur _ _ (Nat.le_max_left n m) _ hn]
    exact uk _ _ (Nat.le_max_right n m) _ _ hm
  · obtain ⟨n, hn⟩ := hr _ rfl
    obtain ⟨m, hm⟩ := hh _ _ _ h
    refine ⟨max n m, ?_⟩
    rw [ur _ _ (Nat.le_max_left n m) _ hn]
    exact uh _ _ (Nat.le_max_right n m) _ _ _ hm
  · cases h
theorem cx_bI_cp {hF : Nat → Nat → σ → cx_O σ} {h0 : Nat → σ → cx_O σ} {r : cx_O σ} {rF : Nat → cx_O σ} {K : Int32 → σ → cx_O σ} {kF : Nat → Int32 → σ → cx_O σ} {q} (h : cx_bI h0 r K = some q) (hh : ∀ a s x, h0 a s = some x → ∃ n, hF n a s = some x) (hr : ∀ x, r = some x → ∃ n, rF n = some x) (hk : ∀ v s x, K v s = some x → ∃ n, kF n v s = some x)
    (uh : ∀ a b, a ≤ b → ∀ z s x, hF a z s = some x → hF b z s = some x) (ur : ∀ a b, a ≤ b → ∀ x, rF a = some x → rF b = some x) (uk : ∀ a b, a ≤ b → ∀ v s x, kF a v s = some x → kF b v s = some x) : ∃ n, cx_bI (hF n) (rF n) (kF n) = some q := by
  unfold cx_bI at h
  split at h
  · obtain ⟨n, hn⟩ := hr _ rfl
    obtain ⟨m, hm⟩ := hk _ _ _ h
    refine ⟨max n m, ?_⟩
    rw [ur _ _ (Nat.le_max_left n m) _ hn]
    exact uk _ _ (Nat.le_max_right n m) _ _ _ hm
  · obtain ⟨n, hn⟩ := hr _ rfl
    obtain ⟨m, hm⟩ := hh _ _ _ h
    refine ⟨max n m, ?_⟩
    rw [ur _ _ (Nat.le_max_left n m) _ hn]
    exact uh _ _ (Nat.le_max_right n m) _ _ _ hm
  · cases h
theorem cx_bL_cp {hF : Nat → Nat → σ → cx_O σ} {h0 : Nat → σ → cx_O σ} {r : cx_O σ} {rF : Nat → cx_O σ} {K : Int64 → σ → cx_O σ} {kF : Nat → Int64 → σ → cx_O σ} {q} (h : cx_bL h0 r K = some q) (hh : ∀ a s x, h0 a s = some x → ∃ n, hF n a s = some x) (hr : ∀ x, r = some x → ∃ n, rF n = some x) (hk : ∀ v s x, K v s = some x → ∃ n, kF n v s = some x)
    (uh : ∀ a b, a ≤ b → ∀ z s x, hF a z s = some x → hF b z s = some x) (ur : ∀ a b, a ≤ b → ∀ x, rF a = some x → rF b = some x) (uk : ∀ a b, a ≤ b → ∀ v s x, kF a v s = some x → kF b v s = some x) : ∃ n, cx_bL (hF n) (rF n) (kF n) = some q := by
  unfold cx_bL at h
  split at h
  · obtain ⟨n, hn⟩ := hr _ rfl
    obtain ⟨m, hm⟩ := hk _ _ _ h
    refine ⟨max n m, ?_⟩
    rw [ur _ _ (Nat.le_max_left n m) _ hn]
    exact uk _ _ (Nat.le_max_right n m) _ _ _ hm
  · obtain ⟨n, hn⟩ := hr _ rfl
    obtain ⟨m, hm⟩ := hh _ _ _ h
    refine ⟨max n m, ?_⟩
    rw [ur _ _ (Nat.le_max_left n m) _ hn]
    exact uh _ _ (Nat.le_max_right n m) _ _ _ hm
  · cases h
theorem cx_bR_cp {hF : Nat → Nat → σ → cx_O σ} {h0 : Nat → σ → cx_O σ} {r : cx_O σ} {rF : Nat → cx_O σ} {K : Option Nat → σ → cx_O σ} {kF : Nat → Option Nat → σ → cx_O σ} {q} (h : cx_bR h0 r K = some q) (hh : ∀ a s x, h0 a s = some x → ∃ n, hF n a s = some x) (hr : ∀ x, r = some x → ∃ n, rF n = some x) (hk : ∀ v s x, K v s = some x → ∃ n, kF n v s = some x)
    (uh : ∀ a b, a ≤ b → ∀ z s x, hF a z s = some x → hF b z s = some x) (ur : ∀ a b, a ≤ b → ∀ x, rF a = some x → rF b = some x) (uk : ∀ a b, a ≤ b → ∀ v s x, kF a v s = some x → kF b v s = some x) : ∃ n, cx_bR (hF n) (rF n) (kF n) = some q := by
  unfold cx_bR at h
  split at h
  · obtain ⟨n, hn⟩ := hr _ rfl
    obtain ⟨m, hm⟩ := hk _ _ _ h
    refine ⟨max n m, ?_⟩
    rw [ur _ _ (Nat.le_max_left n m) _ hn]
    exact uk _ _ (Nat.le_max_right n m) _ _ _ hm
  · obtain ⟨n, hn⟩ := hr _ rfl
    obtain ⟨m, hm⟩ := hh _ _ _ h
    refine ⟨max n m, ?_⟩
    rw [ur _ _ (Nat.le_max_left n m) _ hn]
    exact uh _ _ (Nat.le_max_right n m) _ _ _ hm
  · cases h
theorem cx_sw_cp {β : Type} {x : Int32} {d : Int} {K : Nat → Option β} {kF : Nat → Nat → Option β} (hk : ∀ t x, K t = some x → ∃ n, kF n t = some x) : ∀ (ps : List (Int × Int)) {q}, cx_sw x d K ps = some q → ∃ n, cx_sw x d (kF n) ps = some q
  | [], q, h => hk _ _ h
  | (c, t) :: r, q, h => by
    unfold cx_sw at h
    split at h
    · rename_i e
      obtain ⟨n, hn⟩ := hk _ _ h
      exact ⟨n, by unfold cx_sw; rw [if_pos e]; exact hn⟩
    · rename_i e
      obtain ⟨n, hn⟩ := cx_sw_cp hk r h
      exact ⟨n, by unfold cx_sw; rw [if_neg e]; exact hn⟩
theorem cx_ib_cp {β : Type} {b : Bool} {x y : Option β} {xF yF : Nat → Option β} {q} (h : cx_ib b x y = some q) (hx : ∀ z, x = some z → ∃ n, xF n = some z) (hy : ∀ z, y = some z → ∃ n, yF n = some z) : ∃ n, cx_ib b (xF n) (yF n) = some q := by
  cases b
  · exact hy _ h
  · exact hx _ h
theorem cx_ite_cp {β : Type} {c : Prop} [Decidable c] {x y : Option β} {xF yF : Nat → Option β} {q} (h : (if c then x else y) = some q) (hx : ∀ z, x = some z → ∃ n, xF n = some z) (hy : ∀ z, y = some z → ∃ n, yF n = some z) : ∃ n, (if c then xF n else yF n) = some q := by
  split at h
  · rename_i e; obtain ⟨n, hn⟩ := hx _ h; exact ⟨n, by rw [if_pos e]; exact hn⟩
  · rename_i e; obtain ⟨n, hn⟩ := hy _ h; exact ⟨n, by rw [if_neg e]; exact hn⟩
theorem cx_at_cp {h0 : Nat → σ → cx_O σ} {hF : Nat → Nat → σ → cx_O σ} {a : Option Nat} {s : σ} {q} (h : cx_at h0 a s = some q) (hh : ∀ a s x, h0 a s = some x → ∃ n, hF n a s = some x) : ∃ n, cx_at (hF n) a s = some q := by
  cases a with
  | none => cases h
  | some a => exact hh _ _ _ h
variable {lc : Nat → Int64} {gi : Nat → Option Nat → σ → Option Int32} {gr : Nat → Option Nat → σ → Option (Option Nat)} {pi : Nat → Option Nat → Int32 → σ → Option σ} {pr : Nat → Option Nat → Option Nat → σ → Option σ} {ai : Nat → Option Nat → Int32 → σ → Option Int32} {ar : Option Nat → Int32 → σ → Option (Option Nat)} {wi : Nat → Option Nat → Int32 → Int32 → σ → Option σ} {wr : Option Nat → Int32 → Option Nat → σ → Option σ} {an : Option Nat → σ → Option Int32} {nw : Nat → σ → Nat × σ} {na : Nat → Int32 → σ → Option (Nat × σ)} {io : Nat → Option Nat → σ → Option Bool} {dp : Nat → Option Nat → σ → Option Nat}
variable {ft : Nat → Nat} {sg : Nat → Nat × Nat} {rt : Nat} {ht : List (Nat × Nat × Nat × Nat)} {code : List pj_E}
theorem cx_hx_up {n1 n2 : List pj_E → pj_Ls → List pj_V → σ → cx_O σ} (hn : ∀ r ls st s x, n1 r ls st s = some x → n2 r ls st s = some x) {pc : Nat} {ls : pj_Ls} (a : Nat) (s : σ) (x) (h : cx_hx io ht code n1 pc ls a s = some x) : cx_hx io ht code n2 pc ls a s = some x := by
  unfold cx_hx at h ⊢
  cases hq : cx_hd ht pc with
  | none => simp only [hq] at h ⊢; exact h
  | some z =>
    simp only [hq] at h ⊢
    exact pj_bind_up h (fun _ _ q => cx_ib_up q (fun _ q => hn _ _ _ _ _ q) (fun _ q => q))
theorem cx_call_up {n1 n2 : List pj_E → pj_Ls → List pj_V → σ → cx_O σ} {c1 c2 : Nat → List pj_V → σ → cx_O σ} {h1 h2 : Nat → σ → cx_O σ} (hn : ∀ r ls st s x, n1 r ls st s = some x → n2 r ls st s = some x) (hc : ∀ f a s x, c1 f a s = some x → c2 f a s = some x) (hh : ∀ a s x, h1 a s = some x → h2 a s = some x) {f rk : Nat} {as : List pj_V} {r : List pj_E} {ls : pj_Ls} {st : List pj_V} {s : σ} {q} (h : cx_call n1 c1 h1 f rk as r ls st s = some q) : cx_call n2 c2 h2 f rk as r ls st s = some q := by
  unfold cx_call at h ⊢
  split at h
  · exact cx_bV_up h hh (fun _ q => hc _ _ _ _ q) (fun _ _ q => hn _ _ _ _ _ q)
  · exact cx_bL_up h hh (fun _ q => hc _ _ _ _ q) (fun _ _ _ q => hn _ _ _ _ _ q)
  · exact cx_bR_up h hh (fun _ q => hc _ _ _ _ q) (fun _ _ _ q => hn _ _ _ _ _ q)
  · exact cx_bI_up h hh (fun _ q => hc _ _ _ _ q) (fun _ _ _ q => hn _ _ _ _ _ q)
set_option maxHeartbeats 4000000 in
theorem cx_X_up {n1 n2 : List pj_E → pj_Ls → List pj_V → σ → cx_O σ} {c1 c2 : Nat → List pj_V → σ → cx_O σ} (hn : ∀ r ls st s x, n1 r ls st s = some x → n2 r ls st s = some x) (hc : ∀ f a s x, c1 f a s = some x → c2 f a s = some x)
    {pc : Nat} {i : Instr} {im : Int32} {r : List pj_E} {ls : pj_Ls} {st : List pj_V} {s : σ} {q} (h : cx_X lc gi gr pi pr ai ar wi wr an nw na io dp ft sg rt ht code n1 c1 pc i im r ls st s = some q) : cx_X lc gi gr pi pr ai ar wi wr an nw na io dp ft sg rt ht code n2 c2 pc i im r ls st s = some q := by
  unfold cx_X at h ⊢
  cases hN : pj_isN i with
  | true =>
    simp only [hN] at h ⊢
    cases hp : pj_n lc i im ls st with
    | none => simp only [hp] at h; cases h
    | some z => simp only [hp] at h ⊢; exact hn _ _ _ _ _ h
  | false =>
    simp only [hN] at h ⊢
    split at h <;> first
      | exact hn _ _ _ _ _ h
      | exact pj_bind_up h (fun _ _ q => hn _ _ _ _ _ q)
      | exact pj_br_up h (fun _ q => hn _ _ _ _ _ q) (fun _ q => hn _ _ _ _ _ q)
      | exact cx_ite_up h (fun _ q => hn _ _ _ _ _ q) (fun _ q => hn _ _ _ _ _ q)
      | exact cx_sw_up (fun _ _ q => hn _ _ _ _ _ q) _ h
      | exact cx_at_up h (fun a s x q => cx_hx_up hn a s x q)
      | (split at h <;> first
          | exact pj_bind_up h (fun _ _ q => hn _ _ _ _ _ q)
          | exact cx_ite_up h (fun _ q => hn _ _ _ _ _ q) (fun _ q => hn _ _ _ _ _ q)
          | exact cx_call_up hn hc (fun a s x q => cx_hx_up hn a s x q) h
          | exact pj_bind_up h (fun _ _ q => pj_bind_up q (fun _ _ q => cx_call_up hn hc (fun a s x q => cx_hx_up hn a s x q) q))
          | exact h
          | cases h)
      | cases h
theorem cx_nx_up {B1 B2 : List pj_E → pj_Ls → List pj_V → σ → cx_O σ} {j1 j2 : Nat → List pj_V → List pj_V → σ → cx_O σ} (hB : ∀ r ls st s x, B1 r ls st s = some x → B2 r ls st s = some x) (hj : ∀ p v st s x, j1 p v st s = some x → j2 p v st s = some x)
    (r : List pj_E) (ls : pj_Ls) (st : List pj_V) (s : σ) (x) (h : cx_nx B1 j1 r ls st s = some x) : cx_nx B2 j2 r ls st s = some x := by
  unfold cx_nx at h ⊢
  split at h
  · cases h
  · exact pj_bind_up h (fun _ _ q => hj _ _ _ _ _ q)
  · exact hB _ _ _ _ _ h
theorem cx_nx_cp {BF : Nat → List pj_E → pj_Ls → List pj_V → σ → cx_O σ} {B : List pj_E → pj_Ls → List pj_V → σ → cx_O σ} {jF : Nat → Nat → List pj_V → List pj_V → σ → cx_O σ} {jm : Nat → List pj_V → List pj_V → σ → cx_O σ}
    (hB : ∀ r ls st s x, B r ls st s = some x → ∃ n, BF n r ls st s = some x) (hj : ∀ p v st s x, jm p v st s = some x → ∃ n, jF n p v st s = some x) (r : List pj_E) (ls : pj_Ls) (st : List pj_V) (s : σ) (x) (h : cx_nx B jm r ls st s = some x) : ∃ n, cx_nx (BF n) (jF n) r ls st s = some x := by
  unfold cx_nx at h ⊢
  split at h
  · cases h
  · exact pj_bind_cp h (fun _ _ q => hj _ _ _ _ _ q)
  · exact hB _ _ _ _ _ h
theorem cx_hx_cp {nF : Nat → List pj_E → pj_Ls → List pj_V → σ → cx_O σ} {nx : List pj_E → pj_Ls → List pj_V → σ → cx_O σ} (hn : ∀ r ls st s x, nx r ls st s = some x → ∃ n, nF n r ls st s = some x) {pc : Nat} {ls : pj_Ls} (a : Nat) (s : σ) (x) (h : cx_hx io ht code nx pc ls a s = some x) : ∃ n, cx_hx io ht code (nF n) pc ls a s = some x := by
  unfold cx_hx at h ⊢
  cases hq : cx_hd ht pc with
  | none => simp only [hq] at h ⊢; exact ⟨0, h⟩
  | some z =>
    simp only [hq] at h ⊢
    exact pj_bind_cp h (fun _ _ q => cx_ib_cp q (fun _ q => hn _ _ _ _ _ q) (fun _ q => ⟨0, q⟩))
theorem cx_call_cp {nF : Nat → List pj_E → pj_Ls → List pj_V → σ → cx_O σ} {nx : List pj_E → pj_Ls → List pj_V → σ → cx_O σ} {cF : Nat → Nat → List pj_V → σ → cx_O σ} {ca : Nat → List pj_V → σ → cx_O σ} {hF : Nat → Nat → σ → cx_O σ} {h0 : Nat → σ → cx_O σ}
    (hn : ∀ r ls st s x, nx r ls st s = some x → ∃ n, nF n r ls st s = some x) (hc : ∀ f a s x, ca f a s = some x → ∃ n, cF n f a s = some x) (hh : ∀ a s x, h0 a s = some x → ∃ n, hF n a s = some x)
    (un : ∀ a b, a ≤ b → ∀ r ls st s x, nF a r ls st s = some x → nF b r ls st s = some x) (uc : ∀ a b, a ≤ b → ∀ f v s x, cF a f v s = some x → cF b f v s = some x) (uh : ∀ a b, a ≤ b → ∀ z s x, hF a z s = some x → hF b z s = some x)
    {f rk : Nat} {as : List pj_V} {r : List pj_E} {ls : pj_Ls} {st : List pj_V} {s : σ} {q} (h : cx_call nx ca h0 f rk as r ls st s = some q) : ∃ n, cx_call (nF n) (cF n) (hF n) f rk as r ls st s = some q := by
  unfold cx_call at h ⊢
  split at h
  · exact cx_bV_cp h hh (fun _ q => hc _ _ _ _ q) (fun _ _ q => hn _ _ _ _ _ q) uh (fun a b hab x q => uc a b hab _ _ _ _ q) (fun a b hab s x q => un a b hab _ _ _ _ _ q)
  · exact cx_bL_cp h hh (fun _ q => hc _ _ _ _ q) (fun _ _ _ q => hn _ _ _ _ _ q) uh (fun a b hab x q => uc a b hab _ _ _ _ q) (fun a b hab v s x q => un a b hab _ _ _ _ _ q)
  · exact cx_bR_cp h hh (fun _ q => hc _ _ _ _ q) (fun _ _ _ q => hn _ _ _ _ _ q) uh (fun a b hab x q => uc a b hab _ _ _ _ q) (fun a b hab v s x q => un a b hab _ _ _ _ _ q)
  · exact cx_bI_cp h hh (fun _ q => hc _ _ _ _ q) (fun _ _ _ q => hn _ _ _ _ _ q) uh (fun a b hab x q => uc a b hab _ _ _ _ q) (fun a b hab v s x q => un a b hab _ _ _ _ _ q)
set_option maxHeartbeats 4000000 in
theorem cx_X_cp {nF : Nat → List pj_E → pj_Ls → List pj_V → σ → cx_O σ} {nx : List pj_E → pj_Ls → List pj_V → σ → cx_O σ} {cF : Nat → Nat → List pj_V → σ → cx_O σ} {ca : Nat → List pj_V → σ → cx_O σ}
    (hn : ∀ r ls st s x, nx r ls st s = some x → ∃ n, nF n r ls st s = some x) (hc : ∀ f a s x, ca f a s = some x → ∃ n, cF n f a s = some x)
    (un : ∀ a b, a ≤ b → ∀ r ls st s x, nF a r ls st s = some x → nF b r ls st s = some x) (uc : ∀ a b, a ≤ b → ∀ f v s x, cF a f v s = some x → cF b f v s = some x)
    {pc : Nat} {i : Instr} {im : Int32} {r : List pj_E} {ls : pj_Ls} {st : List pj_V} {s : σ} {q} (h : cx_X lc gi gr pi pr ai ar wi wr an nw na io dp ft sg rt ht code nx ca pc i im r ls st s = some q) : ∃ n, cx_X lc gi gr pi pr ai ar wi wr an nw na io dp ft sg rt ht code (nF n) (cF n) pc i im r ls st s = some q := by
  have uh : ∀ (pc : Nat) (ls : pj_Ls) (a b : Nat), a ≤ b → ∀ z s x, cx_hx io ht code (nF a) pc ls z s = some x → cx_hx io ht code (nF b) pc ls z s = some x := fun pc ls a b hab z s x q => cx_hx_up (un a b hab) z s x q
  unfold cx_X at h ⊢
  cases hN : pj_isN i with
  | true =>
    simp only [hN] at h ⊢
    cases hp : pj_n lc i im ls st with
    | none => simp only [hp] at h; cases h
    | some z => simp only [hp] at h ⊢; exact hn _ _ _ _ _ h
  | false =>
    simp only [hN] at h ⊢
    split at h <;> first
      | exact hn _ _ _ _ _ h
      | exact pj_bind_cp h (fun _ _ q => hn _ _ _ _ _ q)
      | exact pj_br_cp h (fun _ q => hn _ _ _ _ _ q) (fun _ q => hn _ _ _ _ _ q)
      | exact cx_ite_cp h (fun _ q => hn _ _ _ _ _ q) (fun _ q => hn _ _ _ _ _ q)
      | exact cx_sw_cp (fun _ _ q => hn _ _ _ _ _ q) _ h
      | exact cx_at_cp h (fun a s x q => cx_hx_cp hn a s x q)
      | (split at h <;> first
          | exact pj_bind_cp h (fun _ _ q => hn _ _ _ _ _ q)
          | exact cx_ite_cp h (fun _ q => hn _ _ _ _ _ q) (fun _ q => hn _ _ _ _ _ q)
          | exact cx_call_cp hn hc (fun a s x q => cx_hx_cp hn a s x q) un uc (uh _ _) h
          | exact pj_bind_cp h (fun _ _ q => pj_bind_cp q (fun _ _ q => cx_call_cp hn hc (fun a s x q => cx_hx_cp hn a s x q) un uc (uh _ _) q))
          | exact ⟨0, h⟩
          | cases h)
      | cases h
theorem cx_B_up {c1 c2 : Nat → List pj_V → σ → cx_O σ} {j1 j2 : Nat → List pj_V → List pj_V → σ → cx_O σ} (hc : ∀ f a s x, c1 f a s = some x → c2 f a s = some x) (hj : ∀ p v st s x, j1 p v st s = some x → j2 p v st s = some x) :
    ∀ (k : Nat) (r : List pj_E) (ls : pj_Ls) (st : List pj_V) (s : σ) (x), cx_B lc gi gr pi pr ai ar wi wr an nw na io dp ft sg rt ht code c1 j1 k r ls st s = some x → cx_B lc gi gr pi pr ai ar wi wr an nw na io dp ft sg rt ht code c2 j2 k r ls st s = some x := by
  intro k
  induction k with
  | zero => intro r ls st s x h; cases h
  | succ k ih =>
    intro r ls st s x h
    match r, h with
    | [], h => cases h
    | (_, i, _, im, _) :: r, h => exact cx_X_up (cx_nx_up ih hj) hc h
theorem cx_B_cp {cF : Nat → Nat → List pj_V → σ → cx_O σ} {ca : Nat → List pj_V → σ → cx_O σ} {jF : Nat → Nat → List pj_V → List pj_V → σ → cx_O σ} {jm : Nat → List pj_V → List pj_V → σ → cx_O σ}
    (hc : ∀ f a s x, ca f a s = some x → ∃ n, cF n f a s = some x) (hj : ∀ p v st s x, jm p v st s = some x → ∃ n, jF n p v st s = some x)
    (uc : ∀ a b, a ≤ b → ∀ f v s x, cF a f v s = some x → cF b f v s = some x) (uj : ∀ a b, a ≤ b → ∀ p v st s x, jF a p v st s = some x → jF b p v st s = some x) :
    ∀ (k : Nat) (r : List pj_E) (ls : pj_Ls) (st : List pj_V) (s : σ) (x), cx_B lc gi gr pi pr ai ar wi wr an nw na io dp ft sg rt ht code ca jm k r ls st s = some x → ∃ n, cx_B lc gi gr pi pr ai ar wi wr an nw na io dp ft sg rt ht code (cF n) (jF n) k r ls st s = some x := by
  intro k
  induction k with
  | zero => intro r ls st s x h; cases h
  | succ k ih =>
    intro r ls st s x h
    match r, h with
    | [], h => cases h
    | (_, i, _, im, _) :: r, h =>
      exact cx_X_cp (nF := fun n => cx_nx (cx_B lc gi gr pi pr ai ar wi wr an nw na io dp ft sg rt ht code (cF n) (jF n) k) (jF n)) (cx_nx_cp ih hj) hc
        (fun a b hab r ls st s x q => cx_nx_up (fun r ls st s x q => cx_B_up (uc a b hab) (uj a b hab) k r ls st s x q) (uj a b hab) r ls st s x q) uc h
end cxFix
