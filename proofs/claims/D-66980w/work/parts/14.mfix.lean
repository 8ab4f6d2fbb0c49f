/-! ===== mm_B rises with its callees and jumps, and rests on finitely many of them ===== -/
section mmFix
variable {lc : Nat → Int64} {ln ty : Nat → Nat} {sg : Nat → Nat × Nat} {sf : Nat → Bool} {rt : Nat} {code : List pj_E}
theorem mm_bV_up {r1 r2 : mm_O} {k1 k2 : mm_S → mm_O} {q} (h : mm_bV r1 k1 = some q) (hr : ∀ x, r1 = some x → r2 = some x) (hk : ∀ s x, k1 s = some x → k2 s = some x) : mm_bV r2 k2 = some q := by
  unfold mm_bV at h
  split at h
  · rename_i s
    rw [hr _ rfl]
    exact hk _ _ h
  · cases h
theorem mm_bI_up {r1 r2 : mm_O} {k1 k2 : Int32 → mm_S → mm_O} {q} (h : mm_bI r1 k1 = some q) (hr : ∀ x, r1 = some x → r2 = some x) (hk : ∀ v s x, k1 v s = some x → k2 v s = some x) : mm_bI r2 k2 = some q := by
  unfold mm_bI at h
  split at h
  · rename_i v s
    rw [hr _ rfl]
    exact hk _ _ _ h
  · cases h
theorem mm_bz_up {x : Int32} {k1 k2 : mm_O} {q} (h : mm_bz x k1 = some q) (hk : ∀ x, k1 = some x → k2 = some x) : mm_bz x k2 = some q := by
  unfold mm_bz at h ⊢
  split at h
  · exact hk _ h
  · cases h
theorem mm_bz_cp {x : Int32} {K : mm_O} {kF : Nat → mm_O} {q} (h : mm_bz x K = some q) (hk : ∀ x, K = some x → ∃ n, kF n = some x) : ∃ n, mm_bz x (kF n) = some q := by
  unfold mm_bz at h ⊢
  split at h
  · exact hk _ h
  · cases h
theorem pj_bind_up {α β : Type} {o : Option α} {k1 k2 : α → Option β} {q} (h : o.bind k1 = some q) (hk : ∀ y x, k1 y = some x → k2 y = some x) : o.bind k2 = some q := by
  cases o with
  | none => cases h
  | some y => exact hk _ _ h
theorem pj_br_up {β : Type} {c : Jvm.ClassFile.Cond} {x y : Int32} {a1 a2 b1 b2 : Option β} {q} (h : pj_br c x y a1 b1 = some q) (ha : ∀ x, a1 = some x → a2 = some x) (hb : ∀ x, b1 = some x → b2 = some x) : pj_br c x y a2 b2 = some q := by
  cases c <;> simp only [pj_br] at h ⊢ <;> split at h <;> rename_i hc <;> first
    | (rw [if_pos hc]; first | exact ha _ h | exact hb _ h)
    | (rw [if_neg hc]; first | exact ha _ h | exact hb _ h)
theorem mm_X_up {n1 n2 : List pj_E → pj_Ls → List pj_V → mm_S → mm_O} {c1 c2 : Nat → List pj_V → mm_S → mm_O} (hn : ∀ r ls st s x, n1 r ls st s = some x → n2 r ls st s = some x) (hc : ∀ f a s x, c1 f a s = some x → c2 f a s = some x)
    {i : Instr} {im : Int32} {r : List pj_E} {ls : pj_Ls} {st : List pj_V} {s : mm_S} {q} (h : mm_X lc ln ty sg sf rt code n1 c1 i im r ls st s = some q) : mm_X lc ln ty sg sf rt code n2 c2 i im r ls st s = some q := by
  unfold mm_X at h ⊢
  cases hN : pj_isN i with
  | true =>
    simp only [hN] at h ⊢
    cases hp : pj_n lc i im ls st with
    | none => simp only [hp] at h; cases h
    | some z => simp only [hp] at h ⊢; exact hn _ _ _ _ _ h
  | false =>
    simp only [hN] at h ⊢
    split at h <;> first
      | exact hn _ _ _ _ _ h
      | exact pj_bind_up h (fun _ _ q => hn _ _ _ _ _ q)
      | exact pj_br_up h (fun _ q => hn _ _ _ _ _ q) (fun _ q => hn _ _ _ _ _ q)
      | (split at h <;> first
          | exact hn _ _ _ _ _ h
          | exact pj_bind_up h (fun _ _ q => hn _ _ _ _ _ q)
          | (split at h <;> first
              | exact hn _ _ _ _ _ h
              | exact mm_bz_up h (fun _ q => hn _ _ _ _ _ q)
              | exact mm_bV_up h (fun _ q => hc _ _ _ _ q) (fun _ _ q => hn _ _ _ _ _ q)
              | exact mm_bI_up h (fun _ q => hc _ _ _ _ q) (fun _ _ _ q => hn _ _ _ _ _ q))
          | exact h
          | cases h
          | (simp_all <;> done))
      | cases h
theorem mm_nx_up {B1 B2 : List pj_E → pj_Ls → List pj_V → mm_S → mm_O} {j1 j2 : Nat → List pj_V → List pj_V → mm_S → mm_O} (hB : ∀ r ls st s x, B1 r ls st s = some x → B2 r ls st s = some x) (hj : ∀ p v st s x, j1 p v st s = some x → j2 p v st s = some x)
    (r : List pj_E) (ls : pj_Ls) (st : List pj_V) (s : mm_S) (x) (h : mm_nx B1 j1 r ls st s = some x) : mm_nx B2 j2 r ls st s = some x := by
  unfold mm_nx at h ⊢
  split at h
  · cases h
  · exact pj_bind_up h (fun _ _ q => hj _ _ _ _ _ q)
  · exact hB _ _ _ _ _ h
theorem mm_B_up {c1 c2 : Nat → List pj_V → mm_S → mm_O} {j1 j2 : Nat → List pj_V → List pj_V → mm_S → mm_O} (hc : ∀ f a s x, c1 f a s = some x → c2 f a s = some x) (hj : ∀ p v st s x, j1 p v st s = some x → j2 p v st s = some x) :
    ∀ (k : Nat) (r : List pj_E) (ls : pj_Ls) (st : List pj_V) (s : mm_S) (x), mm_B lc ln ty sg sf rt code c1 j1 k r ls st s = some x → mm_B lc ln ty sg sf rt code c2 j2 k r ls st s = some x := by
  intro k
  induction k with
  | zero => intro r ls st s x h; cases h
  | succ k ih =>
    intro r ls st s x h
    match r, h with
    | [], h => cases h
    | (_, i, _, im, _) :: r, h => exact mm_X_up (mm_nx_up ih hj) hc h
theorem pj_bind_cp {α β : Type} {o : Option α} {K : α → Option β} {kF : Nat → α → Option β} {q} (h : o.bind K = some q) (hk : ∀ y x, K y = some x → ∃ n, kF n y = some x) : ∃ n, o.bind (kF n) = some q := by
  cases o with
  | none => cases h
  | some y => exact hk _ _ h
theorem pj_br_cp {β : Type} {c : Jvm.ClassFile.Cond} {x y : Int32} {a b : Option β} {aF bF : Nat → Option β} {q} (h : pj_br c x y a b = some q) (ha : ∀ x, a = some x → ∃ n, aF n = some x) (hb : ∀ x, b = some x → ∃ n, bF n = some x) : ∃ n, pj_br c x y (aF n) (bF n) = some q := by
  cases c <;> simp only [pj_br] at h ⊢ <;> split at h <;> rename_i hc <;> first
    | (simp only [if_pos hc]; first | exact ha _ h | exact hb _ h)
    | (simp only [if_neg hc]; first | exact ha _ h | exact hb _ h)
theorem mm_bV_cp {r : mm_O} {K : mm_S → mm_O} {rF : Nat → mm_O} {kF : Nat → mm_S → mm_O} {q} (h : mm_bV r K = some q) (hr : ∀ x, r = some x → ∃ n, rF n = some x) (hk : ∀ s x, K s = some x → ∃ n, kF n s = some x)
    (ur : ∀ a b, a ≤ b → ∀ x, rF a = some x → rF b = some x) (uk : ∀ a b, a ≤ b → ∀ s x, kF a s = some x → kF b s = some x) : ∃ n, mm_bV (rF n) (kF n) = some q := by
  unfold mm_bV at h
  split at h
  · obtain ⟨n, hn⟩ := hr _ rfl
    obtain ⟨m, hm⟩ := hk _ _ h
    refine ⟨max n m, ?_⟩
    rw [ur _ _ (Nat.le_max_left n m) _ hn]
    exact uk _ _ (Nat.le_max_right n m) _ _ hm
  · cases h
theorem mm_bI_cp {r : mm_O} {K : Int32 → mm_S → mm_O} {rF : Nat → mm_O} {kF : Nat → Int32 → mm_S → mm_O} {q} (h : mm_bI r K = some q) (hr : ∀ x, r = some x → ∃ n, rF n = some x) (hk : ∀ v s x, K v s = some x → ∃ n, kF n v s = some x)
    (ur : ∀ a b, a ≤ b → ∀ x, rF a = some x → rF b = some x) (uk : ∀ a b, a ≤ b → ∀ v s x, kF a v s = some x → kF b v s = some x) : ∃ n, mm_bI (rF n) (kF n) = some q := by
  unfold mm_bI at h
  split at h
  · obtain ⟨n, hn⟩ := hr _ rfl
    obtain ⟨m, hm⟩ := hk _ _ _ h
    refine ⟨max n m, ?_⟩
    rw [ur _ _ (Nat.le_max_left n m) _ hn]
    exact uk _ _ (Nat.le_max_right n m) _ _ _ hm
  · cases h
theorem mm_X_cp {nF : Nat → List pj_E → pj_Ls → List pj_V → mm_S → mm_O} {nx : List pj_E → pj_Ls → List pj_V → mm_S → mm_O} {cF : Nat → Nat → List pj_V → mm_S → mm_O} {ca : Nat → List pj_V → mm_S → mm_O}
    (hn : ∀ r ls st s x, nx r ls st s = some x → ∃ n, nF n r ls st s = some x) (hc : ∀ f a s x, ca f a s = some x → ∃ n, cF n f a s = some x)
    (un : ∀ a b, a ≤ b → ∀ r ls st s x, nF a r ls st s = some x → nF b r ls st s = some x) (uc : ∀ a b, a ≤ b → ∀ f v s x, cF a f v s = some x → cF b f v s = some x)
    {i : Instr} {im : Int32} {r : List pj_E} {ls : pj_Ls} {st : List pj_V} {s : mm_S} {q} (h : mm_X lc ln ty sg sf rt code nx ca i im r ls st s = some q) : ∃ n, mm_X lc ln ty sg sf rt code (nF n) (cF n) i im r ls st s = some q := by
  unfold mm_X at h ⊢
  cases hN : pj_isN i with
  | true =>
    simp only [hN] at h ⊢
    cases hp : pj_n lc i im ls st with
    | none => simp only [hp] at h; cases h
    | some z => simp only [hp] at h ⊢; exact hn _ _ _ _ _ h
  | false =>
    simp only [hN] at h ⊢
    split at h <;> first
      | exact hn _ _ _ _ _ h
      | exact pj_bind_cp h (fun _ _ q => hn _ _ _ _ _ q)
      | exact pj_br_cp h (fun _ q => hn _ _ _ _ _ q) (fun _ q => hn _ _ _ _ _ q)
      | (split at h <;> first
          | exact hn _ _ _ _ _ h
          | exact pj_bind_cp h (fun _ _ q => hn _ _ _ _ _ q)
          | (split at h <;> first
              | exact hn _ _ _ _ _ h
              | exact mm_bz_cp h (fun _ q => hn _ _ _ _ _ q)
              | exact mm_bV_cp h (fun _ q => hc _ _ _ _ q) (fun _ _ q => hn _ _ _ _ _ q) (fun a b hab x q => uc a b hab _ _ _ _ q) (fun a b hab s x q => un a b hab _ _ _ _ _ q)
              | exact mm_bI_cp h (fun _ q => hc _ _ _ _ q) (fun _ _ _ q => hn _ _ _ _ _ q) (fun a b hab x q => uc a b hab _ _ _ _ q) (fun a b hab v s x q => un a b hab _ _ _ _ _ q))
          | exact ⟨0, h⟩
          | cases h
          | (simp_all <;> done))
      | cases h
theorem mm_nx_cp {BF : Nat → List pj_E → pj_Ls → List pj_V → mm_S → mm_O} {B : List pj_E → pj_Ls → List pj_V → mm_S → mm_O} {jF : Nat → Nat → List pj_V → List pj_V → mm_S → mm_O} {jm : Nat → List pj_V → List pj_V → mm_S → mm_O}
    (hB : ∀ r ls st s x, B r ls st s = some x → ∃ n, BF n r ls st s = some x) (hj : ∀ p v st s x, jm p v st s = some x → ∃ n, jF n p v st s = some x) (r : List pj_E) (ls : pj_Ls) (st : List pj_V) (s : mm_S) (x) (h : mm_nx B jm r ls st s = some x) : ∃ n, mm_nx (BF n) (jF n) r ls st s = some x := by
  unfold mm_nx at h ⊢
  split at h
  · cases h
  · exact pj_bind_cp h (fun _ _ q => hj _ _ _ _ _ q)
  · exact hB _ _ _ _ _ h
theorem mm_B_cp {cF : Nat → Nat → List pj_V → mm_S → mm_O} {ca : Nat → List pj_V → mm_S → mm_O} {jF : Nat → Nat → List pj_V → List pj_V → mm_S → mm_O} {jm : Nat → List pj_V → List pj_V → mm_S → mm_O}
    (hc : ∀ f a s x, ca f a s = some x → ∃ n, cF n f a s = some x) (hj : ∀ p v st s x, jm p v st s = some x → ∃ n, jF n p v st s = some x)
    (uc : ∀ a b, a ≤ b → ∀ f v s x, cF a f v s = some x → cF b f v s = some x) (uj : ∀ a b, a ≤ b → ∀ p v st s x, jF a p v st s = some x → jF b p v st s = some x) :
    ∀ (k : Nat) (r : List pj_E) (ls : pj_Ls) (st : List pj_V) (s : mm_S) (x), mm_B lc ln ty sg sf rt code ca jm k r ls st s = some x → ∃ n, mm_B lc ln ty sg sf rt code (cF n) (jF n) k r ls st s = some x := by
  intro k
  induction k with
  | zero => intro r ls st s x h; cases h
  | succ k ih =>
    intro r ls st s x h
    match r, h with
    | [], h => cases h
    | (_, i, _, im, _) :: r, h =>
      exact mm_X_cp (nF := fun n => mm_nx (mm_B lc ln ty sg sf rt code (cF n) (jF n) k) (jF n)) (mm_nx_cp ih hj) hc
        (fun a b hab r ls st s x q => mm_nx_up (fun r ls st s x q => mm_B_up (uc a b hab) (uj a b hab) k r ls st s x q) (uj a b hab) r ls st s x q) uc h
end mmFix
/-! ===== calls and jumps of the reference's class without fuel: d bounds the calls within one another ===== -/
abbrev mm_K : Type := Nat × Nat × Nat × List pj_V × List pj_V × mm_S
def mm_G (R : mm_K → mm_O) (d m t : Nat) (vs st : List pj_V) (s : mm_S) : mm_O := match pj_at (mt_code m) t with
  | (q, i, n, im, some lv) :: r => mm_B mt_lc mt_ln mt_ty mt_sg mt_st (mt_sg m).2 (mt_code m) (fun k as s => R (d, k, 0, as, [], s)) (fun pc vs st s => R (d + 1, m, pc + 1, vs, st, s)) 1000 ((q, i, n, im, some lv) :: r) (pj_mk (mt_nL m) lv vs) st s
  | _ => none
def mm_G0 (R : mm_K → mm_O) (d m : Nat) (as : List pj_V) (s : mm_S) : mm_O := match Nat.ble (pj_sl as).length (mt_nL m) with
  | true => mm_B mt_lc mt_ln mt_ty mt_sg mt_st (mt_sg m).2 (mt_code m) (fun k as s => R (d, k, 0, as, [], s)) (fun pc vs st s => R (d + 1, m, pc + 1, vs, st, s)) 1000 (mt_code m) (pj_en (mt_nL m) as) [] s
  | false => none
def mm_F (R : mm_K → mm_O) : mm_K → mm_O
  | (0, _) => none
  | (d + 1, m, 0, as, _, s) => mm_G0 R d m as s
  | (d + 1, m, t + 1, vs, st, s) => mm_G R d m t vs st s
theorem mm_F_mono : pj_mono mm_F := by
  intro f g h x r q
  match x, q with
  | (0, _), q => cases q
  | (d + 1, m, 0, as, _, s), q =>
    have q : mm_G0 f d m as s = some r := q
    show mm_G0 g d m as s = some r
    unfold mm_G0 at q ⊢
    split at q
    · exact mm_B_up (fun _ _ _ _ q => h _ _ q) (fun _ _ _ _ _ q => h _ _ q) _ _ _ _ _ _ q
    · cases q
  | (d + 1, m, t + 1, vs, st, s), q =>
    have q : mm_G f d m t vs st s = some r := q
    show mm_G g d m t vs st s = some r
    unfold mm_G at q ⊢
    split at q
    · exact mm_B_up (fun _ _ _ _ q => h _ _ q) (fun _ _ _ _ _ q => h _ _ q) _ _ _ _ _ _ q
    · cases q
theorem mm_F_cpt : pj_cpt mm_F := by
  intro f g up h x r q
  match x, q with
  | (0, _), q => cases q
  | (d + 1, m, 0, as, _, s), q =>
    have q : mm_G0 g d m as s = some r := q
    show ∃ n, mm_G0 (f n) d m as s = some r
    unfold mm_G0 at q ⊢
    split at q
    · exact mm_B_cp (cF := fun n k as s => f n (d, k, 0, as, [], s)) (jF := fun n pc vs st s => f n (d + 1, m, pc + 1, vs, st, s)) (fun _ _ _ _ q => h _ _ q) (fun _ _ _ _ _ q => h _ _ q) (fun a b hab _ _ _ _ q => pj_up_le up hab _ _ q) (fun a b hab _ _ _ _ _ q => pj_up_le up hab _ _ q) _ _ _ _ _ _ q
    · cases q
  | (d + 1, m, t + 1, vs, st, s), q =>
    have q : mm_G g d m t vs st s = some r := q
    show ∃ n, mm_G (f n) d m t vs st s = some r
    unfold mm_G at q ⊢
    split at q
    · exact mm_B_cp (cF := fun n k as s => f n (d, k, 0, as, [], s)) (jF := fun n pc vs st s => f n (d + 1, m, pc + 1, vs, st, s)) (fun _ _ _ _ q => h _ _ q) (fun _ _ _ _ _ q => h _ _ q) (fun a b hab _ _ _ _ q => pj_up_le up hab _ _ q) (fun a b hab _ _ _ _ _ q => pj_up_le up hab _ _ q) _ _ _ _ _ _ q
    · cases q
/-- a call of method m -/
noncomputable def mE (d m : Nat) (as : List pj_V) (s : mm_S) : mm_O := pj_lfp mm_F (d, m, 0, as, [], s)
/-- a jump to the cut point pc of method m -/
noncomputable def mJ (d m pc : Nat) (vs st : List pj_V) (s : mm_S) : mm_O := pj_lfp mm_F (d, m, pc + 1, vs, st, s)
theorem mE_eq (d m : Nat) (as : List pj_V) (s : mm_S) (hf : Nat.ble (pj_sl as).length (mt_nL m) = true) : mE (d + 1) m as s = mm_B mt_lc mt_ln mt_ty mt_sg mt_st (mt_sg m).2 (mt_code m) (mE d) (mJ (d + 1) m) 1000 (mt_code m) (pj_en (mt_nL m) as) [] s := by
  refine (pj_lfp_eq mm_F_mono mm_F_cpt _).trans ?_
  show mm_G0 (pj_lfp mm_F) d m as s = _
  unfold mm_G0
  rw [hf]
  rfl
theorem mJ_eq {m pc : Nat} {q : Nat} {i : Instr} {n : Nat} {im : Int32} {lv : List Nat} {r : List pj_E} (hr : pj_at (mt_code m) pc = (q, i, n, im, some lv) :: r) (d : Nat) (vs st : List pj_V) (s : mm_S) : mJ (d + 1) m pc vs st s = mm_B mt_lc mt_ln mt_ty mt_sg mt_st (mt_sg m).2 (mt_code m) (mE d) (mJ (d + 1) m) 1000 (pj_at (mt_code m) pc) (pj_mk (mt_nL m) lv vs) st s := by
  refine (pj_lfp_eq mm_F_mono mm_F_cpt _).trans ?_
  show mm_G (pj_lfp mm_F) d m pc vs st s = _
  unfold mm_G
  rw [hr]
  rfl
