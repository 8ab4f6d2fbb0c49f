/-! ===== the two parsers side by side: assignments, calls as commands ===== -/
def flI (cs : List cr_) : List Nat := (cs.map idl_).flatten
def flM (cs : List cr_) : List Nat := (cs.map itm).flatten
/-- one node with nothing behind it -/
def sgC : cr_ → Prop
  | .inner _ _ _ _ .leaf => True
  | _ => False
/-- good trees, all apart -/
def GL (s : as_) (lo : Nat) (cs : List cr_) : Prop := (∀ c ∈ cs, NR_ s c ∧ sgC c) ∧ (flI cs).Nodup ∧ ∀ a ∈ flI cs, lo ≤ a
/-- the trees of both sides, one by one -/
def E2 (T : List tk_) (eo : Option Nat) (n : Nat) : List cr_ → List tr_ → Prop
  | [], [] => True
  | c :: r, t :: q => er c = cf T eo n t ∧ E2 T eo n r q
  | _, _ => False
section pc3
variable {T : List tk_} {eo : Option Nat} {n : Nat} {V : Nat → Int32} {L : List (List Int32)} {lx : Bool} {ids : List Nat} {iE x TL IL GS SL : Nat}
variable {s s' s0 : as_} {i kc lo p dp CB ZB nd : Nat} {v : cp_w} {l : cr_} {us : List (List Int32)} {its : List Nat} {gl : List ((List Int32 ⊕ Int32) × Option Nat)} {R : List gl_} {os : List tr_} {sc : List (Int32 × Nat)} {pe : pe_} {Q : ps_ → Option Nat → as_ → Prop}
theorem E2_len : ∀ {cs : List cr_} {ts : List tr_}, E2 T eo n cs ts → cs.length = ts.length
  | [], [], _ => rfl
  | _ :: _, _ :: _, h => by simp [E2_len h.2]
  | [], _ :: _, h => h.elim
  | _ :: _, [], h => h.elim
theorem E2_sn {c : cr_} {t : tr_} (ha : er c = cf T eo n t) : ∀ {cs : List cr_} {ts : List tr_}, E2 T eo n cs ts → E2 T eo n (cs ++ [c]) (ts ++ [t])
  | [], [], _ => ⟨ha, trivial⟩
  | _ :: _, _ :: _, h => ⟨h.1, E2_sn ha h.2⟩
  | [], _ :: _, h => h.elim
  | _ :: _, [], h => h.elim
theorem er_sg {c : cr_} (h : sgC c) : sgC (er c) := by
  match c, h with
  | .inner _ _ _ _ .leaf, _ => trivial
theorem toC_sn {c : cr_} (h : sgC c) (x : cr_) : toC (snC c x) = c :: toC x := by
  match c, h with
  | .inner _ _ _ _ .leaf, _ => rfl
theorem E2_toC : ∀ {cs : List cr_} {ts : List tr_}, E2 T eo n cs ts → (∀ c ∈ cs, sgC c) → toC (cf T eo n (lkT ts)) = cs.map er
  | [], [], _, _ => rfl
  | c :: r, t :: q, h, hs => by
    rw [cf_lk, ← h.1, toC_sn (er_sg (hs c (by simp))), E2_toC h.2 (fun d hd => hs d (by simp [hd]))]
    rfl
  | [], _ :: _, h, _ => h.elim
  | _ :: _, [], h, _ => h.elim
theorem ofC_app : ∀ (a b : List cr_), ofC (a ++ b) = snC (ofC a) (ofC b)
  | [], _ => rfl
  | c :: r, b => by
    show snC c (ofC (r ++ b)) = snC (snC c (ofC r)) (ofC b)
    rw [ofC_app r b, snC_as]
theorem er_of : ∀ (cs : List cr_), er (ofC cs) = ofC (cs.map er)
  | [] => rfl
  | c :: r => by
    show er (snC c (ofC r)) = snC (er c) (ofC (r.map er))
    rw [er_sn, er_of r]
theorem ilv_map (f : cr_ → cr_) : ∀ (a b : List cr_), (ilv a b).map f = ilv (a.map f) (b.map f)
  | [], _ => rfl
  | _ :: _, [] => rfl
  | x :: r, y :: q => by
    show f x :: f y :: (ilv r q).map f = f x :: f y :: ilv (r.map f) (q.map f)
    rw [ilv_map f r q]
theorem ilv_sn : ∀ (a b : List cr_) (x y : cr_), a.length = b.length → ilv (a ++ [x]) (b ++ [y]) = ilv a b ++ [x, y]
  | [], [], _, _, _ => rfl
  | c :: r, d :: q, x, y, h => by
    show c :: d :: ilv (r ++ [x]) (q ++ [y]) = c :: d :: (ilv r q ++ [x, y])
    rw [ilv_sn r q x y (by simpa using h)]
  | [], _ :: _, _, _, h => by simp at h
  | _ :: _, [], _, _, h => by simp at h
theorem itL_sg {c : cr_} (h : sgC c) : itL c = [itm c] := by
  match c, h with
  | .inner _ _ _ _ .leaf, _ => simp [itL, itm]
theorem itL_of : ∀ (cs : List cr_), (∀ c ∈ cs, sgC c) → itL (ofC cs) = cs.map itm
  | [], _ => rfl
  | c :: r, h => by
    show itL (snC c (ofC r)) = _
    rw [itL_sn, itL_sg (h c (by simp)), itL_of r (fun d hd => h d (by simp [hd]))]
    rfl
theorem ev_ilv : ∀ (a b : List cr_), a.length = b.length → evL ((ilv a b).map itm) = flM a ∧ odL ((ilv a b).map itm) = flM b
  | [], [], _ => ⟨rfl, rfl⟩
  | c :: r, d :: q, h => by
    obtain ⟨h1, h2⟩ := ev_ilv r q (by simpa using h)
    constructor
    · show itm c ++ evL ((ilv r q).map itm) = itm c ++ flM r
      rw [h1]
    · show itm d ++ odL ((ilv r q).map itm) = itm d ++ flM q
      rw [h2]
  | [], _ :: _, h => by simp at h
  | _ :: _, [], h => by simp at h
theorem ilv_mem : ∀ (a b : List cr_), ∀ c ∈ ilv a b, c ∈ a ∨ c ∈ b
  | [], _, c, h => by simp [ilv] at h
  | _ :: _, [], c, h => by simp [ilv] at h
  | x :: r, y :: q, c, h => by
    simp only [ilv, List.mem_cons] at h
    rcases h with rfl | rfl | h
    · simp
    · simp
    · rcases ilv_mem r q c h with q | q <;> simp [q]
theorem TG_1 {c : cr_} (h : TG s lo c) (hs : sgC c) : GL s lo [c] := ⟨fun d hd => by simp at hd; subst hd; exact ⟨h.1, hs⟩, by simpa [flI] using h.2.1, by simpa [flI] using h.2.2⟩
theorem GL_Kp {M : Nat → Prop} {cs : List cr_} (h : GL s lo cs) (hk : Kp M s s') (hM : ∀ a, M a → (aK_ s a).1 ≠ 26 ∧ (aK_ s a).1 ≠ 14) (hc : ∀ a ∈ flI cs, ¬ M a) : GL s' lo cs := ⟨fun c hcm => ⟨NR_Kp hk hM (h.1 c hcm).1 (fun a ha => hc a (List.mem_flatten.mpr ⟨idl_ c, List.mem_map.mpr ⟨c, hcm, rfl⟩, ha⟩)), (h.1 c hcm).2⟩, h.2⟩
theorem GL_lt {cs : List cr_} (h : GL s lo cs) : ∀ a ∈ flI cs, a < aN_ s := fun a ha => by
  obtain ⟨q, hq, ha⟩ := List.mem_flatten.mp ha
  obtain ⟨c, hc, rfl⟩ := List.mem_map.mp hq
  exact (NR_id (h.1 c hc).1 a ha).1.2
theorem flI_app (a b : List cr_) : flI (a ++ b) = flI a ++ flI b := by simp [flI]
theorem flM_app (a b : List cr_) : flM (a ++ b) = flM a ++ flM b := by simp [flM]
/-- one tree more, behind all -/
theorem GL_sn {cs : List cr_} {c : cr_} {m : Nat} (h : GL s lo cs) (hc : TG s m c) (hs : sgC c) (hl : ∀ a ∈ flI cs, a < m) (hm : lo ≤ m) : GL s lo (cs ++ [c]) := by
  refine ⟨fun d hd => ?_, ?_, fun a ha => ?_⟩
  · rcases List.mem_append.mp hd with q | q
    · exact h.1 d q
    · simp at q; subst q; exact ⟨hc.1, hs⟩
  · rw [flI_app, List.nodup_append]
    refine ⟨h.2.1, by simpa [flI] using hc.2.1, fun a ha b hb q => ?_⟩
    have := hl a ha
    have := hc.2.2 b (by simpa [flI] using hb)
    omega
  · rw [flI_app, List.mem_append] at ha
    rcases ha with q | q
    · exact h.2.2 a q
    · have := hc.2.2 a (by simpa [flI] using q)
      omega
theorem GL_Mx {cs : List cr_} (h : GL s lo cs) (hP : PSt T eo n ids iE x TL IL GS SL s p dp us its gl) (hw : Lw x TL IL GS SL lo) (hk : Kp (Mx x IL GS SL) s s') : GL s' lo cs := GL_Kp h hk (Mx_cl hP) (fun a ha q => by
  have := Mx_lt hw a q
  have := h.2.2 a ha
  omega)
/-- the next one that waits becomes a part -/
theorem C_withG (d : Nat) {y ky : Nat} {vy : cp_w} {ly : cr_} {rest : List cr_} (hP : PSt T eo n ids iE x TL IL GS SL s p dp us its gl) (hw : Lw x TL IL GS SL lo) (h : GL s lo (.inner i kc v l .leaf :: .inner y ky vy ly .leaf :: rest)) : ∃ s', (∀ Kc : Option Nat → as_ → cx_O as_, ((a_dp 306 (some i) s).bind fun m => cx_bR cx_th (aE (d + 1) m [vr_ (some i), vr_ (some y)] s) Kc) = Kc (some i) s') ∧ GL s' lo (.inner i kc v (snC l (.inner y ky vy ly .leaf)) .leaf :: rest) ∧ PSt T eo n ids iE x TL IL GS SL s' p dp us its gl ∧ Kp (fun a => lo ≤ a) s s' ∧ aC_ s' = aC_ s ∧ aZ_ s' = aZ_ s ∧ aN_ s' = aN_ s := by
  obtain ⟨h1, h2, h3⟩ := h
  have e0 : flI (.inner i kc v l .leaf :: .inner y ky vy ly .leaf :: rest) = idl_ (.inner i kc v l .leaf) ++ (idl_ (.inner y ky vy ly .leaf) ++ flI rest) := by simp [flI]
  rw [e0] at h2 h3
  have n1 := List.nodup_append.mp h2
  have n2 := List.nodup_append.mp n1.2.1
  have hp : TG s lo (.inner i kc v l .leaf) := ⟨(h1 _ (by simp)).1, n1.1, fun a ha => h3 a (by simp only [List.mem_append]; exact Or.inl ha)⟩
  have hc : TG s lo (.inner y ky vy ly .leaf) := ⟨(h1 _ (by simp)).1, n2.1, fun a ha => h3 a (by simp only [List.mem_append]; exact Or.inr (Or.inl ha))⟩
  obtain ⟨s', e, g1, g2, g3, g4, g5, g6⟩ := C_with d hP hw hp hc (fun a ha hb => n1.2.2 a ha a (by simp only [List.mem_append]; exact Or.inl hb) rfl)
  have hpm : (idl_ (.inner i kc v (snC l (.inner y ky vy ly .leaf)) .leaf)).Perm (idl_ (.inner i kc v l .leaf) ++ idl_ (.inner y ky vy ly .leaf)) := by
    have := snC_id l (.inner y ky vy ly .leaf)
    have e1 : idl_ (.inner i kc v (snC l (.inner y ky vy ly .leaf)) .leaf) = i :: (nlI v.2.2.2.2.2 ++ idl_ (snC l (.inner y ky vy ly .leaf))) := by simp [idl_]
    have e2 : idl_ (.inner i kc v l .leaf) ++ idl_ (.inner y ky vy ly .leaf) = i :: (nlI v.2.2.2.2.2 ++ (idl_ l ++ idl_ (.inner y ky vy ly .leaf))) := by simp [idl_]
    rw [e1, e2]
    exact List.Perm.cons _ (List.Perm.append_left _ this)
  have e5 : flI (.inner i kc v (snC l (.inner y ky vy ly .leaf)) .leaf :: rest) = idl_ (.inner i kc v (snC l (.inner y ky vy ly .leaf)) .leaf) ++ flI rest := by simp [flI]
  have hp2 : (flI (.inner i kc v (snC l (.inner y ky vy ly .leaf)) .leaf :: rest)).Perm (idl_ (.inner i kc v l .leaf) ++ (idl_ (.inner y ky vy ly .leaf) ++ flI rest)) := by
    rw [e5, ← List.append_assoc]
    exact List.Perm.append_right _ hpm
  refine ⟨s', e, ⟨fun c hcm => ?_, hp2.nodup_iff.mpr h2, fun a ha => h3 a (hp2.mem_iff.mp ha)⟩, g2, Kp_wk g3 (fun a _ ha => hp.2.2 a ha), g4, g5, g6⟩
  rcases List.mem_cons.mp hcm with rfl | q
  · exact ⟨g1.1, trivial⟩
  · have hr := h1 c (by simp [q])
    refine ⟨NR_Kp g3 (TG_cl hp) hr.1 (fun a ha hq => ?_), hr.2⟩
    refine n1.2.2 a hq a ?_ rfl
    simp only [List.mem_append]
    exact Or.inr (List.mem_flatten.mpr ⟨idl_ c, List.mem_map.mpr ⟨c, q, rfl⟩, ha⟩)
/-- a row of trees in a list of the component's -/
theorem C_lget (d : Nat) {a k y ky : Nat} {vy : cp_w} {ly ry : cr_} {xs : List Nat} {Kc : Option Nat → as_ → cx_O as_} (h36 : (aK_ s a).1 = 36) (hl : aL_ s a = xs.map some) (hx : xs.length < 2 ^ 31) (hk : xs[k]? = some y) (hN : NR_ s (.inner y ky vy ly ry)) : ((a_dp 79 (some a) s).bind fun m7 => cx_bR cx_th (aE (d + 1) m7 [vr_ (some a), vi_ (nI k)] s) fun v9 s8 => (cx_cst a_io 9 v9 s8).bind fun _ => Kc v9 s8) = Kc (some y) s := by
  have e : (aL_ s a)[k]? = some (some y) := by rw [hl, List.getElem?_map, hk]; rfl
  have ec : cx_cst a_io 9 (some y) s = some () := by
    unfold cx_cst a_io
    dsimp only
    rw [Option.bind_some]
    rcases NF_isN hN.1 with w | w <;> rw [w] <;> rfl
  rw [f_dp (f := 79) h36 rfl, Option.bind_some, l_get d a e (by rw [hl]; simpa using hx), cR_k, ec, Option.bind_some]
end pc3
