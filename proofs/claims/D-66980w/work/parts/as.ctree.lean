/-! ===== nodes as values: the component's trees ===== -/
/-- of a node with names: the list's id, names (place, text), of the text itself, of a global's name, with a value, which one -/
abbrev cl_w : Type := Nat × List (Int32 × List Int32) × Int32 × Int32 × Int32 × Int32
/-- place, first place, in brackets, text, value, names -/
abbrev cp_w : Type := Int32 × Int32 × Int32 × List Int32 × Int32 × Option cl_w
/-- a row of nodes: the object, the kind (a constant), what it tells, its parts, the nodes behind it -/
abbrev cr_ : Type := Std.DTreeMap.Internal.Impl Nat (fun _ => cp_w)
def rI_ : cr_ → Option Nat
  | .leaf => none
  | .inner i _ _ _ _ => some i
def lI_ : Option Nat → cr_ → Option Nat
  | o, .leaf => o
  | _, .inner i _ _ _ r => lI_ (some i) r
def nlI : Option cl_w → List Nat
  | none => []
  | some w => [w.1]
def idl_ : cr_ → List Nat
  | .leaf => []
  | .inner i _ v l r => i :: (nlI v.2.2.2.2.2 ++ (idl_ l ++ idl_ r))
/-- one row behind another -/
def snC : cr_ → cr_ → cr_
  | .leaf, x => x
  | .inner k i v l r, x => .inner k i v l (snC r x)
def NLs (s : as_) : List Nat → List (Int32 × List Int32) → Prop
  | [], [] => True
  | a :: r, w :: ws => (∃ k ln v tag, CT s a k w.1 ln v w.2 tag) ∧ NLs s r ws
  | _, _ => False
def NL_ (s : as_) (a : Nat) (ws : List (Int32 × List Int32)) : Prop := (4000 ≤ a ∧ a < aN_ s ∧ aK_ s a = (36, 0)) ∧ ∃ ids, aL_ s a = ids.map some ∧ NLs s ids ws
def NF5 (s : as_) (i : Nat) : Option cl_w → Prop
  | none => aK_ s i = (9, 0)
  | some w => aK_ s i = (5, 0) ∧ aR_ s i 108 = some w.1 ∧ NL_ s w.1 w.2.1 ∧ aI_ s i 109 = w.2.2.1 ∧ aI_ s i 110 = w.2.2.2.1 ∧ aI_ s i 111 = w.2.2.2.2.1 ∧ aI_ s i 112 = w.2.2.2.2.2
/-- a node's own fields -/
def NF_ (s : as_) (i kc : Nat) (v : cp_w) : Prop := (4000 ≤ i ∧ i < aN_ s) ∧ aR_ s i 99 = some kc ∧ (aI_ s i 100 = v.1 ∧ aI_ s i 101 = v.2.1 ∧ aI_ s i 102 = v.2.2.1 ∧ aI_ s i 104 = v.2.2.2.2.1) ∧ St s (aR_ s i 103) v.2.2.2.1 ∧ NF5 s i v.2.2.2.2.2
def NR_ (s : as_) : cr_ → Prop
  | .leaf => True
  | .inner i kc v l r => NF_ s i kc v ∧ (aR_ s i 105 = rI_ l ∧ aR_ s i 106 = lI_ none l ∧ aR_ s i 107 = rI_ r) ∧ NR_ s l ∧ NR_ s r
/-- a good tree: its objects are all apart, from lo on -/
def TG (s : as_) (lo : Nat) (c : cr_) : Prop := NR_ s c ∧ (idl_ c).Nodup ∧ ∀ a ∈ idl_ c, lo ≤ a
section ctree
variable {s s' : as_} {M : Nat → Prop} {i kc lo : Nat} {v : cp_w} {l r c : cr_}
theorem NLs_Kp (hk : Kp M s s') (hM : ∀ a, M a → (aK_ s a).1 ≠ 26 ∧ (aK_ s a).1 ≠ 14) : ∀ {ids : List Nat} {ws : List (Int32 × List Int32)}, NLs s ids ws → NLs s' ids ws
  | [], [], _ => trivial
  | _ :: _, _ :: _, h => by
    obtain ⟨⟨k, ln, v, tag, h1⟩, h2⟩ := h
    exact ⟨⟨k, ln, v, tag, CT_Kp h1 hk hM⟩, NLs_Kp hk hM h2⟩
  | [], _ :: _, h => h.elim
  | _ :: _, [], h => h.elim
theorem NLs_len : ∀ {ids : List Nat} {ws : List (Int32 × List Int32)}, NLs s ids ws → ids.length = ws.length
  | [], [], _ => rfl
  | _ :: _, _ :: _, h => by simp [NLs_len h.2]
  | [], _ :: _, h => h.elim
  | _ :: _, [], h => h.elim
theorem NLs_sn {a : Nat} {w : Int32 × List Int32} (ha : ∃ k ln v tag, CT s a k w.1 ln v w.2 tag) : ∀ {ids : List Nat} {ws : List (Int32 × List Int32)}, NLs s ids ws → NLs s (ids ++ [a]) (ws ++ [w])
  | [], [], _ => ⟨ha, trivial⟩
  | _ :: _, _ :: _, h => ⟨h.1, NLs_sn ha h.2⟩
  | [], _ :: _, h => h.elim
  | _ :: _, [], h => h.elim
theorem NL_Kp {a : Nat} {ws : List (Int32 × List Int32)} (h : NL_ s a ws) (hk : Kp M s s') (hM : ∀ a, M a → (aK_ s a).1 ≠ 26 ∧ (aK_ s a).1 ≠ 14) (ha : ¬ M a) : NL_ s' a ws := by
  obtain ⟨⟨h1, h2, h3⟩, ids, e, h4⟩ := h
  have q := hk.2 a h2 ha
  exact ⟨⟨h1, by have := hk.1; omega, q.2.2.1.trans h3⟩, ids, q.2.2.2.2.1.trans e, NLs_Kp hk hM h4⟩
theorem NF_Kp (h : NF_ s i kc v) (hk : Kp M s s') (hM : ∀ a, M a → (aK_ s a).1 ≠ 26 ∧ (aK_ s a).1 ≠ 14) (hi : ¬ M i) (hl : ∀ a ∈ nlI v.2.2.2.2.2, ¬ M a) : NF_ s' i kc v := by
  obtain ⟨⟨h1, h2⟩, h3, ⟨h4, h5, h6, h7⟩, h8, h9⟩ := h
  have q := hk.2 i h2 hi
  refine ⟨⟨h1, by have := hk.1; omega⟩, (q.2.1 _).trans h3, ⟨(q.1 _).trans h4, (q.1 _).trans h5, (q.1 _).trans h6, (q.1 _).trans h7⟩, by rw [q.2.1]; exact St_Kp h8 hk (fun a ha => (hM a ha).1), ?_⟩
  generalize v.2.2.2.2.2 = o at h9 hl
  cases o with
  | none => exact q.2.2.1.trans h9
  | some w =>
    obtain ⟨g1, g2, g3, g4, g5, g6, g7⟩ := h9
    exact ⟨q.2.2.1.trans g1, (q.2.1 _).trans g2, NL_Kp g3 hk hM (hl _ (by simp [nlI])), (q.1 _).trans g4, (q.1 _).trans g5, (q.1 _).trans g6, (q.1 _).trans g7⟩
theorem NR_Kp (hk : Kp M s s') (hM : ∀ a, M a → (aK_ s a).1 ≠ 26 ∧ (aK_ s a).1 ≠ 14) : ∀ {c : cr_}, NR_ s c → (∀ a ∈ idl_ c, ¬ M a) → NR_ s' c
  | .leaf, _, _ => trivial
  | .inner i kc v l r, h, hc => by
    obtain ⟨h1, ⟨h2, h3, h4⟩, h5, h6⟩ := h
    have q := hk.2 i h1.1.2 (hc i (by simp [idl_]))
    exact ⟨NF_Kp h1 hk hM (hc i (by simp [idl_])) (fun a ha => hc a (by simp [idl_, ha])), ⟨(q.2.1 _).trans h2, (q.2.1 _).trans h3, (q.2.1 _).trans h4⟩, NR_Kp hk hM h5 (fun a ha => hc a (by simp [idl_, ha])), NR_Kp hk hM h6 (fun a ha => hc a (by simp [idl_, ha]))⟩
theorem TG_Kp (h : TG s lo c) (hk : Kp M s s') (hM : ∀ a, M a → (aK_ s a).1 ≠ 26 ∧ (aK_ s a).1 ≠ 14) (hc : ∀ a ∈ idl_ c, ¬ M a) : TG s' lo c := ⟨NR_Kp hk hM h.1 hc, h.2⟩
theorem TG_lo {lo' : Nat} (h : TG s lo c) (hl : lo' ≤ lo) : TG s lo' c := ⟨h.1, h.2.1, fun a ha => Nat.le_trans hl (h.2.2 a ha)⟩
theorem NF_isN (h : NF_ s i kc v) : isN s i := by
  obtain ⟨_, _, _, _, h9⟩ := h
  generalize v.2.2.2.2.2 = o at h9
  cases o with
  | none => exact Or.inl (by rw [h9])
  | some w => exact Or.inr (by rw [h9.1])
theorem NR_id : ∀ {c : cr_}, NR_ s c → ∀ a ∈ idl_ c, (4000 ≤ a ∧ a < aN_ s) ∧ ((aK_ s a).1 = 9 ∨ (aK_ s a).1 = 5 ∨ (aK_ s a).1 = 36)
  | .leaf, _, a, ha => by simp [idl_] at ha
  | .inner i kc v l r, h, a, ha => by
    simp only [idl_, List.mem_cons, List.mem_append] at ha
    obtain ⟨h1, _, h5, h6⟩ := h
    rcases ha with rfl | ha | ha | ha
    · exact ⟨h1.1, (NF_isN h1).elim Or.inl (fun q => Or.inr (Or.inl q))⟩
    · obtain ⟨_, _, _, _, h9⟩ := h1
      generalize v.2.2.2.2.2 = o at h9 ha
      cases o with
      | none => simp [nlI] at ha
      | some w =>
        simp only [nlI, List.mem_cons, List.not_mem_nil, or_false] at ha
        subst ha
        exact ⟨⟨h9.2.2.1.1.1, h9.2.2.1.1.2.1⟩, Or.inr (Or.inr (by rw [h9.2.2.1.1.2.2]))⟩
    · exact NR_id h5 a ha
    · exact NR_id h6 a ha
theorem TG_lt (h : TG s lo c) : ∀ a ∈ idl_ c, a < aN_ s := fun a ha => (NR_id h.1 a ha).1.2
theorem TG_cl (h : TG s lo c) : ∀ a ∈ idl_ c, (aK_ s a).1 ≠ 26 ∧ (aK_ s a).1 ≠ 14 := fun a ha => by rcases (NR_id h.1 a ha).2 with q | q | q <;> rw [q] <;> decide
/-- one whose class is none of a tree's -/
theorem TG_ne (h : TG s lo c) {x : Nat} (hx : (aK_ s x).1 ≠ 9 ∧ (aK_ s x).1 ≠ 5 ∧ (aK_ s x).1 ≠ 36) : ∀ a ∈ idl_ c, a ≠ x := fun a ha q => by
  subst q
  rcases (NR_id h.1 a ha).2 with w | w | w
  · exact hx.1 w
  · exact hx.2.1 w
  · exact hx.2.2 w
theorem snC_rI (l x : cr_) : rI_ (snC l x) = match rI_ l with | none => rI_ x | some a => some a := by cases l <;> rfl
theorem snC_lI : ∀ (o : Option Nat) (l x : cr_), lI_ o (snC l x) = lI_ (lI_ o l) x
  | _, .leaf, _ => rfl
  | _, .inner i _ _ _ r, x => snC_lI (some i) r x
theorem snC_id : ∀ (l x : cr_), (idl_ (snC l x)).Perm (idl_ l ++ idl_ x)
  | .leaf, _ => by simp [snC, idl_]
  | .inner i _ v l r, x => by
    have := snC_id r x
    simp only [snC, idl_, List.cons_append, List.append_assoc]
    exact List.Perm.cons _ (List.Perm.append_left _ (List.Perm.append_left _ this))
theorem snC_leaf : ∀ (l : cr_), snC l .leaf = l
  | .leaf => rfl
  | .inner i k v l r => by
    show Std.DTreeMap.Internal.Impl.inner i k v l (snC r .leaf) = _
    rw [snC_leaf r]
theorem snC_as : ∀ (a b c : cr_), snC (snC a b) c = snC a (snC b c)
  | .leaf, _, _ => rfl
  | .inner i k v l r, b, c => by
    show Std.DTreeMap.Internal.Impl.inner i k v l (snC (snC r b) c) = _
    rw [snC_as r b c]
    rfl
/-- the last root of a row is one of its objects -/
theorem lI_mem : ∀ (l : cr_) (b : Nat) (o : Option Nat), lI_ o l = some b → o = some b ∧ l = .leaf ∨ b ∈ idl_ l
  | .leaf, _, _, h => Or.inl ⟨h, rfl⟩
  | .inner i _ v l r, b, o, h => by
    have h : lI_ (some i) r = some b := h
    rcases lI_mem r b (some i) h with q | q
    · refine Or.inr ?_
      have := Option.some.inj q.1
      simp [idl_, this]
    · exact Or.inr (by simp [idl_, q])
/-- own fields after with -/
theorem NF_wt {id : Nat} {ls : List Nat} {y : Option Nat} (h : NF_ s i kc v) : NF_ (wt_ s id ls y) i kc v := by
  obtain ⟨⟨h1, h2⟩, h3, ⟨h4, h5, h6, h7⟩, h8, h9⟩ := h
  have hst : ∀ {r : Option Nat} {t : List Int32}, St s r t → St (wt_ s id ls y) r t := fun ⟨a, e, g1, g2, g3⟩ => ⟨a, e, by rw [wt_K]; exact g1, by rw [wt_N]; exact g2, by rw [wt_S]; exact g3⟩
  have hct : ∀ {a : Nat} {k pl ln w : Int32} {tx tg : List Int32}, CT s a k pl ln w tx tg → CT (wt_ s id ls y) a k pl ln w tx tg := fun {a k pl ln w tx tg} ⟨⟨g1, g2, g3⟩, ⟨i1, i2, i3, i4, i5⟩, q1, q2⟩ => ⟨⟨g1, by rw [wt_N]; exact g2, by rw [wt_K]; exact g3⟩, ⟨by rw [wt_I]; exact i1, by rw [wt_I]; exact i2, by rw [wt_I]; exact i3, by rw [wt_I]; exact i4, by rw [wt_I]; exact i5⟩, by rw [wt_R _ _ _ (by omega)]; exact hst q1, by rw [wt_R _ _ _ (by omega)]; exact hst q2⟩
  have hnl : ∀ {ids : List Nat} {ws : List (Int32 × List Int32)}, NLs s ids ws → NLs (wt_ s id ls y) ids ws := by
    intro ids
    induction ids with
    | nil => intro ws h; cases ws with | nil => trivial | cons _ _ => exact h.elim
    | cons a ids ih =>
      intro ws h
      cases ws with
      | nil => exact h.elim
      | cons w ws => obtain ⟨⟨k, ln, u, tag, h1⟩, h2⟩ := h; exact ⟨⟨k, ln, u, tag, hct h1⟩, ih h2⟩
  refine ⟨⟨h1, by rw [wt_N]; exact h2⟩, by rw [wt_R _ _ _ (by omega)]; exact h3, ⟨by rw [wt_I]; exact h4, by rw [wt_I]; exact h5, by rw [wt_I]; exact h6, by rw [wt_I]; exact h7⟩, by rw [wt_R _ _ _ (by omega)]; exact hst h8, ?_⟩
  generalize v.2.2.2.2.2 = o at h9
  cases o with
  | none => show aK_ _ i = _; rw [wt_K]; exact h9
  | some w =>
    obtain ⟨g1, g2, ⟨⟨n1, n2, n3⟩, ids, n4, n5⟩, g4, g5, g6, g7⟩ := h9
    exact ⟨by rw [wt_K]; exact g1, by rw [wt_R _ _ _ (by omega)]; exact g2, ⟨⟨n1, by rw [wt_N]; exact n2, by rw [wt_K]; exact n3⟩, ids, by rw [wt_L]; exact n4, hnl n5⟩, by rw [wt_I]; exact g4, by rw [wt_I]; exact g5, by rw [wt_I]; exact g6, by rw [wt_I]; exact g7⟩
/-- a tree that with does not touch -/
theorem NR_wt {id : Nat} {ls : List Nat} {y : Option Nat} : ∀ {c : cr_}, NR_ s c → (∀ a ∈ idl_ c, a ≠ id ∧ (∀ b, ls.getLast? = some b → a ≠ b)) → NR_ (wt_ s id ls y) c
  | .leaf, _, _ => trivial
  | .inner i kc v l r, h, hc => by
    obtain ⟨h1, ⟨h2, h3, h4⟩, h5, h6⟩ := h
    have e : ∀ k, aR_ (wt_ s id ls y) i k = aR_ s i k := fun k => by
      obtain ⟨q1, q2⟩ := hc i (by simp [idl_])
      unfold wt_
      split
      · rw [aR_awR, if_neg (fun w => q1 w.1), aR_awR, if_neg (fun w => q1 w.1)]
      · rename_i b hb
        rw [aR_awR, if_neg (fun w => q1 w.1), aR_awR, if_neg (fun w => q2 b hb w.1)]
    exact ⟨NF_wt h1, ⟨(e _).trans h2, (e _).trans h3, (e _).trans h4⟩, NR_wt h5 (fun a ha => hc a (by simp [idl_, ha])), NR_wt h6 (fun a ha => hc a (by simp [idl_, ha]))⟩
/-- the roots of a row -/
def rts : cr_ → List Nat
  | .leaf => []
  | .inner i _ _ _ r => i :: rts r
theorem rts_ls : ∀ (l : cr_) (o : Option Nat), lI_ o l = match (rts l).getLast? with | none => o | some b => some b
  | .leaf, _ => rfl
  | .inner i _ _ _ r, o => by
    show lI_ (some i) r = _
    rw [rts_ls r (some i)]
    show _ = match (i :: rts r).getLast? with | none => o | some b => some b
    rw [List.getLast?_cons]
    cases (rts r).getLast? <;> rfl
theorem rts_mem : ∀ (l : cr_), ∀ a ∈ rts l, a ∈ idl_ l
  | .leaf, a, h => by simp [rts] at h
  | .inner i _ v l r, a, h => by
    simp only [rts, List.mem_cons] at h
    rcases h with rfl | h
    · simp [idl_]
    · have := rts_mem r a h; simp [idl_, this]
theorem rts_chn : ∀ (l : cr_), NR_ s l → chn s (rI_ l) (rts l)
  | .leaf, _ => rfl
  | .inner i _ v l r, h => ⟨rfl, by rw [h.2.1.2.2]; exact rts_chn r h.2.2.2⟩
theorem NR_Ch (h : NR_ s (.inner i kc v l r)) : Ch s i (rts l) := ⟨by rw [h.2.1.1]; exact rts_chn l h.2.2.1, by
  rw [h.2.1.2.1, rts_ls l none]
  cases (rts l).getLast? <;> rfl⟩
theorem rts_isN : ∀ (l : cr_), NR_ s l → ∀ a ∈ rts l, isN s a
  | .leaf, _, a, h => by simp [rts] at h
  | .inner i _ v l r, h, a, ha => by
    simp only [rts, List.mem_cons] at ha
    rcases ha with rfl | ha
    · exact NF_isN h.1
    · exact rts_isN r h.2.2.2 a ha
/-- the row of parts after with -/
theorem NR_app {id y b : Nat} {ls : List Nat} {x : cr_} (hb : ls.getLast? = some b) (hx : NR_ (wt_ s id ls (some y)) x) (hy : rI_ x = some y) (hid : id ≠ b) : ∀ {l : cr_} {o : Option Nat}, NR_ s l → lI_ o l = some b → l ≠ .leaf → (idl_ l).Nodup → id ∉ idl_ l → NR_ (wt_ s id ls (some y)) (snC l x)
  | .leaf, _, _, _, h, _, _ => absurd rfl h
  | .inner i kc v l r, o, h, hl, _, hn, hi => by
    obtain ⟨h1, ⟨h2, h3, h4⟩, h5, h6⟩ := h
    have hl : lI_ (some i) r = some b := hl
    simp only [idl_, List.nodup_cons, List.mem_append, not_or, List.nodup_append] at hn
    simp only [idl_, List.mem_cons, List.mem_append, not_or] at hi
    have e : ∀ k, (k ≠ 107 ∨ i ≠ b) → aR_ (wt_ s id ls (some y)) i k = aR_ s i k := fun k q => by
      unfold wt_
      rw [hb]
      dsimp only
      rw [aR_awR, if_neg (fun w => hi.1 w.1.symm), aR_awR, if_neg (fun w => by rcases q with q | q; exact q w.2; exact q w.1)]
    by_cases c : r = .leaf
    · subst c
      have hib : i = b := Option.some.inj hl
      have hw : NR_ (wt_ s id ls (some y)) l := NR_wt h5 (fun a ha => ⟨fun q => hi.2.2.1 (q ▸ ha), fun b' hb' q => by
        rw [hb] at hb'
        have := Option.some.inj hb'
        exact hn.1.2.1 (by rw [hib, this, ← q]; exact ha)⟩)
      refine ⟨NF_wt h1, ⟨(e _ (Or.inl (by omega))).trans h2, (e _ (Or.inl (by omega))).trans h3, ?_⟩, hw, hx⟩
      show aR_ (wt_ s id ls (some y)) i 107 = rI_ x
      rw [hy, hib]
      unfold wt_
      rw [hb]
      dsimp only
      rw [aR_awR, if_neg (fun w => hid w.1.symm), aR_awR, if_pos ⟨rfl, rfl⟩]
    · have hbr : b ∈ idl_ r := by
        rcases lI_mem r b (some i) hl with q | q
        · exact absurd q.2 c
        · exact q
      have hib : i ≠ b := fun q => hn.1.2.2 (q ▸ hbr)
      have hw : NR_ (wt_ s id ls (some y)) l := NR_wt h5 (fun a ha => ⟨fun q => hi.2.2.1 (q ▸ ha), fun b' hb' q => by
        rw [hb] at hb'
        have e1 := Option.some.inj hb'
        exact hn.2.2.1.2.2 a ha b hbr (by rw [e1, q])⟩)
      have hr := NR_app hb hx hy hid (l := r) (o := some i) h6 hl c hn.2.2.1.2.1 hi.2.2.2
      refine ⟨NF_wt h1, ⟨(e _ (Or.inr hib)).trans h2, (e _ (Or.inr hib)).trans h3, ?_⟩, hw, hr⟩
      rw [e _ (Or.inr hib), h4, snC_rI]
      cases r with
      | leaf => exact absurd rfl c
      | inner _ _ _ _ _ => rfl
theorem y_withT (d : Nat) {y ky : Nat} {vy : cp_w} {ly : cr_} (hp : TG s lo (.inner i kc v l .leaf)) (hc : NR_ s (.inner y ky vy ly .leaf)) (hcn : (idl_ (.inner y ky vy ly .leaf)).Nodup) (hclo : ∀ a ∈ idl_ (.inner y ky vy ly .leaf), lo ≤ a) (hd : ∀ a ∈ idl_ (.inner i kc v l .leaf), a ∉ idl_ (.inner y ky vy ly .leaf)) : ∃ s', aE (d + 1) 306 [vr_ (some i), vr_ (some y)] s = some (.inl (some (vr_ (some i))), s') ∧ TG s' lo (.inner i kc v (snC l (.inner y ky vy ly .leaf)) .leaf) ∧ Kp (fun a => a ∈ idl_ (.inner i kc v l .leaf)) s s' ∧ aC_ s' = aC_ s ∧ aZ_ s' = aZ_ s ∧ aN_ s' = aN_ s := by
  obtain ⟨hp1, hp2, hp3⟩ := hp
  have hCh := NR_Ch hp1
  have e := y_with d (s := s) (id := i) (l := rts l) (NF_isN hp1.1) hCh (rts_isN l hp1.2.2.1) (some y)
  have hi : i ∉ idl_ l := by simp [idl_] at hp2; exact hp2.1.2
  have hlast : lI_ none l = (rts l).getLast? := by rw [rts_ls l none]; cases (rts l).getLast? <;> rfl
  have hlm : ∀ b, (rts l).getLast? = some b → b ∈ idl_ l := fun b hb => rts_mem l b (List.mem_of_getLast? hb)
  have hcw : NR_ (wt_ s i (rts l) (some y)) (.inner y ky vy ly .leaf) := NR_wt hc (fun a ha => ⟨fun q => hd i (by simp [idl_]) (q ▸ ha), fun b hb q => hd b (by simp [idl_, hlm b hb]) (q ▸ ha)⟩)
  have hnew : NR_ (wt_ s i (rts l) (some y)) (.inner i kc v (snC l (.inner y ky vy ly .leaf)) .leaf) := by
    refine ⟨NF_wt hp1.1, ⟨?_, ?_, ?_⟩, ?_, trivial⟩
    · cases l with
      | leaf =>
        show aR_ (awR (awR s i 105 (some y)) i 106 (some y)) i 105 = some y
        rw [aR_awR, if_neg (by omega), aR_awR, if_pos ⟨rfl, rfl⟩]
      | inner a ka va la ra =>
        obtain ⟨b, hb⟩ : ∃ b, (rts (.inner a ka va la ra)).getLast? = some b := by
          cases h : (rts (.inner a ka va la ra)).getLast? with
          | none => simp [rts, List.getLast?_eq_none_iff] at h
          | some b => exact ⟨b, rfl⟩
        have hbi : i ≠ b := fun q => hi (q ▸ hlm b hb)
        have : aR_ (wt_ s i (rts (.inner a ka va la ra)) (some y)) i 105 = aR_ s i 105 := by
          unfold wt_
          rw [hb]
          dsimp only
          rw [aR_awR, if_neg (by omega), aR_awR, if_neg (by omega)]
        rw [this, hp1.2.1.1]
        rfl
    · rw [snC_lI]
      show _ = some y
      unfold wt_
      split
      · rw [aR_awR, if_pos ⟨rfl, rfl⟩]
      · rw [aR_awR, if_pos ⟨rfl, rfl⟩]
    · have : aR_ (wt_ s i (rts l) (some y)) i 107 = aR_ s i 107 := by
        unfold wt_
        split
        · rw [aR_awR, if_neg (by omega), aR_awR, if_neg (by omega)]
        · rename_i b hb
          have hbi : i ≠ b := fun q => hi (q ▸ hlm b hb)
          rw [aR_awR, if_neg (by omega), aR_awR, if_neg (by omega)]
      rw [this]
      exact hp1.2.1.2.2
    · by_cases c : l = .leaf
      · subst c; exact hcw
      · obtain ⟨b, hb⟩ : ∃ b, (rts l).getLast? = some b := by
          cases h : (rts l).getLast? with
          | none =>
            cases l with
            | leaf => exact absurd rfl c
            | inner _ _ _ _ _ => simp [rts, List.getLast?_eq_none_iff] at h
          | some b => exact ⟨b, rfl⟩
        have hbi : i ≠ b := fun q => hi (q ▸ hlm b hb)
        refine NR_app hb hcw rfl hbi (o := none) hp1.2.2.1 (hlast.trans hb) c ?_ hi
        simp only [idl_, List.nodup_cons, List.nodup_append] at hp2
        exact hp2.2.2.1.1
  have hpm : (idl_ (.inner i kc v (snC l (.inner y ky vy ly .leaf)) .leaf)).Perm (idl_ (.inner i kc v l .leaf) ++ idl_ (.inner y ky vy ly .leaf)) := by
    have := snC_id l (.inner y ky vy ly .leaf)
    have e1 : idl_ (.inner i kc v (snC l (.inner y ky vy ly .leaf)) .leaf) = i :: (nlI v.2.2.2.2.2 ++ idl_ (snC l (.inner y ky vy ly .leaf))) := by simp [idl_]
    have e2 : idl_ (.inner i kc v l .leaf) ++ idl_ (.inner y ky vy ly .leaf) = i :: (nlI v.2.2.2.2.2 ++ (idl_ l ++ idl_ (.inner y ky vy ly .leaf))) := by simp [idl_]
    rw [e1, e2]
    exact List.Perm.cons _ (List.Perm.append_left _ this)
  refine ⟨wt_ s i (rts l) (some y), e, ⟨hnew, ?_, ?_⟩, ?_, ?_, ?_, wt_N _⟩
  · rw [hpm.nodup_iff, List.nodup_append]
    exact ⟨hp2, hcn, fun a ha b hb q => hd a ha (q ▸ hb)⟩
  · intro a ha
    rcases List.mem_append.mp (hpm.mem_iff.mp ha) with q | q
    · exact hp3 a q
    · exact hclo a q
  · exact wt_Kp Kp_rf (Or.inl (by simp [idl_])) (fun a ha => Or.inl (by simp [idl_, rts_mem l a ha])) _
  · unfold wt_; split <;> rfl
  · unfold wt_; split <;> rfl
end ctree
