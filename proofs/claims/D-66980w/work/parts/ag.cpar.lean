/-! ===== the component's parser: its object, the token at its place ===== -/
def tkk (T : List tk_) (eo : Option Nat) (p : Nat) : Int32 := match T[p]? with
  | some y => (cw_ y).1
  | none => eK_ eo
def tkp (T : List tk_) (eo : Option Nat) (n p : Nat) : Nat := match T[p]? with
  | some y => y.2.1
  | none => eP_ n eo
def tkx (T : List tk_) (p : Nat) : List Int32 := match T[p]? with
  | some y => (cw_ y).2.1
  | none => ak_S 1010
def tkg (T : List tk_) (p : Nat) : List Int32 := match T[p]? with
  | some y => (cw_ y).2.2
  | none => []
def tkv (T : List tk_) (p : Nat) : Int32 := match T[p]? with
  | some y => if y.1 = 2 then y.2.2.1 else 0
  | none => 0
/-- kinds as the reference has them -/
def Kn (T : List tk_) (p : Nat) : Nat := match T[p]? with
  | some y => y.1
  | none => 0
/-- the tokens in their list, with the end -/
def TA (s : as_) (TL : Nat) (ids : List Nat) (iE : Nat) (T : List tk_) (eo : Option Nat) (n : Nat) : Prop := (4000 ≤ TL ∧ TL < aN_ s ∧ (aK_ s TL).1 = 36) ∧ aL_ s TL = (ids ++ [iE]).map some ∧ TKs s ids T ∧ (∃ ln, CT s iE (eK_ eo) (nI (eP_ n eo)) ln 0 (ak_S 1010) []) ∧ T.length < 20000
/-- the parser's object: its lists and its two numbers -/
def CP (s : as_) (x TL IL GS SL p dp : Nat) : Prop := (4000 ≤ x ∧ x < aN_ s ∧ (aK_ s x).1 = 10) ∧ (aR_ s x 93 = some TL ∧ aR_ s x 96 = some IL ∧ aR_ s x 97 = some GS ∧ aR_ s x 98 = some SL) ∧ aI_ s x 94 = nI p ∧ aI_ s x 95 = nI dp ∧ p < 30000 ∧ dp ≤ 60
section cpar
variable {s s' : as_} {x TL IL GS SL p dp iE n : Nat} {ids : List Nat} {T : List tk_} {eo : Option Nat} {M : Nat → Prop}
theorem TA_Kp (h : TA s TL ids iE T eo n) (hk : Kp M s s') (hM : ∀ a, M a → (aK_ s a).1 ≠ 26 ∧ (aK_ s a).1 ≠ 14) (hT : ¬ M TL) : TA s' TL ids iE T eo n := by
  obtain ⟨⟨h1, h2, h3⟩, h4, h5, ⟨ln, h6⟩, h7⟩ := h
  have q := hk.2 TL h2 hT
  exact ⟨⟨h1, by have := hk.1; omega, by rw [q.2.2.1]; exact h3⟩, q.2.2.2.2.1.trans h4, TKs_Kp h5 hk hM, ⟨ln, CT_Kp h6 hk hM⟩, h7⟩
theorem CP_Kp (h : CP s x TL IL GS SL p dp) (hk : Kp M s s') (hx : ¬ M x) : CP s' x TL IL GS SL p dp := by
  obtain ⟨⟨h1, h2, h3⟩, ⟨r1, r2, r3, r4⟩, i1, i2, b⟩ := h
  have q := hk.2 x h2 hx
  exact ⟨⟨h1, by have := hk.1; omega, by rw [q.2.2.1]; exact h3⟩, ⟨(q.2.1 _).trans r1, (q.2.1 _).trans r2, (q.2.1 _).trans r3, (q.2.1 _).trans r4⟩, (q.1 _).trans i1, (q.1 _).trans i2, b⟩
theorem CP_at (h : CP s x TL IL GS SL p dp) {p' : Nat} (hp : p' < 30000) : CP (awI s x 94 (nI p')) x TL IL GS SL p' dp := by
  obtain ⟨⟨h1, h2, h3⟩, r, i1, i2, b⟩ := h
  refine ⟨⟨h1, h2, h3⟩, r, ?_, ?_, hp, b.2⟩
  · rw [aI_awI, if_pos ⟨h1, rfl, rfl⟩]
  · rw [aI_awI, if_neg (by omega)]; exact i2
theorem CP_dp (h : CP s x TL IL GS SL p dp) {d' : Nat} (hp : d' ≤ 60) : CP (awI s x 95 (nI d')) x TL IL GS SL p d' := by
  obtain ⟨⟨h1, h2, h3⟩, r, i1, i2, b⟩ := h
  refine ⟨⟨h1, h2, h3⟩, r, ?_, ?_, b.1, hp⟩
  · rw [aI_awI, if_neg (by omega)]; exact i1
  · rw [aI_awI, if_pos ⟨h1, rfl, rfl⟩]
theorem TA_tok (h : TA s TL ids iE T eo n) (hp : p ≤ T.length) : ∃ i ln, (aL_ s TL)[p]? = some (some i) ∧ CT s i (tkk T eo p) (nI (tkp T eo n p)) ln (tkv T p) (tkx T p) (tkg T p) := by
  obtain ⟨_, h4, h5, ⟨ln, h6⟩, _⟩ := h
  have hl := h5.1
  rw [h4, List.getElem?_map, List.getElem?_append]
  by_cases c : p < T.length
  · rw [if_pos (by omega)]
    have e1 : ids[p]? = some ids[p] := List.getElem?_eq_getElem (by omega)
    have e2 : T[p]? = some T[p] := List.getElem?_eq_getElem c
    obtain ⟨_, l2, q⟩ := h5.2 p _ _ e1 e2
    refine ⟨ids[p], l2, by rw [e1]; rfl, ?_⟩
    unfold tkk tkp tkv tkx tkg
    rw [e2]
    exact q
  · obtain rfl : p = T.length := by omega
    rw [if_neg (by omega), hl, Nat.sub_self]
    have e2 : T[T.length]? = none := List.getElem?_eq_none (Nat.le_refl _)
    refine ⟨iE, ln, rfl, ?_⟩
    unfold tkk tkp tkv tkx tkg
    rw [e2]
    exact h6
theorem y_peek (d : Nat) (h : CP s x TL IL GS SL p dp) (hT : TA s TL ids iE T eo n) (hp : p ≤ T.length) : ∃ i ln, aE (d + 2) 272 [vr_ (some x)] s = some (.inl (some (vr_ (some i))), s) ∧ CT s i (tkk T eo p) (nI (tkp T eo n p)) ln (tkv T p) (tkx T p) (tkg T p) := by
  obtain ⟨i, ln, e, c⟩ := TA_tok hT hp
  obtain ⟨⟨h1, h2, h3⟩, ⟨r1, r2, r3, r4⟩, i1, i2, b⟩ := h
  obtain ⟨⟨t1, t2, t3⟩, t4, t5, _, t7⟩ := hT
  have ecs : cx_cst a_io 14 (some i) s = some () := by
    unfold cx_cst a_io
    dsimp only
    rw [Option.bind_some, c.1.2.2]
    rfl
  refine ⟨i, ln, ?_, c⟩
  rw [ce_X13_peek, f_gr (f := 93) h3 rfl, Option.bind_some, f_gi (f := 94) h3 rfl, Option.bind_some, r1, i1, f_dp (f := 79) t3 rfl, Option.bind_some, l_get d TL e (by rw [t4]; have := t5.1; simp; omega), cR_k, ecs, Option.bind_some]
theorem y_take (d : Nat) (h : CP s x TL IL GS SL p dp) (hT : TA s TL ids iE T eo n) (hp : p ≤ T.length) : ∃ i ln, aE (d + 2) 274 [vr_ (some x)] s = some (.inl (some (vr_ (some i))), awI s x 94 (nI (p + 1))) ∧ CT s i (tkk T eo p) (nI (tkp T eo n p)) ln (tkv T p) (tkx T p) (tkg T p) := by
  obtain ⟨i, ln, e, c⟩ := TA_tok hT hp
  have hP := CP_at h (p' := p + 1) (by have := hT.2.2.2.2; omega)
  obtain ⟨⟨h1, h2, h3⟩, ⟨r1, r2, r3, r4⟩, i1, i2, b⟩ := h
  obtain ⟨⟨t1, t2, t3⟩, t4, t5, _, t7⟩ := hT
  have ecs : cx_cst a_io 14 (some i) (awI s x 94 (nI (p + 1))) = some () := by
    unfold cx_cst a_io
    dsimp only
    rw [Option.bind_some, show aK_ (awI s x 94 (nI (p + 1))) i = aK_ s i from rfl, c.1.2.2]
    rfl
  have k3 : (aK_ (awI s x 94 (nI (p + 1))) x).1 = 10 := h3
  have kT : (aK_ (awI s x 94 (nI (p + 1))) TL).1 = 36 := t3
  have e' : (aL_ (awI s x 94 (nI (p + 1))) TL)[p]? = some (some i) := e
  refine ⟨i, ln, ?_, c⟩
  rw [ce_X13_take, f_gi (f := 94) h3 rfl, Option.bind_some, i1, nI_1, f_pi (f := 94) h3 rfl rfl, Option.bind_some, f_gr (f := 93) k3 rfl, Option.bind_some, f_gi (f := 94) k3 rfl, Option.bind_some, hP.2.1.1, hP.2.2.1, f_dp (f := 79) kT rfl, Option.bind_some, show (nI (p + 1) - 1 : Int32) = nI p from nI_pred _, l_get d TL e' (by show (aL_ s TL).length < _; rw [t4]; have := t5.1; simp; omega), cR_k, ecs, Option.bind_some]
/-- a text of the table stands for a kind of the reference -/
def gdk_ (c k : Nat) : Bool := ((List.range 37).all fun j => decide (j < 10) || decide ((sgt_ j = ak_S c ∧ j = k) ∨ (¬ sgt_ j = ak_S c ∧ ¬ j = k))) && (KW_.all fun w => decide ((w = ak_S c ∧ kw_ w = k) ∨ (¬ w = ak_S c ∧ ¬ kw_ w = k))) && decide (10 ≤ k)
end cpar
