/-! ===== the component's trees: fields set; new ones ===== -/
section ctree2
variable {s s' : as_} {i kc lo : Nat} {v v' : cp_w} {l : cr_} {p n iE x TL IL GS SL dp : Nat} {ids : List Nat} {T : List tk_} {eo : Option Nat}
theorem TG_touch (h : TG s lo (.inner i kc v l .leaf)) (hk : Kp (fun a => a = i) s s') (hF : NF_ s' i kc v') (h5 : ∀ k, 105 ≤ k → aR_ s' i k = aR_ s i k) (hnl : nlI v'.2.2.2.2.2 = nlI v.2.2.2.2.2) : TG s' lo (.inner i kc v' l .leaf) := by
  obtain ⟨h1, h2, h3⟩ := h
  have hi : i ∉ idl_ l := by simp [idl_] at h2; exact h2.1.2
  have e : idl_ (.inner i kc v' l .leaf) = idl_ (.inner i kc v l .leaf) := by simp [idl_, hnl]
  have hc := h1.1
  have hM : ∀ a, a = i → (aK_ s a).1 ≠ 26 ∧ (aK_ s a).1 ≠ 14 := fun a q => by
    subst q
    rcases NF_isN hc with w | w <;> rw [w] <;> decide
  exact ⟨⟨hF, ⟨(h5 _ (by omega)).trans h1.2.1.1, (h5 _ (by omega)).trans h1.2.1.2.1, (h5 _ (by omega)).trans h1.2.1.2.2⟩, NR_Kp hk hM h1.2.2.1 (fun a ha q => hi (q ▸ ha)), trivial⟩, by rw [e]; exact h2, by rw [e]; exact h3⟩
theorem NF5_Kp {o : Option cl_w} (h : NF5 s i o) (hc : isN s i) (hk : Kp (fun a => a = i) s s') (hi : i < aN_ s) (hn : ∀ a ∈ nlI o, a ≠ i) (eK : aK_ s' i = aK_ s i) (e8 : aR_ s' i 108 = aR_ s i 108) (eI : ∀ k, 109 ≤ k → aI_ s' i k = aI_ s i k) : NF5 s' i o := by
  have hM : ∀ a, a = i → (aK_ s a).1 ≠ 26 ∧ (aK_ s a).1 ≠ 14 := fun a q => by
    subst q
    rcases hc with w | w <;> rw [w] <;> decide
  cases o with
  | none => exact eK.trans h
  | some w =>
    obtain ⟨g1, g2, g3, g4, g5, g6, g7⟩ := h
    exact ⟨eK.trans g1, e8.trans g2, NL_Kp g3 hk hM (hn _ (by simp [nlI])), (eI _ (by omega)).trans g4, (eI _ (by omega)).trans g5, (eI _ (by omega)).trans g6, (eI _ (by omega)).trans g7⟩
theorem TG_nl (h : TG s lo (.inner i kc v l .leaf)) : ∀ a ∈ nlI v.2.2.2.2.2, a ≠ i := fun a ha q => by
  have := h.2.1
  simp only [idl_, List.nodup_cons, List.mem_append, not_or] at this
  exact this.1.1 (q ▸ ha)
theorem isN_M {a : Nat} (h : isN s i) (q : a = i) : (aK_ s a).1 ≠ 26 := by
  subst q
  rcases h with w | w <;> rw [w] <;> decide
theorem TG_from (h : TG s lo (.inner i kc v l .leaf)) (y : Int32) : TG (awI s i 101 y) lo (.inner i kc (v.1, y, v.2.2) l .leaf) := by
  have hk : Kp (fun a => a = i) s (awI s i 101 y) := Kp_I Kp_rf 101 y (Or.inl rfl)
  obtain ⟨⟨b1, b2⟩, h3, ⟨h4, h5, h6, h7⟩, h8, h9⟩ := h.1.1
  have hN := NF_isN h.1.1
  have hnl := TG_nl h
  refine TG_touch h hk ⟨⟨b1, b2⟩, h3, ⟨?_, ?_, ?_, ?_⟩, St_Kp h8 hk (fun a q => isN_M hN q), NF5_Kp h9 hN hk b2 hnl rfl rfl (fun k q => ?_)⟩ (fun k q => rfl) rfl
  · rw [aI_awI, if_neg (by omega)]; exact h4
  · rw [aI_awI, if_pos ⟨b1, rfl, rfl⟩]
  · rw [aI_awI, if_neg (by omega)]; exact h6
  · rw [aI_awI, if_neg (by omega)]; exact h7
  · rw [aI_awI, if_neg (by omega)]
theorem TG_apart (h : TG s lo (.inner i kc v l .leaf)) (y : Int32) : TG (awI s i 102 y) lo (.inner i kc (v.1, v.2.1, y, v.2.2.2) l .leaf) := by
  have hk : Kp (fun a => a = i) s (awI s i 102 y) := Kp_I Kp_rf 102 y (Or.inl rfl)
  obtain ⟨⟨b1, b2⟩, h3, ⟨h4, h5, h6, h7⟩, h8, h9⟩ := h.1.1
  have hN := NF_isN h.1.1
  have hnl := TG_nl h
  refine TG_touch h hk ⟨⟨b1, b2⟩, h3, ⟨?_, ?_, ?_, ?_⟩, St_Kp h8 hk (fun a q => isN_M hN q), NF5_Kp h9 hN hk b2 hnl rfl rfl (fun k q => ?_)⟩ (fun k q => rfl) rfl
  · rw [aI_awI, if_neg (by omega)]; exact h4
  · rw [aI_awI, if_neg (by omega)]; exact h5
  · rw [aI_awI, if_pos ⟨b1, rfl, rfl⟩]
  · rw [aI_awI, if_neg (by omega)]; exact h7
  · rw [aI_awI, if_neg (by omega)]
theorem TG_value (h : TG s lo (.inner i kc v l .leaf)) (y : Int32) : TG (awI s i 104 y) lo (.inner i kc (v.1, v.2.1, v.2.2.1, v.2.2.2.1, y, v.2.2.2.2.2) l .leaf) := by
  have hk : Kp (fun a => a = i) s (awI s i 104 y) := Kp_I Kp_rf 104 y (Or.inl rfl)
  obtain ⟨⟨b1, b2⟩, h3, ⟨h4, h5, h6, h7⟩, h8, h9⟩ := h.1.1
  have hN := NF_isN h.1.1
  have hnl := TG_nl h
  refine TG_touch h hk ⟨⟨b1, b2⟩, h3, ⟨?_, ?_, ?_, ?_⟩, St_Kp h8 hk (fun a q => isN_M hN q), NF5_Kp h9 hN hk b2 hnl rfl rfl (fun k q => ?_)⟩ (fun k q => rfl) rfl
  · rw [aI_awI, if_neg (by omega)]; exact h4
  · rw [aI_awI, if_neg (by omega)]; exact h5
  · rw [aI_awI, if_neg (by omega)]; exact h6
  · rw [aI_awI, if_pos ⟨b1, rfl, rfl⟩]
  · rw [aI_awI, if_neg (by omega)]
theorem TG_text (h : TG s lo (.inner i kc v l .leaf)) {r : Option Nat} {u : List Int32} (hr : St s r u) : TG (awR s i 103 r) lo (.inner i kc (v.1, v.2.1, v.2.2.1, u, v.2.2.2.2) l .leaf) := by
  have hk : Kp (fun a => a = i) s (awR s i 103 r) := Kp_R Kp_rf 103 r (Or.inl rfl)
  obtain ⟨⟨b1, b2⟩, h3, ⟨h4, h5, h6, h7⟩, h8, h9⟩ := h.1.1
  have hN := NF_isN h.1.1
  have hnl := TG_nl h
  refine TG_touch h hk ⟨⟨b1, b2⟩, ?_, ⟨h4, h5, h6, h7⟩, ?_, NF5_Kp h9 hN hk b2 hnl rfl ?_ (fun k q => rfl)⟩ (fun k q => ?_) rfl
  · rw [aR_awR, if_neg (by omega)]; exact h3
  · rw [aR_awR, if_pos ⟨rfl, rfl⟩]; exact St_Kp hr hk (fun a q => isN_M hN q)
  · rw [aR_awR, if_neg (by omega)]
  · rw [aR_awR, if_neg (by omega)]
theorem TG_ND {id : Nat} {pl fs br w : Int32} {nm : List Int32} (h : ND s id kc pl fs br nm w) (hC : Ch s id []) (hl : lo ≤ id) : TG s lo (.inner id kc (pl, fs, br, nm, w, none) .leaf .leaf) := by
  obtain ⟨⟨a1, a2, a3⟩, b, ⟨c1, c2, c3, c4⟩, d, e⟩ := h
  exact ⟨⟨⟨⟨a1, a2⟩, b, ⟨c1, c2, c3, c4⟩, d, a3⟩, ⟨hC.1, hC.2, e⟩, trivial, trivial⟩, by simp [idl_, nlI], by simp [idl_, nlI]; exact hl⟩
/-- a node for the token at hand, which is taken -/
theorem y_mkT (d : Nat) (h : CP s x TL IL GS SL p dp) (hT : TA s TL ids iE T eo n) (hp : p ≤ T.length) (kc : Nat) : ∃ s', (∀ K : as_ → cx_O as_, ((a_dp 274 (some x) (a_nw 9 s).2).bind fun m1 => cx_bR cx_th (aE (d + 2) m1 [vr_ (some x)] (a_nw 9 s).2) fun v3 s2 => (a_gi 85 v3 s2).bind fun v4 => cx_bV cx_th (aE (d + 2) 305 [vr_ (some (a_nw 9 s).1), vr_ (some kc), vi_ v4] s2) K) = K s') ∧ CP s' x TL IL GS SL (p + 1) dp ∧ TG s' (aN_ s) (.inner (aN_ s) kc (nI (tkp T eo n p), nI (tkp T eo n p), 0, [], 0, none) .leaf .leaf) ∧ Kp (fun a => a = x) s s' ∧ aC_ s' ≤ aC_ s + 1 ∧ aZ_ s' ≤ aZ_ s + az_ 9 ∧ aN_ s' = aN_ s + 1 := by
  obtain ⟨s', e, h1, _, h3, h4, h5, h6, h7⟩ := y_mk d h hT hp kc
  exact ⟨s', e, h1, TG_ND h3 h4 (Nat.le_refl _), h5, h6.1, h6.2, h7⟩
/-- a node for a token that was taken before -/
theorem y_mkT2 (d : Nat) {t kc : Nat} {k pl ln w : Int32} {txt tag : List Int32} (t1 : CT s t k pl ln w txt tag) : ∃ s', (∀ K : as_ → cx_O as_, ((a_gi 85 (some t) (a_nw 9 s).2).bind fun v4 => cx_bV cx_th (aE (d + 2) 305 [vr_ (some (a_nw 9 s).1), vr_ (some kc), vi_ v4] (a_nw 9 s).2) K) = K s') ∧ TG s' (aN_ s) (.inner (aN_ s) kc (pl, pl, 0, [], 0, none) .leaf .leaf) ∧ Kp (fun _ => False) s s' ∧ aC_ s' ≤ aC_ s + 1 ∧ aZ_ s' ≤ aZ_ s + az_ 9 ∧ aN_ s' = aN_ s + 1 := by
  have hN : 4000 ≤ aN_ s := by have := t1.1; omega
  obtain ⟨h3, h4, h5, h6, h7⟩ := nn_ND (s := s) (kc := kc) (pl := pl) hN
  exact ⟨_, fun K => y_mk2 d t1 K, TG_ND h3 h4 (Nat.le_refl _), h5, h6.1, h6.2, h7⟩
end ctree2
/-! ===== the component's tree of the reference's ===== -/
section cfT
variable (T : List tk_) (eo : Option Nat) (n : Nat)
/-- kinds of expressions -/
def xk_ (k : Nat) : Bool := (decide (1090 ≤ k) && decide (k ≤ 1103)) || decide (k = 1128)
/-- what does not count is made alike -/
def erw (k : Nat) : Option cl_w → Option cl_w
  | none => none
  | some w => some (0, (if k = 1128 then w.2.1.map (fun y => (0, y.2)) else w.2.1), w.2.2)
def erp (k : Nat) (v : cp_w) : cp_w := ((if k = 1121 ∨ k = 1089 then 0 else v.1), (if xk_ k = true then v.2.1 else 0), v.2.2.1, v.2.2.2.1, v.2.2.2.2.1, erw k v.2.2.2.2.2)
def er : cr_ → cr_
  | .leaf => .leaf
  | .inner _ k v l r => .inner 0 k (erp k v) (er l) (er r)
def bz_ (b : Bool) : Int32 := match b with
  | true => 1
  | false => 0
/-- an expression's node -/
def xp_ (v : Nat × Int32 × Nat × Nat × Bool) (u : List Int32) (w : Int32) (o : Option cl_w) : cp_w := (nI (tkp T eo n v.1), nI (tkp T eo n v.2.2.2.1), bz_ v.2.2.2.2, u, w, o)
/-- another node -/
def yp_ (tok : Nat) (u : List Int32) (o : Option cl_w) : cp_w := (nI (tkp T eo n tok), 0, 0, u, 0, o)
def zp_ (u : List Int32) (o : Option cl_w) : cp_w := (0, 0, 0, u, 0, o)
/-- names among the parts -/
def nmT : tr_ → List (Int32 × List Int32)
  | .leaf => []
  | .inner k _ v _ r => if k = 57 ∨ k = 58 then (nI (tkp T eo n v.1), tkx T v.1) :: nmT r else []
/-- signs of a row of relations -/
def rlT : tr_ → List (Int32 × List Int32)
  | .leaf => []
  | .inner _ _ v _ r => (0, sgt_ v.2.2.1) :: rlT r
def tlT : tr_ → tr_
  | .leaf => .leaf
  | .inner _ _ _ _ r => r
def hdT : tr_ → Nat
  | .leaf => 0
  | .inner _ _ v _ _ => v.1
/-- a routine's body gives a value -/
def gvT : tr_ → Bool
  | .leaf => false
  | .inner k _ _ _ r => if k = 57 then gvT r else decide (k < 20)
def toC : cr_ → List cr_
  | .leaf => []
  | .inner i k v l r => .inner i k v l .leaf :: toC r
def ofC : List cr_ → cr_
  | [] => .leaf
  | a :: r => snC a (ofC r)
def ilv : List cr_ → List cr_ → List cr_
  | a :: r, b :: q => a :: b :: ilv r q
  | _, _ => []
/-- lefts and rights of an assignment, in turn -/
def altC (m : Nat) (c : cr_) : cr_ := ofC (ilv ((toC c).take m) ((toC c).drop m))
def rotC : cr_ → cr_
  | .inner i1 k1 v1 l1 (.inner i2 k2 v2 l2 (.inner i3 k3 v3 l3 (.inner i4 k4 v4 l4 .leaf))) => .inner i1 k1 v1 l1 (.inner i2 k2 v2 l2 (.inner i4 k4 v4 l4 (.inner i3 k3 v3 l3 .leaf)))
  | c => c
def kdC (k : Nat) : cr_ → cr_
  | .leaf => .leaf
  | .inner i _ v l r => .inner i k v l (kdC k r)
/-- kinds of plain commands -/
def kcQ (k : Nat) : Nat := if k = 21 then 1120 else if k = 22 then 1108 else if k = 23 then 1109 else if k = 24 then 1112 else if k = 25 then 1110 else if k = 26 then 1111 else if k = 28 then 1125 else if k = 29 then 1113 else if k = 30 then 1114 else if k = 31 then 1115 else if k = 32 then 1116 else if k = 33 then 1117 else if k = 34 then 1118 else if k = 36 then 1122 else if k = 37 then 1107 else if k = 38 then 1104 else if k = 39 then 1105 else if k = 40 then 1106 else if k = 43 then 1126 else if k = 44 then 1127 else 1130
def cf : tr_ → cr_
  | .leaf => .leaf
  | .inner k _ v l r =>
    if k = 1 then .inner 0 1099 (xp_ T eo n v (tkx T v.1) 0 none) .leaf (cf r)
    else if k = 2 then .inner 0 1100 (xp_ T eo n v [] v.2.1 none) .leaf (cf r)
    else if k = 3 then .inner 0 1101 (xp_ T eo n v (tkx T v.1) 0 none) .leaf (cf r)
    else if k = 4 then .inner 0 1102 (xp_ T eo n v [] 0 none) (cf l) (cf r)
    else if k = 5 then .inner 0 1103 (xp_ T eo n v [] 0 none) (cf l) (cf r)
    else if k = 6 then .inner 0 1098 (xp_ T eo n v [] 0 none) (cf l) (cf r)
    else if k = 7 then .inner 0 1096 (xp_ T eo n v [] 0 none) (cf l) (cf r)
    else if k = 8 then .inner 0 1097 (xp_ T eo n v [] 0 none) (cf l) (cf r)
    else if k = 9 then (if v.2.1 = 18 then .inner 0 1096 (xp_ T eo n v [] 0 none) (cf l) (cf r) else if v.2.1 = 19 then .inner 0 1095 (xp_ T eo n v [] 0 none) (cf l) (cf r) else .inner 0 1091 (xp_ T eo n v (tkx T v.1) 0 none) (cf l) (cf r))
    else if k = 10 then .inner 0 (if v.2.1 = 21 then 1092 else if v.2.1 = 22 then 1093 else 1094) (xp_ T eo n v [] 0 none) (cf l) (cf r)
    else if k = 11 then .inner 0 1128 (xp_ T eo n v [] 0 (some (0, rlT (tlT l), 0, 0, 0, 0))) (cf l) (cf r)
    else if k = 12 then .inner 0 1090 (xp_ T eo n v [] 0 none) (cf l) (cf r)
    else if k = 20 then .inner 0 1121 (zp_ [] none) (altC v.2.1.toInt.toNat (cf l)) (cf r)
    else if k = 27 then .inner 0 1124 (yp_ T eo n (hdT l) (tkx T (hdT l)) none) (rotC (cf l)) (cf r)
    else if k = 35 then .inner 0 1119 (yp_ T eo n v.1 (tkx T v.1) none) .leaf (cf r)
    else if k = 41 then snC (cf l) (cf r)
    else if k = 42 then .inner 0 1123 (yp_ T eo n v.1 (tkx T v.1) none) .leaf (cf r)
    else if k = 50 then .inner 0 1085 (yp_ T eo n v.1 [] none) (kdC 1085 (cf l)) (cf r)
    else if k = 51 then .inner 0 1086 (yp_ T eo n v.1 [] none) (kdC 1086 (cf l)) (cf r)
    else if k = 52 then .inner 0 1087 (yp_ T eo n v.1 [] none) (kdC 1087 (cf l)) (cf r)
    else if k = 53 then (if kd_ l = 55 then snC (cf l) (cf r) else .inner 0 1088 (yp_ T eo n v.1 [] none) (cf l) (cf r))
    else if k = 54 then .inner 0 1129 (yp_ T eo n v.1 (tkx T v.1) (some (0, nmT T eo n l, 0, 0, bz_ (gvT l), 0))) (cf l) (cf r)
    else if k = 55 then .inner 0 1089 (zp_ [] (some (0, nmT T eo n l, 0, 0, 0, 0))) (cf l) (cf r)
    else if k = 56 then .inner 0 1085 (yp_ T eo n v.1 (tkx T v.1) none) (cf l) (cf r)
    else if k = 57 then cf r
    else if k = 58 then cf r
    else .inner 0 (kcQ k) (yp_ T eo n v.1 [] none) (cf l) (cf r)
end cfT
/-- items among nodes, in the text's order: a list for each of the row -/
def evL {α : Type} : List (List α) → List α
  | a :: _ :: r => a ++ evL r
  | _ => []
def odL {α : Type} : List (List α) → List α
  | _ :: b :: r => b ++ odL r
  | _ => []
def arL {α : Type} (k : Nat) (ls : List (List α)) : List α :=
  if k = 1121 then evL ls ++ odL ls
  else if k = 1124 then (match ls with
    | [a, b, c, d] => a ++ (b ++ (d ++ c))
    | _ => ls.flatten)
  else ls.flatten
def isIt (k : Nat) (u : List Int32) : Bool := decide (k = 1101) || decide (k = 1103) || decide (k = 1129) || (decide (k = 1087) && !u.isEmpty)
def itL : cr_ → List (List Nat)
  | .leaf => []
  | .inner i k v l r => ((if isIt k v.2.2.2.1 = true then [i] else []) ++ arL k (itL l)) :: itL r
def itm (c : cr_) : List Nat := (itL c).flatten
section itm
theorem itL_sn : ∀ (a b : cr_), itL (snC a b) = itL a ++ itL b
  | .leaf, _ => rfl
  | .inner i k v l r, b => by
    show _ :: itL (snC r b) = _
    rw [itL_sn r b]
    rfl
theorem er_sn : ∀ (a b : cr_), er (snC a b) = snC (er a) (er b)
  | .leaf, _ => rfl
  | .inner i k v l r, b => by
    show Std.DTreeMap.Internal.Impl.inner 0 k (erp k v) (er l) (er (snC r b)) = _
    rw [er_sn r b]
    rfl
theorem c_ite {α : Type} {c : Prop} [Decidable c] {a b a' b' : α} (h1 : c → a = a') (h2 : ¬ c → b = b') : (if c then a else b) = (if c then a' else b') := by
  by_cases h : c
  · rw [if_pos h, if_pos h, h1 h]
  · rw [if_neg h, if_neg h, h2 h]
theorem snC_ite {c : Prop} [Decidable c] {a b x : cr_} : snC (if c then a else b) x = if c then snC a x else snC b x := by
  by_cases h : c
  · rw [if_pos h, if_pos h]
  · rw [if_neg h, if_neg h]
theorem cf_sn (T : List tk_) (eo : Option Nat) (n : Nat) : ∀ (a b : tr_), cf T eo n (sn_ a b) = snC (cf T eo n a) (cf T eo n b)
  | .leaf, _ => rfl
  | .inner k i v l r, b => by
    have ih := cf_sn T eo n r b
    show cf T eo n (.inner k i v l (sn_ r b)) = snC (cf T eo n (.inner k i v l r)) (cf T eo n b)
    simp only [cf, ih, snC_ite]
    repeat' (first | refine c_ite (fun _ => ?_) (fun _ => ?_) | rfl | exact (snC_as _ _ _).symm)
end itm
