/-! ===== the library of the reference, proved ===== -/
section RRlib
variable {z s q : mm_S} {td : List tqT} {vs : List Int32} {fr : List (Int32 × Int32)} {r : Option rs_t}
theorem qf_a {f : Nat} (h1 : 107 ≤ f) (h2 : f ≤ 117) : ∀ i, qf_ f i := fun i => by unfold qf_; omega
theorem w_ob {d : Nat} {k : mm_S → mm_O} {b : Int32} {G : mm_S → Option rs_t} (h : RR z s (td, vs, fr, q)) (hk : ∀ s1 q1, RR z s1 (td, vs, fr, q1) → (∀ j, s1 118 j = s 118 j) → wq_ z (G q1) (k s1)) : wq_ z ((ob_ b q).bind G) (mm_bV (mE (d + 1) 109 [vr_ (some 0), vi_ b] s) k) := by
  have e117 := RR_qq h (f := 0) (i := 117) (by unfold qf_; omega)
  rw [me_outByte, e117, mm_a_q h (qf_a (by omega) (by omega))]
  unfold ob_
  cases hn : mm_a 2 116 (q 0 117) q with
  | none => exact w_none
  | some n =>
    rw [Option.bind_some, Option.bind_some, Option.bind_some]
    by_cases h4 : n = 4096
    · rw [if_pos h4, if_pos h4]
      exact hk s q h (fun _ => rfl)
    · rw [if_neg h4, if_neg h4, i8_i8]
      obtain ⟨n0, n1, n2⟩ := mm_a_ge hn
      obtain ⟨en, en2⟩ := clamp_nI _ n0
      unfold mm_w
      split
      · rename_i hin
        rw [Option.bind_some, Option.bind_some]
        have h1 := RR_q h (f := 115) (i := (4096 * q 0 117 + n).toNatClampNeg) b.toInt8.toInt32 (qf_a (by omega) (by omega) _)
        have ea : mm_a 2 116 (q 0 117) (mm_u s 115 (4096 * q 0 117 + n).toNatClampNeg b.toInt8.toInt32) = some n := by
          rw [mm_a_q h1 (qf_a (by omega) (by omega))]
          unfold mm_a at hn ⊢
          rw [mu_n (by omega)]
          exact hn
        rw [ea, Option.bind_some]
        have hin2 : mm_in (q 0 117) 2 = true := by
          unfold mm_a at hn
          split at hn
          · assumption
          · cases hn
        rw [if_pos hin2, if_pos hin2, Option.bind_some, Option.bind_some]
        exact hk _ _ (RR_q h1 (f := 116) (i := (q 0 117).toNatClampNeg) (n + 1) (qf_a (by omega) (by omega) _)) (fun j => by rw [mu_n (by omega), mu_n (by omega)])
      · exact w_none
theorem RR_118 (h : RR z s (td, vs, fr, q)) (i : Nat) (x : Int32) : RR z (mm_u s 118 i x) (td, vs, fr, q) := by
  obtain ⟨a, b, ⟨c1, c2, c3⟩, e, g, k⟩ := h
  refine ⟨fun f' i' hz => ?_, fun f' i' hq => ?_, ⟨(mu_n (by omega)).trans c1, (mu_n (by omega)).trans c2, (mu_n (by omega)).trans c3⟩, TD_fr (fun f j x y _ => mu_n (by omega)) e, VS_fr (fun j _ => mu_n (by omega)) g, FS_fr (fun f j x y _ => mu_n (by omega)) k⟩
  · have := zf_lt hz
    rw [mu_n (by omega)]
    exact a f' i' hz
  · rw [mu_n (by unfold qf_ at hq; omega)]
    exact b f' i' hq
theorem ld_10 (x : Nat) (h : x < 2 ^ 62) : pj_ldiv (lN x) 10 = some (lN (x / 10)) ∧ pj_lrem (lN x) 10 = some (lN (x % 10)) := by
  have t : ∀ y, y < 2 ^ 62 → (lN y).toInt = (y : Int) := fun y hy => lg_ofNat_toInt (by omega)
  have e : lN x / 10 = lN (x / 10) := by
    rw [← Int64.toInt_inj, Int64.toInt_div, t x h, t _ (by omega), show ((10 : Int64).toInt) = 10 from rfl]
    have h2 : ((x : Int).tdiv 10) = ((x / 10 : Nat) : Int) := rfl
    rw [h2]
    exact Int.bmod_eq_of_le (by omega) (by omega)
  unfold pj_ldiv pj_lrem
  rw [if_neg (by decide), if_neg (by decide), e]
  refine ⟨rfl, ?_⟩
  rw [show (10 : Int64) = lN 10 from rfl, lN_mul, lN_sub (by omega)]
  congr 2
  omega
theorem by_fig : ∀ x, x < 10 → (nI (48 + x)).toInt8.toInt32.toInt8.toInt32 = nI (48 + x) := by decide +kernel
theorem dN_le : ∀ f x, (dN_ f x).length ≤ f
  | 0, _ => Nat.le_refl _
  | f + 1, x => by
    unfold dN_
    split
    · simp only [List.length_cons]; have := dN_le f (x / 10); omega
    · simp
theorem r_dec_35 (d : Nat) {v w : Int32} : ∀ f x n (s : mm_S), RR z s (td, vs, fr, q) → x < 2 ^ 62 → x < 10 ^ f → 0 < f → n + f ≤ 12 →
    ∃ s' y, mJ (d + 1) 110 35 [vr_ (some 0), vi_ v, vi_ w, vl_ (lN x), vi_ (nI n), vi_ 1] [] s = mJ (d + 1) 110 35 [vr_ (some 0), vi_ v, vi_ w, vl_ y, vi_ (nI (n + (dN_ f x).length)), vi_ 0] [] s' ∧ RR z s' (td, vs, fr, q) ∧ (∀ j, j < n → s' 118 j = s 118 j) ∧ (∀ j a, (dN_ f x)[j]? = some a → s' 118 (n + j) = nI (48 + a)) := by
  intro f
  induction f with
  | zero => intro x n s _ _ _ h0; omega
  | succ f ih =>
    intro x n s h hx hxf _ hn
    obtain ⟨e1, e2⟩ := ld_10 x hx
    rw [mj_decimal_35, if_neg (by decide), e2, Option.bind_some, show (48 : Int64) = lN 48 from rfl, lN_add, lN_i, by_fig _ (by omega), mm_w_n (by omega) (by decide), Option.bind_some, e1, Option.bind_some, nI_1]
    have h1 := RR_118 h n (nI (48 + x % 10))
    have ec : (0 < lg_cmp (lN (x / 10)) 0) = (0 < x / 10) := by
      have e : lg_cmp (lN (x / 10)) (lN 0) = if lN 0 < lN (x / 10) then 1 else if lN (x / 10) = lN 0 then 0 else -1 := rfl
      show (0 < lg_cmp (lN (x / 10)) (lN 0)) = _
      have t : ∀ y, y < 2 ^ 62 → (lN y).toInt = (y : Int) := fun y hy => lg_ofNat_toInt (by omega)
      rw [e]
      by_cases hp : 0 < x / 10
      · have : lN 0 < lN (x / 10) := by rw [Int64.lt_iff_toInt_lt, t _ (by omega), t _ (by omega)]; omega
        rw [if_pos this]
        simp only [hp, eq_iff_iff, iff_true]
        decide
      · have h0 : x / 10 = 0 := by omega
        rw [h0]
        simp only [eq_iff_iff]
        decide
    simp only [ec]
    unfold dN_
    by_cases hp : 0 < x / 10
    · have hf : 0 < f := by
        rcases Nat.eq_zero_or_pos f with h0 | h0
        · subst h0; simp at hxf; omega
        · exact h0
      obtain ⟨s', y, g1, g2, g3, g4⟩ := ih (x / 10) (n + 1) _ h1 (by omega) (by rw [Nat.pow_succ] at hxf; omega) hf (by omega)
      rw [if_pos hp, if_pos hp, g1]
      refine ⟨s', y, by rw [List.length_cons, show n + ((dN_ f (x / 10)).length + 1) = n + 1 + (dN_ f (x / 10)).length by omega], g2, fun j hj => ?_, fun j a ha => ?_⟩
      · rw [g3 j (by omega), mu_n (by omega)]
      · cases j with
        | zero =>
          simp at ha
          subst ha
          rw [Nat.add_zero, g3 n (by omega), mu_s]
        | succ j =>
          rw [show n + (j + 1) = n + 1 + j by omega]
          exact g4 j a (by simpa using ha)
    · rw [if_neg hp, if_neg hp]
      refine ⟨_, _, rfl, h1, fun j hj => mu_n (by omega), fun j a ha => ?_⟩
      cases j with
      | zero =>
        simp at ha
        subst ha
        rw [Nat.add_zero, mu_s]
      | succ j => simp at ha
theorem w_136 (d : Nat) {G : mm_S → Option rs_t} {k : mm_S → mm_O} (hk : ∀ s1 q1, RR z s1 (td, vs, fr, q1) → wq_ z (G q1) (k s1)) : ∀ (l : List Int32) (s q : mm_S), RR z s (td, vs, fr, q) → l.length ≤ 12 → (∀ j a, l[j]? = some a → s 118 (l.length - 1 - j) = a) →
    wq_ z ((obs_ l q).bind G) (mm_bV (mJ (d + 1 + 1) 110 136 [vr_ (some 0), vi_ (nI l.length - 1)] [] s) k) := by
  intro l
  induction l with
  | nil =>
    intro s q h _ _
    rw [mj_decimal_136, if_pos (by decide)]
    exact hk s q h
  | cons a l ih =>
    intro s q h hl ha
    simp only [List.length_cons] at hl ha ⊢
    have h0 : s 118 l.length = a := by
      have := ha 0 a (by simp)
      simpa using this
    rw [show (nI (l.length + 1) - 1 : Int32) = nI l.length from nI_pred _, mj_decimal_136, if_neg (nI_pos (by omega)), mm_a_n (by omega) (by decide), Option.bind_some, h0]
    have e : ∀ (o : mm_O) (kk : mm_S → mm_O), mm_bV (mm_bV o kk) k = mm_bV o fun s => mm_bV (kk s) k := fun o kk => by
      unfold mm_bV
      cases o with
      | none => rfl
      | some x =>
        obtain ⟨a, b⟩ := x
        cases a <;> rfl
    rw [e]
    unfold obs_
    rw [Option.bind_assoc]
    refine w_ob h (fun s1 q1 h1 f1 => ?_)
    rw [show (nI l.length + -1 : Int32) = nI l.length - 1 by grind]
    refine ih s1 q1 h1 (by omega) (fun j a' hj => ?_)
    have hjl := (List.getElem?_eq_some_iff.mp hj).1
    rw [f1, ← ha (j + 1) a' (by simpa using hj)]
    congr 1
    omega
theorem bV_as (o : mm_O) (kk : mm_S → mm_O) (k : mm_S → mm_O) : mm_bV (mm_bV o kk) k = mm_bV o fun s => mm_bV (kk s) k := by
  unfold mm_bV
  cases o with
  | none => rfl
  | some x =>
    obtain ⟨a, b⟩ := x
    cases a <;> rfl
theorem obs_app : ∀ (a b : List Int32) (q : mm_S), obs_ (a ++ b) q = (obs_ a q).bind fun q => obs_ b q
  | [], b, q => rfl
  | x :: a, b, q => by
    rw [List.cons_append, obs_, obs_, Option.bind_assoc]
    congr 1
    funext q1
    exact obs_app a b q1
theorem w_102 (d : Nat) {v W : Int32} {w n : Nat} {G : mm_S → Option rs_t} {k : mm_S → mm_O} (hw : w ≤ 1000) (hW : ∀ j, j ≤ 1000 → ((nI j < W) = (j < w))) (hk : ∀ s1 q1, RR z s1 (td, vs, fr, q1) → (∀ j, s1 118 j = s 118 j) → wq_ z (G q1) (mm_bV (mJ (d + 1 + 1) 110 136 [vr_ (some 0), vi_ (nI n - 1)] [] s1) k)) :
    ∀ m j (s1 q1 : mm_S), RR z s1 (td, vs, fr, q1) → (∀ i, s1 118 i = s 118 i) → j + m = max j w → j ≤ 1000 → wq_ z ((obs_ (List.replicate m 32 ++ (if v < 0 then [45] else [])) q1).bind G) (mm_bV (mJ (d + 1 + 1) 110 102 [vr_ (some 0), vi_ v, vi_ W, vi_ (nI n), vi_ (nI j)] [] s1) k) := by
  intro m
  induction m with
  | zero =>
    intro j s1 q1 h hf hj hjb
    rw [mj_decimal_102, if_neg (c := nI j < W) (by rw [hW j hjb]; omega)]
    simp only [List.replicate_zero, List.nil_append]
    by_cases hv : v < 0
    · rw [if_pos hv, if_pos hv, bV_as]
      show wq_ z (((ob_ 45 q1).bind fun q => some q).bind G) _
      rw [Option.bind_assoc]
      exact w_ob h (fun s2 q2 h2 f2 => hk s2 q2 h2 (fun i => (f2 i).trans (hf i)))
    · rw [if_neg hv, if_neg hv]
      exact hk s1 q1 h hf
  | succ m ih =>
    intro j s1 q1 h hf hj hjb
    rw [mj_decimal_102, if_pos (c := nI j < W) (by rw [hW j hjb]; omega), bV_as, nI_1, List.replicate_succ, List.cons_append, obs_, Option.bind_assoc]
    exact w_ob h (fun s2 q2 h2 f2 => ih (j + 1) s2 q2 h2 (fun i => (f2 i).trans (hf i)) (by omega) (by omega))
theorem w_full {F : Bool → Option rs_t} {A B : mm_O} (h : RR z s (td, vs, fr, q)) (h1 : wq_ z (F true) A) (h0 : wq_ z (F false) B) : wq_ z ((fl_q q).bind F) ((mm_a 2 116 (s 0 117) s).bind fun v1 => if v1 = 4096 then A else B) := by
  have e117 := RR_qq h (f := 0) (i := 117) (by unfold qf_; omega)
  rw [e117, mm_a_q h (qf_a (by omega) (by omega))]
  unfold fl_q
  cases hn : mm_a 2 116 (q 0 117) q with
  | none => exact w_none
  | some n =>
    simp only [Option.bind_some]
    by_cases h4 : n = 4096
    · rw [if_pos h4]; simp only [h4, decide_true]; exact h1
    · rw [if_neg h4]; simp only [h4, decide_false]; exact h0
theorem w_dec (d : Nat) {v W : Int32} {G : mm_S → Option rs_t} {k : mm_S → mm_O} (hW : W.toNatClampNeg ≤ 100) (h : RR z s (td, vs, fr, q)) (hk : ∀ s1 q1, RR z s1 (td, vs, fr, q1) → wq_ z (G q1) (k s1)) : wq_ z ((de_ v W q).bind G) (mm_bV (mE (d + 1 + 1) 110 [vr_ (some 0), vi_ v, vi_ W] s) k) := by
  have hWj : ∀ j, j ≤ 1000 → ((nI j < W) = (j < W.toNatClampNeg)) := fun j hj => by
    by_cases hn : W < 0
    · rw [clamp_neg hn]
      simp only [Nat.not_lt_zero, eq_iff_iff, iff_false]
      exact fun hc => nI_pos (by omega) (Int32.lt_trans hc hn)
    · obtain ⟨e1, e2⟩ := clamp_nI W hn
      conv => lhs; rw [e1]
      rw [nlt_ (by omega) e2]
  have hb : ∀ (o : Option Int32) (A B : mm_O), mm_bV (o.bind fun v1 => if v1 = 4096 then A else B) k = o.bind fun v1 => if v1 = 4096 then mm_bV A k else mm_bV B k := fun o A B => by
    cases o with
    | none => rfl
    | some x =>
      show mm_bV (if x = 4096 then A else B) k = if x = 4096 then mm_bV A k else mm_bV B k
      split <;> rfl
  rw [me_decimal, hb]
  unfold de_
  rw [Option.bind_assoc]
  refine w_full h (hk s q h) ?_
  show wq_ z ((obs_ (dm_ v W) q).bind G) _
  -- the figures
  have hx : v.toInt.natAbs < 2 ^ 62 ∧ v.toInt.natAbs < 10 ^ 11 := by
    have h1 := Int32.toInt_lt v
    have h2 := Int32.le_toInt v
    omega
  have h35 : mm_bV (if v < 0 then mJ (d + 1 + 1) 110 35 [vr_ (some 0), vi_ v, vi_ W, vl_ (-v.toInt64), vi_ 0, vi_ 1] [] s else mJ (d + 1 + 1) 110 35 [vr_ (some 0), vi_ v, vi_ W, vl_ v.toInt64, vi_ 0, vi_ 1] [] s) k = mm_bV (mJ (d + 1 + 1) 110 35 [vr_ (some 0), vi_ v, vi_ W, vl_ (lN v.toInt.natAbs), vi_ (nI 0), vi_ 1] [] s) k := by
    have t : (lN v.toInt.natAbs).toInt = (v.toInt.natAbs : Int) := lg_ofNat_toInt (by omega)
    by_cases hv : v < 0
    · have hv2 : v.toInt < 0 := by
        have := Int32.lt_iff_toInt_lt.mp hv
        simpa using this
      have : -v.toInt64 = lN v.toInt.natAbs := by
        rw [← Int64.toInt_inj, Int64.toInt_neg, Int32.toInt_toInt64, t]
        have h1 := Int32.le_toInt v
        rw [Int.bmod_eq_of_le (by omega) (by omega)]
        omega
      rw [if_pos hv, this]
      rfl
    · have hv2 : ¬ v.toInt < 0 := fun hc => hv (Int32.lt_iff_toInt_lt.mpr (by simpa using hc))
      have : v.toInt64 = lN v.toInt.natAbs := by
        rw [← Int64.toInt_inj, Int32.toInt_toInt64, t]
        omega
      rw [if_neg hv, this]
      rfl
  rw [h35]
  obtain ⟨s', y, g1, g2, g3, g4⟩ := r_dec_35 (d + 1) (v := v) (w := W) 11 v.toInt.natAbs 0 s h hx.1 hx.2 (by decide) (by decide)
  rw [g1, Nat.zero_add, mj_decimal_35, if_pos rfl]
  have hlen := dN_le 11 v.toInt.natAbs
  have fin : ∀ j, j = (if v < 0 then (dN_ 11 v.toInt.natAbs).length + 1 else (dN_ 11 v.toInt.natAbs).length) → wq_ z ((obs_ (dm_ v W) q).bind G) (mm_bV (mJ (d + 1 + 1) 110 102 [vr_ (some 0), vi_ v, vi_ W, vi_ (nI (dN_ 11 v.toInt.natAbs).length), vi_ (nI j)] [] s') k) := fun j hj => by
    have hjl : j ≤ 12 := by rw [hj]; split <;> omega
    have e : dm_ v W = (List.replicate (W.toNatClampNeg - j) 32 ++ (if v < 0 then [45] else [])) ++ ((dN_ 11 v.toInt.natAbs).map fun x => nI (48 + x)).reverse := by
      unfold dm_
      simp only [List.length_map]
      rw [← hj]
    rw [e, obs_app, Option.bind_assoc]
    refine w_102 (s := s') d (w := W.toNatClampNeg) (by omega) hWj (fun s1 q1 h1 f1 => ?_) (W.toNatClampNeg - j) j s' q g2 (fun _ => rfl) (by omega) (by omega)
    have hl2 : ((dN_ 11 v.toInt.natAbs).map fun x => nI (48 + x)).reverse.length = (dN_ 11 v.toInt.natAbs).length := by simp
    rw [← hl2]
    refine w_136 d hk _ s1 q1 h1 (by rw [hl2]; omega) (fun i a hi => ?_)
    have hil := (List.getElem?_eq_some_iff.mp hi).1
    rw [hl2] at hil
    rw [List.getElem?_reverse (by simpa using hil), List.length_map, List.getElem?_map] at hi
    cases hd : (dN_ 11 v.toInt.natAbs)[(dN_ 11 v.toInt.natAbs).length - 1 - i]? with
    | none => rw [hd] at hi; cases hi
    | some x =>
      rw [hd] at hi
      cases hi
      have := g4 _ x hd
      rw [Nat.zero_add] at this
      rw [f1, hl2]
      exact this
  by_cases hv : v < 0
  · rw [if_pos hv, nI_1]
    exact fin _ (by rw [if_pos hv])
  · rw [if_neg hv]
    exact fin _ (by rw [if_neg hv])
theorem w_obs134 (d : Nat) {v : Int32} {G : mm_S → Option rs_t} (hk : ∀ s1 q1, RR z s1 (td, vs, fr, q1) → wq_ z (G q1) (mm_bV (mE (d + 1) 95 [vr_ (some 0), vi_ 0] s1) fun s => some (none, s))) : ∀ m (s q : mm_S), RR z s (td, vs, fr, q) → m ≤ 8 → wq_ z ((obs_ (hx_ v m) q).bind G) (mJ (d + 1 + 1) 121 134 [vr_ (some 0), vi_ v, vi_ 0, vi_ (nI m - 1)] [] s) := by
  intro m
  induction m with
  | zero =>
    intro s q h _
    rw [mj_libraryCall_134, if_pos (by decide)]
    exact hk s q h
  | succ m ih =>
    intro s q h hm
    rw [show (nI (m + 1) - 1 : Int32) = nI m from nI_pred _, mj_libraryCall_134, if_neg (nI_pos (by omega)), hx_, obs_, Option.bind_assoc, show (nI m + -1 : Int32) = nI m - 1 by grind]
    by_cases hc : ((v.toUInt32 >>> ((4 * nI m).toUInt32 &&& Int32.toUInt32 31)).toInt32 &&& 15) < 10
    · rw [if_pos hc, if_pos hc]
      exact w_ob h (fun s1 q1 h1 _ => ih s1 q1 h1 (by omega))
    · rw [if_neg hc, if_neg hc]
      exact w_ob h (fun s1 q1 h1 _ => ih s1 q1 h1 (by omega))
theorem and3_n (k : Nat) (h : k < 256) : nI k &&& 3 = nI (k % 4) := by
  have : ∀ k, k < 256 → nI k &&& 3 = nI (k % 4) := by decide +kernel
  exact this k h
theorem w_sb (d : Nat) {v : Int32} {n : Nat} (hn : n < 256) {G : mm_S → Option rs_t} {k : mm_S → mm_O} (hk : ∀ s1 q1, RR z s1 (td, vs, fr, q1) → wq_ z (G q1) (k s1)) : ∀ m j (s q : mm_S), RR z s (td, vs, fr, q) → j + m = n + 1 → wq_ z ((sb_ v m j q).bind G) (mm_bV (mJ (d + 1 + 1) 116 69 [vr_ (some 0), vi_ v, vi_ (nI n), vi_ (nI j)] [] s) k) := by
  intro m
  induction m with
  | zero =>
    intro j s q h hj
    rw [mj_writeString_69, if_pos (nI_lt (by omega) (by omega))]
    exact hk s q h
  | succ m ih =>
    intro j s q h hj
    rw [mj_writeString_69, if_neg (nI_nlt (by omega) (by omega)), show pj_div (nI j) 4 = some (nI (j / 4)) from pj_div_n j 4 (by omega) (by decide) (by decide), Option.bind_some, mm_a_q h zf98, sb_, and3_n j (by omega), nI_1]
    cases mm_a 65536 98 (v + nI (j / 4)) q with
    | none => exact w_none
    | some w =>
      rw [Option.bind_some, Option.bind_some, Option.bind_assoc, bV_as]
      exact w_ob h (fun s1 q1 h1 _ => ih (j + 1) s1 q1 h1 (by omega))
theorem w_nb (d : Nat) {F : Int32 × mm_S → Option rs_t} {k : Int32 → mm_S → mm_O} (h : RR z s (td, vs, fr, q)) (hk : ∀ v s1 q1, RR z s1 (td, vs, fr, q1) → q1 0 114 = q 0 114 → wq_ z (F (v, q1)) (k v s1)) : wq_ z ((nb_ q).bind F) (mm_bI (mE (d + 1) 111 [vr_ (some 0)] s) k) := by
  have e114 := RR_qq h (f := 0) (i := 114) (by unfold qf_; omega)
  rw [me_nextByte, e114, mm_a_q h (qf_a (by omega) (by omega)), mm_a_q h (qf_a (by omega) (by omega))]
  unfold nb_
  cases ha : mm_a 4 113 (q 0 114) q with
  | none => exact w_none
  | some a =>
    cases hn : mm_a 4 112 (q 0 114) q with
    | none => exact w_none
    | some n =>
      simp only [Option.bind_some]
      by_cases hc : a = n
      · rw [if_pos hc, if_pos hc]
        exact hk _ s q h rfl
      · rw [if_neg hc, if_neg hc]
        obtain ⟨a0, a1, a2⟩ := mm_a_ge ha
        have hin : mm_in (q 0 114) 4 = true := by
          unfold mm_a at ha
          split at ha
          · assumption
          · cases ha
        have e : ∀ t : mm_S, mm_w 4 113 (q 0 114) (a + 1) t = some (mm_u t 113 (q 0 114).toNatClampNeg (a + 1)) := fun t => by
          unfold mm_w
          rw [if_pos hin]
        have h1 := RR_q h (f := 113) (i := (q 0 114).toNatClampNeg) (a + 1) (qf_a (by omega) (by omega) _)
        rw [e, e, Option.bind_some, Option.bind_some]
        have e2 : mm_a 4 113 (q 0 114) (mm_u s 113 (q 0 114).toNatClampNeg (a + 1)) = some (a + 1) := by
          unfold mm_a
          rw [if_pos hin, mu_s]
        rw [e2, Option.bind_some, mm_a_q h1 (qf_a (by omega) (by omega))]
        cases mm_a 24000 109 (6000 * q 0 114 + (a + 1) - 1) (mm_u q 113 (q 0 114).toNatClampNeg (a + 1)) with
        | none => exact w_none
        | some c => exact hk _ _ _ h1 (mu_n (by omega))
theorem w_pk (d : Nat) {F : Int32 → Option rs_t} {k : Int32 → mm_S → mm_O} (h : RR z s (td, vs, fr, q)) (hk : ∀ v, wq_ z (F v) (k v s)) : wq_ z ((pk_ q).bind F) (mm_bI (mE (d + 1) 112 [vr_ (some 0)] s) k) := by
  have e114 := RR_qq h (f := 0) (i := 114) (by unfold qf_; omega)
  rw [me_peek, e114, mm_a_q h (qf_a (by omega) (by omega)), mm_a_q h (qf_a (by omega) (by omega))]
  unfold pk_
  cases ha : mm_a 4 113 (q 0 114) q with
  | none => exact w_none
  | some a =>
    cases hn : mm_a 4 112 (q 0 114) q with
    | none => exact w_none
    | some n =>
      simp only [Option.bind_some]
      by_cases hc : a = n
      · rw [if_pos hc, if_pos hc]
        exact hk _
      · rw [if_neg hc, if_neg hc, mm_a_q h (qf_a (by omega) (by omega))]
        cases mm_a 24000 109 (6000 * q 0 114 + a) q with
        | none => exact w_none
        | some c => exact hk _
theorem r_isBlank (d : Nat) (c : Int32) (s : mm_S) : mE (d + 1) 114 [vi_ c] s = some (some (vi_ (zb_ (bl_k c))), s) := by
  rw [me_isBlank]
  unfold bl_k
  by_cases h1 : c = 32
  · rw [if_pos h1]; simp [h1, zb_]
  rw [if_neg h1]
  by_cases h2 : c = 9
  · rw [if_pos h2]; simp [h2, zb_]
  rw [if_neg h2]
  by_cases h3 : c = 10
  · rw [if_pos h3]; simp [h3, zb_]
  rw [if_neg h3]
  by_cases h4 : c = 13
  · rw [if_pos h4]; simp [h4, zb_]
  rw [if_neg h4]
  simp [h1, h2, h3, h4, zb_]
theorem r_isDig (d : Nat) (c : Int32) (s : mm_S) : mE (d + 1) 6 [vi_ c] s = some (some (vi_ (zb_ (dg_k c))), s) := by
  rw [me_isDigit]
  unfold dg_k
  by_cases h1 : c < 48
  · rw [if_pos h1]; simp [h1, zb_]
  rw [if_neg h1]
  by_cases h2 : 57 < c
  · rw [if_pos h2]; simp [h2, zb_]
  rw [if_neg h2]
  simp [h1, h2, zb_]
theorem w_wx {n f : Nat} {x y : Int32} {F : mm_S → Option rs_t} {k : mm_S → mm_O} (h : RR z s (td, vs, fr, q)) (hf : ∀ i, qf_ f i) (hk : ∀ s1 q1, RR z s1 (td, vs, fr, q1) → (∀ f' j, f' ≠ f → q1 f' j = q f' j) → wq_ z (F q1) (k s1)) : wq_ z ((mm_w n f x y q).bind F) ((mm_w n f x y s).bind k) := by
  unfold mm_w
  split
  · exact hk _ _ (RR_q h _ (hf _)) (fun f' j h => mu_n (fun e => h e.1))
  · exact w_none
theorem bI_if {P : Prop} [Decidable P] {A B : mm_O} {k : Int32 → mm_S → mm_O} : mm_bI (if P then A else B) k = if P then mm_bI A k else mm_bI B k := by split <;> rfl
theorem bI_as (o : mm_O) (kk : Int32 → mm_S → mm_O) (k : Int32 → mm_S → mm_O) : mm_bI (mm_bI o kk) k = mm_bI o fun v s => mm_bI (kk v s) k := by
  unfold mm_bI
  cases o with
  | none => rfl
  | some x =>
    obtain ⟨a, b⟩ := x
    match a with
    | none => rfl
    | some (.inl _) => rfl
    | some (.inr _) => rfl
theorem bI_bd {α : Type} (o : Option α) (kk : α → mm_O) (k : Int32 → mm_S → mm_O) : mm_bI (o.bind kk) k = o.bind fun v => mm_bI (kk v) k := by
  cases o <;> rfl
theorem w_rN (d : Nat) {F : Int32 × mm_S → Option rs_t} {k : Int32 → mm_S → mm_O} (h : RR z s (td, vs, fr, q)) (hk : ∀ v s1 q1, RR z s1 (td, vs, fr, q1) → wq_ z (F (v, q1)) (k v s1)) : wq_ z ((rN_ q).bind F) (mm_bI (mE (d + 1 + 1) 113 [vr_ (some 0)] s) k) := by
  have e114 := RR_qq h (f := 0) (i := 114) (by unfold qf_; omega)
  unfold rN_
  rw [me_readNumber, bI_as, Option.bind_assoc, e114]
  refine w_pk d h (fun c0 => ?_)
  -- from 70 on
  have f70 : ∀ (c : Int32) (s2 q2 : mm_S), RR z s2 (td, vs, fr, q2) → q2 0 114 = q 0 114 → wq_ z (((pk_ q2).bind fun c2 => if dg_k c2 = false then some (0, q2) else (mm_a 4 113 (q 0 114) q2).bind fun a => (mm_a 24000 110 (6000 * q 0 114 + a) q2).bind fun e => (mm_w 4 113 (q 0 114) e q2).bind fun q3 => (mm_a 24000 111 (6000 * q 0 114 + a) q3).bind fun v => some (if c = 45 then -v else v, q3)).bind F) (mm_bI (mJ (d + 1 + 1) 113 70 [vr_ (some 0), vi_ (q 0 114), vi_ (if c = 45 then 1 else 0)] [] s2) k) := fun c s2 q2 h2 e2 => by
    rw [mj_readNumber_70, bI_as, Option.bind_assoc]
    refine w_pk d h2 (fun c2 => ?_)
    rw [r_isDig, bI_s, bI_if]
    simp only [zb_0]
    cases hd : dg_k c2 with
    | false =>
      rw [if_pos rfl, if_pos rfl]
      exact hk 0 s2 q2 h2
    | true =>
      rw [if_neg (by decide), if_neg (by decide), mm_a_q h2 (qf_a (by omega) (by omega))]
      cases mm_a 4 113 (q 0 114) q2 with
      | none => exact w_none
      | some a =>
        simp only [Option.bind_some]
        rw [mm_a_q h2 (qf_a (by omega) (by omega))]
        cases mm_a 24000 110 (6000 * q 0 114 + a) q2 with
        | none => exact w_none
        | some e =>
          simp only [Option.bind_some, Option.bind_assoc]
          rw [bI_bd]
          refine w_w h2 (qf_a (by omega) (by omega)) (fun s3 q3 h3 => ?_)
          rw [mm_a_q h3 (qf_a (by omega) (by omega))]
          cases mm_a 24000 111 (6000 * q 0 114 + a) q3 with
          | none =>
            simp only [Option.bind_none]
            exact w_none
          | some v =>
            simp only [Option.bind_some]
            by_cases hc : c = 45
            · simp only [hc, if_true, show ¬ ((1 : Int32) = 0) by decide, if_false]
              exact hk _ _ _ h3
            · simp only [hc, if_false, if_true]
              exact hk _ _ _ h3
  have f54 : ∀ (s1 q1 : mm_S), RR z s1 (td, vs, fr, q1) → q1 0 114 = q 0 114 → wq_ z (((pk_ q1).bind fun c => (if c = 45 ∨ c = 43 then (nb_ q1).bind fun w => some w.2 else some q1).bind fun q2 => (pk_ q2).bind fun c2 => if dg_k c2 = false then some (0, q2) else (mm_a 4 113 (q 0 114) q2).bind fun a => (mm_a 24000 110 (6000 * q 0 114 + a) q2).bind fun e => (mm_w 4 113 (q 0 114) e q2).bind fun q3 => (mm_a 24000 111 (6000 * q 0 114 + a) q3).bind fun v => some (if c = 45 then -v else v, q3)).bind F) (mm_bI (mm_bI (mE (d + 1) 112 [vr_ (some 0)] s1) fun v6 s5 => if v6 = 45 then mJ (d + 1 + 1) 113 54 [vr_ (some 0), vi_ (q 0 114), vi_ v6] [vi_ 1] s5 else mJ (d + 1 + 1) 113 54 [vr_ (some 0), vi_ (q 0 114), vi_ v6] [vi_ 0] s5) k) := fun s1 q1 h1 e1 => by
    rw [bI_as, Option.bind_assoc]
    refine w_pk d h1 (fun c => ?_)
    rw [bI_if, mj_readNumber_54, mj_readNumber_54, Option.bind_assoc]
    by_cases h45 : c = 45
    · rw [if_pos h45, if_neg (c := (1 : Int32) = 0) (by decide), if_pos (Or.inl h45), bI_as, Option.bind_assoc]
      refine w_nb d h1 (fun v s2 q2 h2 e2 => ?_)
      have := f70 c s2 q2 h2 (e2.trans e1)
      rw [if_pos h45] at this
      exact this
    · rw [if_neg h45, if_pos (c := (0 : Int32) = 0) rfl, bI_if]
      by_cases h43 : c = 43
      · rw [if_pos h43, if_pos (Or.inr h43), bI_as, Option.bind_assoc]
        refine w_nb d h1 (fun v s2 q2 h2 e2 => ?_)
        have := f70 c s2 q2 h2 (e2.trans e1)
        rw [if_neg h45] at this
        exact this
      · rw [if_neg h43, if_neg (fun e => e.elim h45 h43), Option.bind_some]
        have := f70 c s1 q1 h1 e1
        rw [if_neg h45] at this
        exact this
  rw [r_isBlank, bI_s, bI_if]
  simp only [zb_0]
  cases hb : bl_k c0 with
  | false =>
    rw [if_pos rfl, if_neg (by decide), Option.bind_some]
    exact f54 s q h rfl
  | true =>
    rw [if_pos rfl, if_neg (by decide), mm_a_q h (qf_a (by omega) (by omega))]
    cases mm_a 4 113 (q 0 114) q with
    | none => exact w_none
    | some a =>
      simp only [Option.bind_some]
      rw [mm_a_q h (qf_a (by omega) (by omega))]
      cases mm_a 24000 110 (6000 * q 0 114 + a) q with
      | none => exact w_none
      | some e =>
        simp only [Option.bind_some]
        rw [bI_bd, Option.bind_assoc]
        refine w_wx h (qf_a (by omega) (by omega)) (fun s1 q1 h1 fq => ?_)
        exact f54 s1 q1 h1 (fq _ _ (by decide))
end RRlib
