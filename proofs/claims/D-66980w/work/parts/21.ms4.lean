/-! ===== a block of the pure machine, a jump, a call: the machine's own ===== -/
theorem mm_01_f {x : Int32} (h : mm_01 x = true) : fits .boolean (.int x) = true := by
  unfold mm_01 at h
  simp only [Bool.or_eq_true, decide_eq_true_eq] at h
  rcases h with rfl | rfl <;> rfl
theorem mm_okn {cc : ByteArray} {nL pc : Nat} {i : Instr} {nx : Nat} {im : Int32} (h : pj_isN i = true) (ok : mm_ok cc nL pc i nx im) : pj_okn RX8 cc nL mt_lc pc i nx im := by
  cases i <;> first | exact ok | (cases h; done)
theorem mm_al_of {f : Nat} (h : mm_mok f) : mm_al (mby_ f) (mt_nL f) (mt_code f) := by
  obtain ⟨-, -, h2, -⟩ := h
  simp only [Bool.and_eq_true] at h2
  exact mm_ca_ok (mt_code f) 0 (pj_h0_ok h2.1) h2.2
section msB
variable {p : Program} {l : Launch} {e : Env} {s0 : State} {m : MethodId} {args : Array Value} {below : List Frame} {meth : Method} {c : Code} {D : va_G} {c3 : Nat → ClassId} {ad : Nat → Nat} {d f : Nat}
def mm_WJ (p : Program) (l : Launch) (e : Env) (s0 : State) (m : MethodId) (args : Array Value) (below : List Frame) (meth : Method) (c : Code) (D : va_G) (c3 : Nat → ClassId) (ad : Nat → Nat) (d f : Nat) (jm : Nat → List pj_V → List pj_V → mm_S → mm_O) : Prop :=
  ∀ (pc : Nat) (vs st : List pj_V) (s : mm_S) (q : Option pj_V × mm_S), jm pc vs st s = some q → ∀ (i : Instr) (nx : Nat) (im : Int32) (lv : List Nat) (rows : List pj_E), pj_at (mt_code f) pc = (pc, i, nx, im, some lv) :: rows → ∀ (la : Array Slot) (H : Heap) (locs : List Loc), pj_L ad (mt_nL f) (pj_mk (mt_nL f) lv vs) la → mm_St D c3 ad s0 s H locs →
    W p l e (mm_rm (d + 1)) s0 m args below meth c H locs 0 0 (MQ below (mm_Qc D c3 ad s0.heap.size q.1 q.2) args s0 0 0 (mm_A ad s0.heap.size)) (F0 m pc la (st.map (pj_v ad)))
set_option maxHeartbeats 4000000 in
theorem mm_B_W {ca : Nat → List pj_V → mm_S → mm_O} {jm : Nat → List pj_V → List pj_V → mm_S → mm_O} (X : mm_Fx p s0 m args meth c D c3 f) (hc : ∀ k as s q, ca k as s = some q → mm_mok k → mm_Cal l D c3 ad d k as s q.1 q.2) (hj : mm_WJ p l e s0 m args below meth c D c3 ad d f jm) :
    ∀ (k : Nat) (rows : List pj_E) (ls : pj_Ls) (st : List pj_V) (s : mm_S) (q : Option pj_V × mm_S), (∃ pre, mt_code f = pre ++ rows) → mm_B mt_lc mt_ln mt_ty mt_sg mt_st (mt_sg f).2 (mt_code f) ca jm k rows ls st s = some q → ∀ (pc : Nat), pj_hd rows pc → ∀ (la : Array Slot) (H : Heap) (locs : List Loc), pj_L ad (mt_nL f) ls la → mm_St D c3 ad s0 s H locs →
    W p l e (mm_rm (d + 1)) s0 m args below meth c H locs 0 0 (MQ below (mm_Qc D c3 ad s0.heap.size q.1 q.2) args s0 0 0 (mm_A ad s0.heap.size)) (F0 m pc la (st.map (pj_v ad))) := by
  have hal := mm_al_of X.2.2.2.2.2.2.2.2
  have hret := X.2.2.2.2.2.2.2.2.2.2.2.2.1
  intro k
  induction k with
  | zero => intro rows ls st s q _ h; cases h
  | succ k ih =>
    intro rows ls st s q hsf h pc hpc la H locs hL S
    match rows, hsf, h, hpc with
    | [], _, h, _ => cases h
    | (pc', i, nx, im, ct) :: rr, hsf, h, hpc =>
      have e1 : pc' = pc := hpc _ _ rfl
      subst e1
      obtain ⟨pre, hpre⟩ := hsf
      have hal' := mm_al_app pre _ (by rw [← hpre]; exact hal)
      obtain ⟨ok, -, hhd, -⟩ := hal'
      have hnx : ∀ (r2 : List pj_E) (ls2 : pj_Ls) (st2 : List pj_V) (s2 : mm_S), (∃ pre, mt_code f = pre ++ r2) → mm_nx (mm_B mt_lc mt_ln mt_ty mt_sg mt_st (mt_sg f).2 (mt_code f) ca jm k) jm r2 ls2 st2 s2 = some q → ∀ (pc2 : Nat), pj_hd r2 pc2 → ∀ (la2 : Array Slot) (H2 : Heap) (locs2 : List Loc), pj_L ad (mt_nL f) ls2 la2 → mm_St D c3 ad s0 s2 H2 locs2 →
          W p l e (mm_rm (d + 1)) s0 m args below meth c H2 locs2 0 0 (MQ below (mm_Qc D c3 ad s0.heap.size q.1 q.2) args s0 0 0 (mm_A ad s0.heap.size)) (F0 m pc2 la2 (st2.map (pj_v ad))) := by
        intro r2 ls2 st2 s2 hsf2 h2 pc2 hp2 la2 H2 locs2 hL2 S2
        unfold mm_nx at h2
        split at h2
        · cases h2
        · rename_i q2 i2 n2 m2 lv2 r3
          have e2 : q2 = pc2 := hp2 _ _ rfl
          subst e2
          cases hpk : pj_pk ls2 lv2 with
          | none => rw [hpk] at h2; cases h2
          | some vs =>
            rw [hpk] at h2
            obtain ⟨pre2, hpre2⟩ := hsf2
            have h9 := mm_at_sfx (cc := mby_ f) (nL := mt_nL f) pre2 (q2, i2, n2, m2, some lv2) r3 (by rw [← hpre2]; exact hal)
            rw [← hpre2] at h9
            exact hj _ _ _ _ _ h2 _ _ _ _ _ h9 la2 H2 locs2 (hL2.pick hpk) S2
        · exact ih _ _ _ _ _ hsf2 h2 pc2 hp2 la2 H2 locs2 hL2 S2
      have hrr : ∃ pre, mt_code f = pre ++ rr := ⟨pre ++ [(pc', i, nx, im, ct)], by rw [hpre]; simp⟩
      have hgo : ∀ t : Int, 0 ≤ t → ∀ off : Int, (pc' : Int) + off = t → (pc' : Int) + off = ((t.toNat : Nat) : Int) := fun t h0 off ho => by omega
      obtain ⟨hx, hb, -⟩ := id X
      have hown := X.2.2.2.2.2.1
      have hts := X.2.2.2.2.2.2.1
      replace h : mm_X mt_lc mt_ln mt_ty mt_sg mt_st (mt_sg f).2 (mt_code f) (mm_nx (mm_B mt_lc mt_ln mt_ty mt_sg mt_st (mt_sg f).2 (mt_code f) ca jm k) jm) ca i im rr ls st s = some q := h
      unfold mm_X at h
      cases hN : pj_isN i with
      | true =>
        simp only [hN] at h
        cases hp : pj_n mt_lc i im ls st with
        | none => simp only [hp] at h; cases h
        | some z =>
          simp only [hp] at h
          exact pj_n_W hx hb hown hts (mm_okn hN ok) hp hL (fun la' hL' => hnx rr _ _ _ hrr h _ hhd _ _ _ hL' S)
      | false =>
        simp only [hN] at h
        split at h
        · -- getfield
          obtain ⟨j, hd, hm, rfl⟩ := ok
          refine mm_getW X S hd hm ?_
          split at h
          · rename_i h0
            unfold mm_fv
            rw [if_pos h0]
            exact hnx rr _ _ _ hrr h _ hhd _ _ _ hL S
          · rename_i h0
            unfold mm_fv
            rw [if_neg (by rw [h0]; omega)]
            exact hnx rr _ _ _ hrr h _ hhd _ _ _ hL S
        · -- putfield
          obtain ⟨j, hd, hm, hfin, rfl⟩ := ok
          have hk := (mf_fi_ok _ hm).1
          split at h
          · rename_i h0
            have ht := mm_ty_ok _ hk h0
            split at h
            · rename_i h1
              rw [if_pos h1] at ht
              exact mm_putW X S hd hm hfin h0 ht rfl rfl (fun H1 locs1 S1 => hnx rr _ _ _ hrr h _ hhd _ _ _ hL S1)
            · rename_i h1
              rw [if_neg (by rw [h1]; omega)] at ht
              unfold mm_bz at h
              split at h
              · rename_i hz
                exact mm_putW X S hd hm hfin h0 ht (mm_01_n hz) (mm_01_f hz) (fun H1 locs1 S1 => hnx rr _ _ _ hrr h _ hhd _ _ _ hL S1)
              · cases h
          · cases h
        · -- iaload
          obtain ⟨hd, rfl⟩ := ok
          split at h
          · rename_i ht
            unfold mm_a at h
            split at h
            · rename_i hin
              exact mm_ialW X S hd ht hin (hnx rr _ _ _ hrr h _ hhd _ _ _ hL S)
            · cases h
          · cases h
        · -- baload
          obtain ⟨hd, rfl⟩ := ok
          split at h
          · cases h
          · rename_i ht
            unfold mm_a at h
            split at h
            · rename_i hin
              exact mm_balW X S hd (by rw [ht]; omega) hin (hnx rr _ _ _ hrr h _ hhd _ _ _ hL S)
            · cases h
        · -- iastore
          obtain ⟨hd, rfl⟩ := ok
          split at h
          · rename_i ht
            unfold mm_w at h
            split at h
            · rename_i hin
              exact mm_iasW X S hd ht hin (fun H1 locs1 S1 => hnx rr _ _ _ hrr h _ hhd _ _ _ hL S1)
            · cases h
          · cases h
        · -- bastore
          obtain ⟨hd, rfl⟩ := ok
          split at h
          · cases h
          · rename_i ht
            unfold mm_w at h
            split at h
            · rename_i hin
              exact mm_basW X S hd ht hin (fun H1 locs1 S1 => hnx rr _ _ _ hrr h _ hhd _ _ _ hL S1)
            · cases h
          · rename_i n ht
            have h2 := mt_ty_le
            unfold mm_w at h
            split at h
            · rename_i hin
              exact mm_zasW X S hd (Nat.le_antisymm (mt_ty_le _) (by rw [ht]; omega)) hin (fun H1 locs1 S1 => hnx rr _ _ _ hrr h _ hhd _ _ _ hL S1)
            · cases h
        · -- arraylength
          obtain ⟨hd, rfl⟩ := ok
          split at h
          · cases h
          · rename_i h0
            refine mm_alnW X S hd (by rw [h0]; omega) ?_
            rw [h0]
            exact hnx rr _ _ _ hrr h _ hhd _ _ _ hL S
        · -- idiv
          obtain ⟨hd, rfl⟩ := ok
          unfold pj_div at h
          split at h
          · cases h
          · rename_i h0
            exact lv_idiv hx hb hd h0 (hnx rr _ _ _ hrr h _ hhd _ _ _ hL S)
        · obtain ⟨hd, rfl⟩ := ok
          unfold pj_rem at h
          split at h
          · cases h
          · rename_i h0
            exact lv_irem hx hb hd h0 (hnx rr _ _ _ hrr h _ hhd _ _ _ hL S)
        · obtain ⟨hd, rfl⟩ := ok
          unfold pj_ldiv at h
          split at h
          · cases h
          · rename_i h0
            exact lv_ldiv hx hb hd h0 (hnx rr _ _ _ hrr h _ hhd _ _ _ hL S)
        · obtain ⟨hd, rfl⟩ := ok
          unfold pj_lrem at h
          split at h
          · cases h
          · rename_i h0
            exact lv_lrem hx hb hd h0 (hnx rr _ _ _ hrr h _ hhd _ _ _ hL S)
        · -- goto
          obtain ⟨o, hd, ho, h0⟩ := ok
          exact lv_goto hx hb hd (hgo _ h0 _ ho) (hnx _ _ _ _ (pj_at_sfx _ _) h _ (pj_at_hd _ _) _ _ _ hL S)
        · -- if_icmp
          rename_i cnd t y x st' hold
          obtain ⟨o, hd, ho, h0, rfl⟩ := ok
          have ho' := hgo _ h0 _ ho
          have kt := fun h => hnx _ ls st' s (pj_at_sfx (mt_code f) t.toNat) h _ (pj_at_hd _ _) la H locs hL S
          have kf := fun h => hnx rr ls st' s hrr h _ hhd la H locs hL S
          cases cnd <;> unfold pj_br at h <;> dsimp only at h
          · exact lv_icmp_eq hx hb hd ho' (fun z => kt (by rw [if_pos z] at h; exact h)) (fun z => kf (by rw [if_neg z] at h; exact h))
          · exact lv_icmp_ne hx hb hd ho' (fun z => kt (by rw [if_neg z] at h; exact h)) (fun z => kf (by rw [if_pos (z)] at h; exact h))
          · exact lv_icmp_lt hx hb hd ho' (fun z => kt (by rw [if_pos z] at h; exact h)) (fun z => kf (by rw [if_neg z] at h; exact h))
          · exact lv_icmp_ge hx hb hd ho' (fun z => kt (by rw [if_neg (Int32.not_lt.mpr z)] at h; exact h)) (fun z => kf (by rw [if_pos (Int32.not_le.mp z)] at h; exact h))
          · exact lv_icmp_gt hx hb hd ho' (fun z => kt (by rw [if_pos z] at h; exact h)) (fun z => kf (by rw [if_neg z] at h; exact h))
          · exact lv_icmp_le hx hb hd ho' (fun z => kt (by rw [if_neg (Int32.not_lt.mpr z)] at h; exact h)) (fun z => kf (by rw [if_pos (Int32.not_le.mp z)] at h; exact h))
        · -- ifCond
          rename_i cnd t x st' hold
          obtain ⟨o, hd, ho, h0, rfl⟩ := ok
          have ho' := hgo _ h0 _ ho
          have kt := fun h => hnx _ ls st' s (pj_at_sfx (mt_code f) t.toNat) h _ (pj_at_hd _ _) la H locs hL S
          have kf := fun h => hnx rr ls st' s hrr h _ hhd la H locs hL S
          cases cnd <;> unfold pj_br at h <;> dsimp only at h
          · exact lv_if_eq hx hb hd ho' (fun z => kt (by rw [if_pos z] at h; exact h)) (fun z => kf (by rw [if_neg z] at h; exact h))
          · exact lv_if_ne hx hb hd ho' (fun z => kt (by rw [if_neg z] at h; exact h)) (fun z => kf (by rw [if_pos (z)] at h; exact h))
          · exact lv_if_lt hx hb hd ho' (fun z => kt (by rw [if_pos z] at h; exact h)) (fun z => kf (by rw [if_neg z] at h; exact h))
          · exact lv_if_ge hx hb hd ho' (fun z => kt (by rw [if_neg (Int32.not_lt.mpr z)] at h; exact h)) (fun z => kf (by rw [if_pos (Int32.not_le.mp z)] at h; exact h))
          · exact lv_if_gt hx hb hd ho' (fun z => kt (by rw [if_pos z] at h; exact h)) (fun z => kf (by rw [if_neg z] at h; exact h))
          · exact lv_if_le hx hb hd ho' (fun z => kt (by rw [if_neg (Int32.not_lt.mpr z)] at h; exact h)) (fun z => kf (by rw [if_pos (Int32.not_le.mp z)] at h; exact h))
        · -- call
          rename_i k2
          obtain ⟨j, hd, hm, rfl⟩ := ok
          have hmo := (mf_mi_ok _ hm).2
          split at h
          · cases h
          · rename_i hg
            split at h
            · unfold mm_bV at h
              split at h
              · rename_i s1 hca
                have hrun := mm_run (e := e) (below := below) X S hL hd hm rfl hg (hc _ _ _ _ hca hmo)
                exact va_callv (a := #[]) hrun S.2.2 (fun z _ hz => mm_A_in S.2.2.1 z hz) (fun z hz => mm_A_in S.2.2.1 z hz) (fun u t H1 locs1 ht hvm hp hB _ _ hS => by
                  subst hp
                  exact hnx rr _ _ _ hrr h _ hhd _ _ _ hL (mm_St_after ht hB hS))
              · cases h
            · unfold mm_bI at h
              split at h
              · rename_i v1 s1 hca
                have hrun := mm_run (e := e) (below := below) X S hL hd hm rfl hg (hc _ _ _ _ hca hmo)
                exact va_calli (a := #[]) hrun S.2.2 (fun z _ hz => mm_A_in S.2.2.1 z hz) (fun z hz => mm_A_in S.2.2.1 z hz) (fun r u t H1 locs1 ht hvm hp hB _ _ hS => by
                  obtain ⟨rfl, rfl⟩ := hp
                  exact hnx rr _ _ _ hrr h _ hhd _ _ _ hL (mm_St_after ht hB hS))
              · cases h
        · -- ireturn
          obtain ⟨hd, rfl⟩ := ok
          split at h
          · rename_i hrt
            cases h
            rw [hrt] at hret
            exact mm_iretW X S hret rfl hd
          · rename_i hrt
            cases h
            rw [hrt] at hret
            exact mm_iretW X S hret rfl hd
          · cases h
        · -- return
          obtain ⟨hd, rfl⟩ := ok
          split at h
          · rename_i hrt
            cases h
            rw [hrt] at hret
            exact mm_vretW X S hret hd
          · cases h
        · cases h
end msB
