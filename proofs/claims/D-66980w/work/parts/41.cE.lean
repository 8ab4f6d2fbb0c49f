/-! ===== calls and jumps over any memory, without fuel ===== -/
section cxE
variable {σ : Type}
abbrev cx_K (σ : Type) : Type := Nat × Nat × Nat × List pj_V × List pj_V × σ
variable (gi : Nat → Option Nat → σ → Option Int32) (gr : Nat → Option Nat → σ → Option (Option Nat)) (pi : Nat → Option Nat → Int32 → σ → Option σ) (pr : Nat → Option Nat → Option Nat → σ → Option σ) (ai : Nat → Option Nat → Int32 → σ → Option Int32) (ar : Option Nat → Int32 → σ → Option (Option Nat)) (wi : Nat → Option Nat → Int32 → Int32 → σ → Option σ) (wr : Option Nat → Int32 → Option Nat → σ → Option σ) (an : Option Nat → σ → Option Int32) (nw : Nat → σ → Nat × σ) (na : Nat → Int32 → σ → Option (Nat × σ)) (io : Nat → Option Nat → σ → Option Bool) (dp : Nat → Option Nat → σ → Option Nat) (pm : Nat → List pj_V → σ → Option (cx_O σ))
def cx_G0 (R : cx_K σ → cx_O σ) (d m : Nat) (as : List pj_V) (s : σ) : cx_O σ := match pm m as s with
  | some o => o
  | none => match Nat.ble (pj_sl as).length (ct_nL m) with
    | true => cx_B ct_lc gi gr pi pr ai ar wi wr an nw na io dp ct_ft ct_sg (ct_sg m).2 (ct_ht m) (ct_code m) (fun k as s => R (d, k, 0, as, [], s)) (fun pc vs st s => R (d + 1, m, pc + 1, vs, st, s)) 1000 (ct_code m) (pj_en (ct_nL m) as) [] s
    | false => none
def cx_G (R : cx_K σ → cx_O σ) (d m t : Nat) (vs st : List pj_V) (s : σ) : cx_O σ := match pj_at (ct_code m) t with
  | (q, i, n, im, some lv) :: r => cx_B ct_lc gi gr pi pr ai ar wi wr an nw na io dp ct_ft ct_sg (ct_sg m).2 (ct_ht m) (ct_code m) (fun k as s => R (d, k, 0, as, [], s)) (fun pc vs st s => R (d + 1, m, pc + 1, vs, st, s)) 1000 ((q, i, n, im, some lv) :: r) (pj_mk (ct_nL m) lv vs) st s
  | _ => none
def cx_F (R : cx_K σ → cx_O σ) : cx_K σ → cx_O σ
  | (0, _) => none
  | (d + 1, m, 0, as, _, s) => cx_G0 gi gr pi pr ai ar wi wr an nw na io dp pm R d m as s
  | (d + 1, m, t + 1, vs, st, s) => cx_G gi gr pi pr ai ar wi wr an nw na io dp R d m t vs st s
theorem cx_F_mono : pj_mono (cx_F gi gr pi pr ai ar wi wr an nw na io dp pm) := by
  intro f g h x r q
  match x, q with
  | (0, _), q => cases q
  | (d + 1, m, 0, as, _, s), q =>
    have q : cx_G0 gi gr pi pr ai ar wi wr an nw na io dp pm f d m as s = some r := q
    show cx_G0 gi gr pi pr ai ar wi wr an nw na io dp pm g d m as s = some r
    unfold cx_G0 at q ⊢
    split at q
    · exact q
    · split at q
      · exact cx_B_up (fun _ _ _ _ q => h _ _ q) (fun _ _ _ _ _ q => h _ _ q) _ _ _ _ _ _ q
      · cases q
  | (d + 1, m, t + 1, vs, st, s), q =>
    have q : cx_G gi gr pi pr ai ar wi wr an nw na io dp f d m t vs st s = some r := q
    show cx_G gi gr pi pr ai ar wi wr an nw na io dp g d m t vs st s = some r
    unfold cx_G at q ⊢
    split at q
    · exact cx_B_up (fun _ _ _ _ q => h _ _ q) (fun _ _ _ _ _ q => h _ _ q) _ _ _ _ _ _ q
    · cases q
theorem cx_F_cpt : pj_cpt (cx_F gi gr pi pr ai ar wi wr an nw na io dp pm) := by
  intro f g up h x r q
  match x, q with
  | (0, _), q => cases q
  | (d + 1, m, 0, as, _, s), q =>
    have q : cx_G0 gi gr pi pr ai ar wi wr an nw na io dp pm g d m as s = some r := q
    show ∃ n, cx_G0 gi gr pi pr ai ar wi wr an nw na io dp pm (f n) d m as s = some r
    unfold cx_G0 at q ⊢
    split at q
    · exact ⟨0, q⟩
    · split at q
      · exact cx_B_cp (cF := fun n k as s => f n (d, k, 0, as, [], s)) (jF := fun n pc vs st s => f n (d + 1, m, pc + 1, vs, st, s)) (fun _ _ _ _ q => h _ _ q) (fun _ _ _ _ _ q => h _ _ q) (fun a b hab _ _ _ _ q => pj_up_le up hab _ _ q) (fun a b hab _ _ _ _ _ q => pj_up_le up hab _ _ q) _ _ _ _ _ _ q
      · cases q
  | (d + 1, m, t + 1, vs, st, s), q =>
    have q : cx_G gi gr pi pr ai ar wi wr an nw na io dp g d m t vs st s = some r := q
    show ∃ n, cx_G gi gr pi pr ai ar wi wr an nw na io dp (f n) d m t vs st s = some r
    unfold cx_G at q ⊢
    split at q
    · exact cx_B_cp (cF := fun n k as s => f n (d, k, 0, as, [], s)) (jF := fun n pc vs st s => f n (d + 1, m, pc + 1, vs, st, s)) (fun _ _ _ _ q => h _ _ q) (fun _ _ _ _ _ q => h _ _ q) (fun a b hab _ _ _ _ q => pj_up_le up hab _ _ q) (fun a b hab _ _ _ _ _ q => pj_up_le up hab _ _ q) _ _ _ _ _ _ q
    · cases q
noncomputable def cxE (d m : Nat) (as : List pj_V) (s : σ) : cx_O σ := pj_lfp (cx_F gi gr pi pr ai ar wi wr an nw na io dp pm) (d, m, 0, as, [], s)
noncomputable def cxJ (d m pc : Nat) (vs st : List pj_V) (s : σ) : cx_O σ := pj_lfp (cx_F gi gr pi pr ai ar wi wr an nw na io dp pm) (d, m, pc + 1, vs, st, s)
theorem cxE_eq (d m : Nat) (as : List pj_V) (s : σ) (hp : pm m as s = none) (hf : Nat.ble (pj_sl as).length (ct_nL m) = true) : cxE gi gr pi pr ai ar wi wr an nw na io dp pm (d + 1) m as s = cx_B ct_lc gi gr pi pr ai ar wi wr an nw na io dp ct_ft ct_sg (ct_sg m).2 (ct_ht m) (ct_code m) (cxE gi gr pi pr ai ar wi wr an nw na io dp pm d) (cxJ gi gr pi pr ai ar wi wr an nw na io dp pm (d + 1) m) 1000 (ct_code m) (pj_en (ct_nL m) as) [] s := by
  refine (pj_lfp_eq (cx_F_mono gi gr pi pr ai ar wi wr an nw na io dp pm) (cx_F_cpt gi gr pi pr ai ar wi wr an nw na io dp pm) _).trans ?_
  show cx_G0 gi gr pi pr ai ar wi wr an nw na io dp pm _ d m as s = _
  unfold cx_G0
  rw [hp]
  dsimp only
  rw [hf]
  rfl
theorem cxE_pm (d m : Nat) (as : List pj_V) (s : σ) {o : cx_O σ} (hp : pm m as s = some o) : cxE gi gr pi pr ai ar wi wr an nw na io dp pm (d + 1) m as s = o := by
  refine (pj_lfp_eq (cx_F_mono gi gr pi pr ai ar wi wr an nw na io dp pm) (cx_F_cpt gi gr pi pr ai ar wi wr an nw na io dp pm) _).trans ?_
  show cx_G0 gi gr pi pr ai ar wi wr an nw na io dp pm _ d m as s = _
  unfold cx_G0
  rw [hp]
theorem cxJ_eq {m pc : Nat} {q : Nat} {i : Instr} {n : Nat} {im : Int32} {lv : List Nat} {r : List pj_E} (hr : pj_at (ct_code m) pc = (q, i, n, im, some lv) :: r) (d : Nat) (vs st : List pj_V) (s : σ) : cxJ gi gr pi pr ai ar wi wr an nw na io dp pm (d + 1) m pc vs st s = cx_B ct_lc gi gr pi pr ai ar wi wr an nw na io dp ct_ft ct_sg (ct_sg m).2 (ct_ht m) (ct_code m) (cxE gi gr pi pr ai ar wi wr an nw na io dp pm d) (cxJ gi gr pi pr ai ar wi wr an nw na io dp pm (d + 1) m) 1000 (pj_at (ct_code m) pc) (pj_mk (ct_nL m) lv vs) st s := by
  refine (pj_lfp_eq (cx_F_mono gi gr pi pr ai ar wi wr an nw na io dp pm) (cx_F_cpt gi gr pi pr ai ar wi wr an nw na io dp pm) _).trans ?_
  show cx_G gi gr pi pr ai ar wi wr an nw na io dp _ d m pc vs st s = _
  unfold cx_G
  rw [hr]
  rfl
end cxE
/-- a call of the component's method m, over the abstract memory -/
noncomputable def aE (d m : Nat) (as : List pj_V) (s : as_) : cx_O as_ := cxE a_gi a_gr a_pi a_pr a_ai a_ar a_wi a_wr a_an a_nw a_na a_io a_dp a_pm d m as s
noncomputable def aJ (d m pc : Nat) (vs st : List pj_V) (s : as_) : cx_O as_ := cxJ a_gi a_gr a_pi a_pr a_ai a_ar a_wi a_wr a_an a_nw a_na a_io a_dp a_pm d m pc vs st s
theorem aE_eq (d m : Nat) (as : List pj_V) (s : as_) (hp : a_pm m as s = none) (hf : Nat.ble (pj_sl as).length (ct_nL m) = true) : aE (d + 1) m as s = cx_B ct_lc a_gi a_gr a_pi a_pr a_ai a_ar a_wi a_wr a_an a_nw a_na a_io a_dp ct_ft ct_sg (ct_sg m).2 (ct_ht m) (ct_code m) (aE d) (aJ (d + 1) m) 1000 (ct_code m) (pj_en (ct_nL m) as) [] s := cxE_eq _ _ _ _ _ _ _ _ _ _ _ _ _ _ d m as s hp hf
theorem aE_pm (d m : Nat) (as : List pj_V) (s : as_) {o : cx_O as_} (hp : a_pm m as s = some o) : aE (d + 1) m as s = o := cxE_pm _ _ _ _ _ _ _ _ _ _ _ _ _ _ d m as s hp
theorem aJ_eq {m pc : Nat} {q : Nat} {i : Instr} {n : Nat} {im : Int32} {lv : List Nat} {r : List pj_E} (hr : pj_at (ct_code m) pc = (q, i, n, im, some lv) :: r) (d : Nat) (vs st : List pj_V) (s : as_) : aJ (d + 1) m pc vs st s = cx_B ct_lc a_gi a_gr a_pi a_pr a_ai a_ar a_wi a_wr a_an a_nw a_na a_io a_dp ct_ft ct_sg (ct_sg m).2 (ct_ht m) (ct_code m) (aE d) (aJ (d + 1) m) 1000 (pj_at (ct_code m) pc) (pj_mk (ct_nL m) lv vs) st s := cxJ_eq _ _ _ _ _ _ _ _ _ _ _ _ _ _ hr d vs st s
