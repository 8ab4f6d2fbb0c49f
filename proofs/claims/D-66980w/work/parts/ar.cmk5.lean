/-! ===== the component's parser: a node with a list of names ===== -/
def nn5_ (s : as_) (id : Nat) (k : Option Nat) (pl : Int32) : as_ := awR (awL (a_nw 36 (nn_ s id k pl)).2 (aN_ s) []) id 108 (some (aN_ s))
section cmk5
variable {s s' : as_} {id : Nat} {k : Option Nat} {pl : Int32}
theorem y_new5 (d : Nat) (h : (aK_ s id).1 = 5) (hi : id < aN_ s) : aE (d + 3) 309 [vr_ (some id), vr_ k, vi_ pl] s = some (.inl none, nn5_ s id k pl) := by
  have e1 := y_new d (s := s) (id := id) (Or.inr h) k pl
  have k1 : (aK_ (awL (a_nw 36 (nn_ s id k pl)).2 (aN_ s) []) id).1 = 5 := nw_K (s := nn_ s id k pl) (c := 36) h hi
  rw [ce_X15_init, e1, cV_k, l_newL, cV_k]
  show (a_pr 108 (some id) (some (aN_ s)) (awL (a_nw 36 (nn_ s id k pl)).2 (aN_ s) [])).bind _ = _
  rw [f_pr (f := 108) k1 rfl, Option.bind_some]
  rfl
end cmk5
