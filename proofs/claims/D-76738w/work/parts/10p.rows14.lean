/-! ROWS 14: longs' bits -/
section B14
variable {κ : bK} {Γ0 : bG} {l0 : Launch} {cc : ByteArray} {own : String} {nL fr lo : Nat} {st : bS} {pc : Nat} {L : List (Nat × bV)} {stk : List bV} {x y : Int}
def b_lshl (x y : Int) : Int := (i64 x <<< ((i32 y).toInt64 &&& 63)).toInt
theorem r_lshl (hκ : bOk κ Γ0 l0 cc own nL fr lo) (hd : decode cc pc = .ok (.lshl, 1)) (k : bJ κ st (pc + 1) L ((1, b_lshl x y) :: stk)) : bJ κ st pc L ((0, y) :: (1, x) :: stk) := by
  refine bJ_same hκ (fun p l e R s m args below meth c Q Γ s0 n H locs ls k1 k2 hn hx hb hk hts hown hR hL kk => ?_) k
  refine lv_lshl hx hb hd rfl ?_
  have h := kk ls hL
  have e : bd (1, b_lshl x y) = _ := congrArg Value.long (i64_of _)
  rw [List.map_cons, e] at h
  exact h
def b_land (x y : Int) : Int := (i64 x &&& i64 y).toInt
theorem r_land (hκ : bOk κ Γ0 l0 cc own nL fr lo) (hd : decode cc pc = .ok (.land, 1)) (k : bJ κ st (pc + 1) L ((1, b_land x y) :: stk)) : bJ κ st pc L ((1, y) :: (1, x) :: stk) := by
  refine bJ_same hκ (fun p l e R s m args below meth c Q Γ s0 n H locs ls k1 k2 hn hx hb hk hts hown hR hL kk => ?_) k
  refine lv_land hx hb hd ?_
  have h := kk ls hL
  have e : bd (1, b_land x y) = _ := congrArg Value.long (i64_of _)
  rw [List.map_cons, e] at h
  exact h
def b_lor (x y : Int) : Int := (i64 x ||| i64 y).toInt
theorem r_lor (hκ : bOk κ Γ0 l0 cc own nL fr lo) (hd : decode cc pc = .ok (.lor, 1)) (k : bJ κ st (pc + 1) L ((1, b_lor x y) :: stk)) : bJ κ st pc L ((1, y) :: (1, x) :: stk) := by
  refine bJ_same hκ (fun p l e R s m args below meth c Q Γ s0 n H locs ls k1 k2 hn hx hb hk hts hown hR hL kk => ?_) k
  refine lv_lor hx hb hd ?_
  have h := kk ls hL
  have e : bd (1, b_lor x y) = _ := congrArg Value.long (i64_of _)
  rw [List.map_cons, e] at h
  exact h
end B14
