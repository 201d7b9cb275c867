set_option maxRecDepth 100000
/-! ROWS 2: numbers, switches, references compared, nest mates' fields, arrays of arrays -/
def b_t (x : Int) : Int := (i32 x).toInt
def b_max (x y : Int) : Int := if i32 x < i32 y then y else x
def b_min (x y : Int) : Int := if i32 y < i32 x then y else x
def b_lcmp (x y : Int) : Int := (lg_cmp (i64 x) (i64 y)).toInt
def bmul (s : bS) (n k : Int) : bS := (fun r a i => if a = (s.2.1 : Int) then (if r = 0 then 1010 else if r = 4 then n else if r = 10 then (if 0 ≤ i ∧ i < n then (s.2.1 : Int) + 1 + i else -1) else bdf r) else if (s.2.1 : Int) < a ∧ a ≤ (s.2.1 : Int) + n then (if r = 0 then 1003 else if r = 4 then k else bdf r) else s.1 r a i, s.2.1 + 1 + n.toNat, s.2.2.1 + (1 + n.toNat), s.2.2.2 + (n.toNat + n.toNat * k.toNat))
section R2
variable {κ : bK} {Γ0 : bG} {l0 : Launch} {cc : ByteArray} {own : String} {nL fr lo : Nat} {st st' : bS} {pc : Nat} {L L2 : List (Nat × bV)} {stk : List bV} {x y a i v : Int}
theorem r_mmax (hκ : bOk κ Γ0 l0 cc own nL fr lo) {index : Nat} (hl : Cond.methodLink own index Lib.Math.max.name ∈ lw_all) (hst : Cond.static Lib.Math.max.name ∈ lw_all) (hini : Cond.initialized "java/lang/Math" ∈ lw_all) (hco : Cond.code Lib.Math.max.name Lib.Math.max.code 2 (some .int) ∈ lw_all) (hf : 1 ≤ fr ∧ 21 ≤ lo) (hW : bsz stk ≤ 8) (hd : decode cc pc = .ok (.invokestatic index, 3)) (k : bJ κ st (pc + 3) L ((0, b_max x y) :: stk)) : bJ κ st pc L ((0, y) :: (0, x) :: stk) := by
  obtain ⟨p, l, e, R, s, m, args, below, meth, c, Q, Γ, s0, n⟩ := κ
  obtain ⟨hx, hb, o3, hown, hts, hK, o7, o8, o9, o10, o11, o12, rfl, rfl⟩ := hκ
  intro hle H locs ls hR hS hL
  have h := k hle H locs ls hR hS hL
  have e : bd (0, b_max x y) = .int (if i32 x < i32 y then i32 y else i32 x) := by
    unfold b_max
    by_cases q : i32 x < i32 y
    · rw [if_pos q, if_pos q]; rfl
    · rw [if_neg q, if_neg q]; rfl
  rw [List.map_cons, e] at h
  obtain ⟨q1, q2, q3, q4⟩ := hle
  exact va_mmax hx hb (by rw [hL.1, o3]) hown (hts _ hl) (hts _ hst) (hts _ hini) (hts _ hco) (by omega) (by rw [bsz_sum]; omega) (by omega) (by omega) hd h
theorem r_mmin (hκ : bOk κ Γ0 l0 cc own nL fr lo) {index : Nat} (hl : Cond.methodLink own index Lib.Math.min.name ∈ lw_all) (hst : Cond.static Lib.Math.min.name ∈ lw_all) (hini : Cond.initialized "java/lang/Math" ∈ lw_all) (hco : Cond.code Lib.Math.min.name Lib.Math.min.code 2 (some .int) ∈ lw_all) (hf : 1 ≤ fr ∧ 21 ≤ lo) (hW : bsz stk ≤ 8) (hd : decode cc pc = .ok (.invokestatic index, 3)) (k : bJ κ st (pc + 3) L ((0, b_min x y) :: stk)) : bJ κ st pc L ((0, y) :: (0, x) :: stk) := by
  obtain ⟨p, l, e, R, s, m, args, below, meth, c, Q, Γ, s0, n⟩ := κ
  obtain ⟨hx, hb, o3, hown, hts, hK, o7, o8, o9, o10, o11, o12, rfl, rfl⟩ := hκ
  intro hle H locs ls hR hS hL
  have h := k hle H locs ls hR hS hL
  have e : bd (0, b_min x y) = .int (if i32 y < i32 x then i32 y else i32 x) := by
    unfold b_min
    by_cases q : i32 y < i32 x
    · rw [if_pos q, if_pos q]; rfl
    · rw [if_neg q, if_neg q]; rfl
  rw [List.map_cons, e] at h
  obtain ⟨q1, q2, q3, q4⟩ := hle
  exact va_mmin hx hb (by rw [hL.1, o3]) hown (hts _ hl) (hts _ hst) (hts _ hini) (hts _ hco) (by omega) (by rw [bsz_sum]; omega) (by omega) (by omega) hd h
theorem r_ldci (hκ : bOk κ Γ0 l0 cc own nL fr lo) {index : Nat} {w : Int32} (hc : Cond.constant own index w ∈ lw_all) (hv : w = i32 x) (hd : decode cc pc = .ok (.ldc index, 2)) (k : bJ κ st (pc + 2) L ((0, x) :: stk)) : bJ κ st pc L stk := by
  subst hv
  exact bJ_same hκ (fun p l e R s m args below meth c Q Γ s0 n H locs ls q1 q2 hn hx hb hK hts hown hR hL kk => lv_ldc hx hb hown (hts _ hc) hd (kk ls hL)) k
theorem r_ldcwi (hκ : bOk κ Γ0 l0 cc own nL fr lo) {index : Nat} {w : Int32} (hc : Cond.constant own index w ∈ lw_all) (hv : w = i32 x) (hd : decode cc pc = .ok (.ldc_w index, 3)) (k : bJ κ st (pc + 3) L ((0, x) :: stk)) : bJ κ st pc L stk := by
  subst hv
  exact bJ_same hκ (fun p l e R s m args below meth c Q Γ s0 n H locs ls q1 q2 hn hx hb hK hts hown hR hL kk => lv_ldcw hx hb hown (hts _ hc) hd (kk ls hL)) k
theorem r_ldcl (hκ : bOk κ Γ0 l0 cc own nL fr lo) {index : Nat} {w : Int64} (hc : Cond.constantLong own index w ∈ lw_all) (hv : w = i64 x) (hd : decode cc pc = .ok (.ldc2_w index, 3)) (k : bJ κ st (pc + 3) L ((1, x) :: stk)) : bJ κ st pc L stk := by
  subst hv
  exact bJ_same hκ (fun p l e R s m args below meth c Q Γ s0 n H locs ls q1 q2 hn hx hb hK hts hown hR hL kk => lv_ldc2 hx hb hown (hts _ hc) hd (kk ls hL)) k
theorem r_lcmp (hκ : bOk κ Γ0 l0 cc own nL fr lo) (hd : decode cc pc = .ok (.lcmp, 1)) (k : bJ κ st (pc + 1) L ((0, b_lcmp x y) :: stk)) : bJ κ st pc L ((1, y) :: (1, x) :: stk) := by
  refine bJ_same hκ (fun p l e R s m args below meth c Q Γ s0 n H locs ls q1 q2 hn hx hb hK hts hown hR hL kk => W.lcmp hx hb hd ?_) k
  have h := kk ls hL
  rw [List.map_cons, show bd (0, b_lcmp x y) = .int (lg_cmp (i64 x) (i64 y)) from congrArg Value.int (i32_of _)] at h
  exact h
theorem r_tswIn (hκ : bOk κ Γ0 l0 cc own nL fr lo) {dflt lo' hi : Int} {offs : Array Int} {len : Nat} {off kk : Int} {tgt : Nat} (hx9 : b_t x = kk) (h1 : ¬ kk < lo') (h2 : ¬ hi < kk) (ho : offs[(kk - lo').toNat]? = some off) (ht : (pc : Int) + off = (tgt : Int)) (hd : decode cc pc = .ok (.tableswitch dflt lo' hi offs, len)) (k : bJ κ st tgt L stk) : bJ κ st pc L ((0, x) :: stk) := by
  subst hx9
  exact bJ_same hκ (fun p l e R s m args below meth c Q Γ s0 n H locs ls q1 q2 hn hx hb hK hts hown hR hL kk => lv_tableIn hx hb hd h1 h2 ho ht (kk ls hL)) k
theorem r_tswOut (hκ : bOk κ Γ0 l0 cc own nL fr lo) {dflt lo' hi : Int} {offs : Array Int} {len : Nat} {tgt : Nat} (h1 : b_t x < lo' ∨ hi < b_t x) (ht : (pc : Int) + dflt = (tgt : Int)) (hd : decode cc pc = .ok (.tableswitch dflt lo' hi offs, len)) (k : bJ κ st tgt L stk) : bJ κ st pc L ((0, x) :: stk) :=
  bJ_same hκ (fun p l e R s m args below meth c Q Γ s0 n H locs ls q1 q2 hn hx hb hK hts hown hR hL kk => lv_tableOut hx hb hd h1 ht (kk ls hL)) k
theorem r_lsw (hκ : bOk κ Γ0 l0 cc own nL fr lo) {dflt : Int} {ps : Array (Int × Int)} {len : Nat} {off : Int} {tgt : Nat} (hp : (ps.toList.zip (ps.toList.drop 1)).all (fun (a, next) => a.1 < next.1) = true) (ho : Op.lookupswitch.offset ps.toList dflt (b_t x) = off) (ht : (pc : Int) + off = (tgt : Int)) (hd : decode cc pc = .ok (.lookupswitch dflt ps, len)) (k : bJ κ st tgt L stk) : bJ κ st pc L ((0, x) :: stk) :=
  bJ_same hκ (fun p l e R s m args below meth c Q Γ s0 n H locs ls q1 q2 hn hx hb hK hts hown hR hL kk => lv_lookup hx hb hd hp ho ht (kk ls hL)) k
def b_rf (x : Int) : Option Nat := if x < 0 then none else some x.toNat
theorem b_rf_d (x : Int) : bd (2, x) = va_rf (b_rf x) := by
  show brv x = _
  unfold brv b_rf
  split <;> rfl
end R2
theorem bReq_iff (x y : Int) : b_rf x = b_rf y ↔ bReq x y := by
  unfold b_rf bReq
  by_cases h1 : x < 0 <;> by_cases h2 : y < 0
  · simp [h1, h2]
  · simp [h1, h2]; omega
  · simp [h1, h2]; omega
  · simp [h1, h2]; omega
theorem b_assign_self (vm : Vm) (c : ClassId) : vm.assignable c c = true := by
  have h : ∀ b : Bool, (c == c || b) = true := fun b => by rw [beq_self_eq_true, Bool.true_or]
  exact h _
section R3
variable {κ : bK} {Γ0 : bG} {l0 : Launch} {cc : ByteArray} {own : String} {nL fr lo : Nat} {st st' : bS} {pc : Nat} {L L2 : List (Nat × bV)} {stk : List bV} {x y a i v : Int}
theorem r_acmp_eq (hκ : bOk κ Γ0 l0 cc own nL fr lo) {off : Int} {tgt : Nat} (ht : (pc : Int) + off = (tgt : Int)) (hd : decode cc pc = .ok (.if_acmp .eq off, 3)) (k1 : bReq x y → bJ κ st tgt L stk) (k2 : ¬ bReq x y → bJ κ st (pc + 3) L stk) : bJ κ st pc L ((2, y) :: (2, x) :: stk) := by
  by_cases hc : bReq x y
  · refine bJ_same hκ (fun p l e R s m args below meth c Q Γ s0 n H locs ls q1 q2 hn hx hb hk hts hown hR hL kk => ?_) (k1 hc)
    rw [List.map_cons, List.map_cons, b_rf_d, b_rf_d]
    exact lv_acmp_eq hx hb hd ht (fun _ => kk ls hL) (fun h => absurd ((bReq_iff x y).mpr hc) h)
  · refine bJ_same hκ (fun p l e R s m args below meth c Q Γ s0 n H locs ls q1 q2 hn hx hb hk hts hown hR hL kk => ?_) (k2 hc)
    rw [List.map_cons, List.map_cons, b_rf_d, b_rf_d]
    exact lv_acmp_eq hx hb hd ht (fun h => absurd ((bReq_iff x y).mp h) hc) (fun _ => kk ls hL)
theorem r_acmp_ne (hκ : bOk κ Γ0 l0 cc own nL fr lo) {off : Int} {tgt : Nat} (ht : (pc : Int) + off = (tgt : Int)) (hd : decode cc pc = .ok (.if_acmp .ne off, 3)) (k1 : ¬ bReq x y → bJ κ st tgt L stk) (k2 : bReq x y → bJ κ st (pc + 3) L stk) : bJ κ st pc L ((2, y) :: (2, x) :: stk) := by
  by_cases hc : bReq x y
  · refine bJ_same hκ (fun p l e R s m args below meth c Q Γ s0 n H locs ls q1 q2 hn hx hb hk hts hown hR hL kk => ?_) (k2 hc)
    rw [List.map_cons, List.map_cons, b_rf_d, b_rf_d]
    exact lv_acmp_ne hx hb hd ht (fun h => absurd ((bReq_iff x y).mpr hc) h) (fun _ => kk ls hL)
  · refine bJ_same hκ (fun p l e R s m args below meth c Q Γ s0 n H locs ls q1 q2 hn hx hb hk hts hown hR hL kk => ?_) (k1 hc)
    rw [List.map_cons, List.map_cons, b_rf_d, b_rf_d]
    exact lv_acmp_ne hx hb hd ht (fun _ => kk ls hL) (fun h => absurd ((bReq_iff x y).mp h) hc)
theorem r_getN (hκ : bOk κ Γ0 l0 cc own nL fr lo) {t index k r : Nat} {ref C host : String} {T : u_T} {N : Nat} (ht : bg st 0 a 0 = ((t + 1 : Nat) : Int)) (hc : bcls[t]? = some (C, T, N)) (hin : ∀ w ∈ u_ws C T N, w ∈ lw_all) (hk : k < N) (hr : bfr t k = r)
    (hlink : (own, index, ref, (T k).2.1, (T k).2.2.1, host) ∈ bnestf) (hs : (T k).1 = ref) (hd : decode cc pc = .ok (.getfield index, 3)) (kk : bJ κ st (pc + 3) L ((r % 4, bg st r a 0) :: stk)) : bJ κ st pc L ((2, a) :: stk) := by
  subst hr
  refine bJ_same hκ (fun p l e R s m args below meth c Q Γ s0 n H locs ls k1 k2 hn hx hb hK hts hown hR hL k' => ?_) kk
  obtain ⟨b, rfl, -, -⟩ := hR.nat (a := a) (by rw [ht]; omega)
  have hP := hR.P ht hc
  have h := k' ls hL
  have e : bd (2, (b : Int)) = .ref b := brv_nat b
  rw [List.map_cons, e]
  refine va_getN (D := Γ.1) (cl := bcls) (tys := bty Γ) (ci := t) hx hb hts hin hown hK.1 hP 0 rfl hc k hk (va_Nw.use rfl (hK.2.2.2.2.2.2.1 _ hlink)) (fun x hx => by rw [← hs]; exact hx) (v := bval (bfr t k) (bg st (bfr t k) b 0)) ?_ hd h
  simp [hk]
theorem r_aastI (hκ : bOk κ Γ0 l0 cc own nL fr lo) (ht : bg st 0 a 0 = 1010) (hi : 0 ≤ i ∧ i < bg st 4 a 0) (hv : bg st 0 x 0 = 1003) (hd : decode cc pc = .ok (.aastore, 1)) (kk : ∀ st', st' = bw st 10 a i x → bJ κ st' (pc + 1) L stk) : bJ κ st pc L ((2, x) :: (0, i) :: (2, a) :: stk) := by
  have k0 := kk _ rfl
  obtain ⟨p, l, e, R, s, m, args, below, meth, c, Q, Γ, s0, n⟩ := κ
  obtain ⟨hx, hb, o3, hown, hts, hK, -⟩ := hκ
  intro hle H locs ls hR hS hL
  obtain ⟨b, rfl, hlow, -⟩ := hR.nat (a := a) (by rw [ht]; omega)
  have h8 : bg st 1 (-1) 0 = (Γ.2.1 : Int) := hR.2.2.2.2.1.1
  have hlow : Γ.2.1 ≤ b := by omega
  obtain ⟨hc, h1, h2⟩ := hR.arr (t := 10) ht
  obtain ⟨g1, g2⟩ := bin_ix hi h2
  obtain ⟨v, rfl, -, -⟩ := hR.nat (a := x) (by rw [hv]; omega)
  obtain ⟨hcv, -, -⟩ := hR.arr (t := 3) hv
  have e : bd (2, (b : Int)) = .ref b := brv_nat b
  have e5 : bd (2, (v : Int)) = .ref v := brv_nat v
  obtain ⟨kA, f1, f2⟩ := hK.2.1
  have f3 : s.vm.findClass ("[" ++ (FieldType.int).toString) = some (Γ.2.2.2.1 3) := (hK.1.2 3 (Γ.2.2.2.1 3, .int) rfl).2
  obtain ⟨kE, hkE, -⟩ := Vm.findClass_spec f3
  rw [List.map_cons, List.map_cons, List.map_cons, e, e5]
  refine W.aast hx hb hc (fun q h => by cases h) (fun h => by cases h) f1 f2 rfl hkE ⟨fun q => g1 (Or.inl q), by rw [arrV_size]; exact Nat.not_le.mp fun q => g1 (Or.inr q)⟩ hcv (fun q h => by cases h) hkE (b_assign_self _ _) rfl rfl hd fun H' e1 e2 e3 => ?_
  rw [g2] at e1 ⊢
  exact k0 hle H' _ ls (hR.ast (t := 10) (er := 10) hlow ht rfl (by decide) (show Value.ref v = bval 10 (v : Int) from e5.symm) (fun ty hty => by cases hty; rfl) hi.1 e2 e3 e1) (hS.put e2 e3 hlow) hL
end R3
