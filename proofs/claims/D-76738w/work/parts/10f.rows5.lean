set_option maxRecDepth 100000
/-! ROWS 5: clone of byte[], getClass and the class object of Object[] -/
section R8
variable {κ : bK} {Γ0 : bG} {l0 : Launch} {cc : ByteArray} {own : String} {nL fr lo : Nat} {st st' : bS} {pc : Nat} {L L2 : List (Nat × bV)} {stk : List bV} {x y a b i v sp dp n : Int}
def bcln (s : bS) (a : Int) : bS := bcp (bnw s 1000 (bg s 4 a 0) (bg s 4 a 0).toNat) 8 a 0 (bnx s) 0 (bg s 4 a 0)
theorem r_clone (hκ : bOk κ Γ0 l0 cc own nL fr lo) {index : Nat} (ha : bg st 0 a 0 = 1000) (hroom : bc st + 1 ≤ bCM ∧ bk st + (bg st 4 a 0).toNat ≤ bKM)
    (hl : Cond.methodLink own index ⟨"[B", "clone", "()Ljava/lang/Object;"⟩ ∈ lw_all) (hsame : Cond.sameMethod "[B" "java/lang/Object" "clone" "()Ljava/lang/Object;" ∈ lw_all) (hnat : Cond.native ⟨"java/lang/Object", "clone", "()Ljava/lang/Object;"⟩ ∈ lw_all) (hinst : Cond.instanceMethod ⟨"java/lang/Object", "clone", "()Ljava/lang/Object;"⟩ ∈ lw_all) (hsel : Cond.selects "[B" ⟨"[B", "clone", "()Ljava/lang/Object;"⟩ ⟨"java/lang/Object", "clone", "()Ljava/lang/Object;"⟩ ∈ lw_all)
    (hf : 1 ≤ fr ∧ 22 ≤ lo) (hW : bsz stk ≤ 8) (hd : decode cc pc = .ok (.invokevirtual index, 3)) (kk : ∀ st', st' = bcln st a → bJ κ st' (pc + 3) L ((2, (bnx st : Int)) :: stk)) : bJ κ st pc L ((2, a) :: stk) := by
  have k0 := kk _ rfl
  obtain ⟨p, l, e, R, s, m, args, below, meth, c, Q, Γ, s0, nn⟩ := κ
  obtain ⟨hx, hb, o3, hown, hts, hK, o7, o8, o9, o10, o11, o12, rfl, rfl⟩ := hκ
  intro hle H locs ls hR hS hL
  obtain ⟨l1, l2, l3, l4⟩ := id hle
  obtain ⟨r1, r2⟩ := hroom
  obtain ⟨a, rfl, -, haz⟩ := hR.nat (a := a) (by rw [ha]; omega)
  obtain ⟨ca, a1, a2⟩ := hR.arr (t := 0) ha
  have hk2 : (bty Γ)[0]? = some (Γ.2.2.2.1 0, .byte) := rfl
  have hnm : s.vm.findClass "[B" = some (Γ.2.2.2.1 0) := (hK.1.2 0 _ hk2).2
  obtain ⟨c0, t0', f1, f2, f3⟩ := Cond.castable_spec (va_Nw.use (A := args) rfl (hK.2.2.1 ("[B", "java/lang/Cloneable") (by decide +kernel)))
  cases hnm.symm.trans f1
  have e1 : bd (2, (a : Int)) = .ref a := brv_nat a
  rw [List.map_cons, e1]
  intro T hT X
  obtain ⟨-, kA, hkA, comp, hkind⟩ := State.isArrayOf_alike X.warmed.alike ((hK.1.2 0 _ hk2).1 0 (fun _ => .null))
  obtain ⟨-, kS, hkS, compS, hkindS⟩ := (hK.1.2 0 _ hk2).1 0 (fun _ => .null)
  have hrm := b_room (m := m) (pc := pc) (ls := ls) (stk0 := []) hW
  have hsz : ((arrV (Γ.2.2.2.1 0) (bg st 4 a 0).toNat (fun j => bval (ber (0 + 1000)) (bg st (ber (0 + 1000)) a j)))).slots.size = (bg st 4 a 0).toNat := arrV_size _ _ _
  obtain ⟨vm', X', step⟩ := X.cloneArray hx hown (hts _ hl) (hts _ hsame) (hts _ hnat) (hts _ hinst) (hts _ hsel) (a := a) (cell := arrV (Γ.2.2.2.1 0) (bg st 4 a 0).toNat (fun j => bval (ber (0 + 1000)) (bg st (ber (0 + 1000)) a j))) (by rw [hT]; exact ca) (fun k h => by cases h) (fun h => by cases h) hnm f2 f3
    (fun i v hv => by
      have hk' : T.vm.classes[Γ.2.2.2.1 0]? = some kA := hkA
      have hi : i < (bg st 4 a 0).toNat := by
        have := (Array.getElem?_eq_some_iff.mp hv).1
        rw [hsz] at this
        exact this
      rw [arrV_read _ _ hi] at hv
      cases hv
      have := hR.arrfit (t := 0) (j := i) (ty := .byte) ha (by omega) rfl
      show State.fitsSlot T (Γ.2.2.2.1 0) .none i _ = true
      simpa [State.fitsSlot, State.slotType?, hk', hkind] using this)
    (g := F0 m pc ls (.ref a :: stk.map bd)) rfl (by show ls.size = c.maxLocals; rw [hL.1, o3]) (rest := stk.map bd) rfl (by rw [hb]; exact hd) (by omega) (by rw [bsz_sum]; show 2 * 0 + _ + _ ≤ _; omega) (by rw [o9]; omega) (by rw [hsz, o10]; omega) (hloader := Vm.clonesLoader_of_array hkS hkindS)
  rw [hsz] at X'
  obtain ⟨N, hN⟩ : ∃ N : Nat, bg st 4 a 0 = (N : Int) := ⟨(bg st 4 a 0).toNat, by omega⟩
  have hN' : (bg st 4 a 0).toNat = N := by omega
  generalize hC : arrV (Γ.2.2.2.1 0) (bg st 4 a 0).toNat (fun j => bval (ber (0 + 1000)) (bg st (ber (0 + 1000)) a j)) = C at X' step
  have hvmC : C.vm = .none := by rw [← hC]; rfl
  have hcell : ({ cls := C.cls, slots := C.slots } : Cell) = C := by rw [← hC]; rfl
  rw [hcell] at X' step
  have hheap : ((T.setVm vm').pushCell C).heap = H.push C := by rw [← hT]; rfl
  have hTs : T.heap.size = H.size := by rw [hT]
  have hsz0 : H.size = bnx st := hR.1
  have hna : (a : Int) ≠ (bnx st : Int) := by omega
  generalize hH1 : H.push (arrV (Γ.2.2.2.1 0) (bg st 4 a 0).toNat (fun _ => bval 8 0)) = H1
  have hz : H1.size = H.size + 1 := by rw [← hH1, Array.size_push]
  have hHq : ∀ q : Nat, q < H.size → H1[q]? = H[q]? := fun q hq => by rw [← hH1, Array.getElem?_push, if_neg (Nat.ne_of_lt hq)]
  have hcl1 : H1[H.size]? = some (arrV (Γ.2.2.2.1 0) (bg st 4 a 0).toNat (fun _ => bval 8 0)) := by rw [← hH1, Array.getElem?_push_size]
  have hR1 : bRep Γ (bnw st 1000 (bg st 4 a 0) (bg st 4 a 0).toNat) H1 := hR.newarr (t := 0) (er := 8) (n := bg st 4 a 0) (d := bval 8 0) rfl (by decide) rfl (fun ty hty => by cases hty; rfl) a1 a2 hz hHq hcl1
  generalize hH2 : H.push C = H2 at hheap
  have hz2 : H2.size = H1.size := by rw [← hH2, ← hH1, Array.size_push, Array.size_push]
  have hHq2 : ∀ q : Nat, q < H.size → H2[q]? = H[q]? := fun q hq => by rw [← hH2, Array.getElem?_push, if_neg (Nat.ne_of_lt hq)]
  have hcl2 : H2[H.size]? = some C := by rw [← hH2, Array.getElem?_push_size]
  have hoth : ∀ q : Nat, q ≠ H.size → H2[q]? = H1[q]? := fun q hq => by
    by_cases h : q < H.size
    · rw [hHq q h, hHq2 q h]
    · rw [Array.getElem?_eq_none (by omega), Array.getElem?_eq_none (by omega)]
  have w1 : bg (bnw st 1000 (bg st 4 a 0) (bg st 4 a 0).toNat) 0 (a : Int) 0 = ((0 + 1000 : Nat) : Int) := by rw [bg_bnw, if_neg hna]; exact ha
  have w2 : bg (bnw st 1000 (bg st 4 a 0) (bg st 4 a 0).toNat) 0 (H.size : Int) 0 = ((0 + 1000 : Nat) : Int) := by rw [bg_bnw, if_pos (by omega)]; rfl
  have w3 : bg (bnw st 1000 (bg st 4 a 0) (bg st 4 a 0).toNat) 4 (a : Int) 0 = bg st 4 a 0 := by rw [bg_bnw, if_neg hna]
  have w4 : bg (bnw st 1000 (bg st 4 a 0) (bg st 4 a 0).toNat) 4 (H.size : Int) 0 = bg st 4 a 0 := by rw [bg_bnw, if_pos (by omega)]; rfl
  have hR2 := hR1.copy (a := a) (b := H.size) (t := 0) (er := 8) (sp := 0) (dp := 0) (n := bg st 4 a 0) (H' := H2) hR.2.1 w1 w2 rfl (by decide) (by omega) (by omega) a1 (by rw [w3]; omega) (by rw [w4]; omega) hz2 hoth (by
    rw [hcl2, w4, ← hC]
    have : ∀ f g : Nat → Value, (∀ j : Nat, j < (bg st 4 a 0).toNat → f j = g j) → arrV (Γ.2.2.2.1 0) (bg st 4 a 0).toNat f = arrV (Γ.2.2.2.1 0) (bg st 4 a 0).toNat g := fun f g h => by
      unfold arrV
      congr 1
      congr 1
      funext j
      exact h j.1 j.2
    refine congrArg some (this _ _ fun j hj => ?_)
    show bval 8 (bg st 8 a j) = bval 8 (va_cpy _ _ _ _ _ _)
    unfold va_cpy
    rw [if_pos ⟨Nat.zero_le _, by show j < 0 + _; omega⟩]
    show _ = bval 8 (bg (bnw st 1000 (bg st 4 a 0) (bg st 4 a 0).toNat) 8 (a : Int) ((0 + (j - 0) : Nat) : Int))
    rw [bg_bnw, if_neg hna]
    simp)
  have hR3 : bRep Γ (bcln st (a : Int)) H2 := by
    unfold bcln
    rw [← hsz0]
    exact hR2
  have b1 : bc (bcln st (a : Int)) = bc st + 1 := rfl
  have b2 : bk (bcln st (a : Int)) = bk st + (bg st 4 a 0).toNat := rfl
  have key := k0 ⟨by omega, by omega, by omega, by omega⟩ H2 locs ls hR3 (hS.pushed (by omega) hHq2) hL _ hheap (by
    rw [b1, b2]
    rw [show bc st - bc s0 + 1 = bc st + 1 - bc s0 by omega, show bk st - bk s0 + (bg st 4 a 0).toNat = bk st + (bg st 4 a 0).toNat - bk s0 by omega] at X'
    exact X')
  obtain ⟨t9, z1, z2⟩ := key
  rw [List.map_cons, show bd (2, (bnx st : Int)) = .ref T.heap.size by rw [hTs, hsz0]; exact brv_nat _] at z1
  exact ⟨t9, step t9 z1, z2⟩
/-- the class object of Object[], by getClass -/
theorem r_getC (hκ : bOk κ Γ0 l0 cc own nL fr lo) {index : Nat} (ha : bg st 0 a 0 = 1006) (hl : Cond.methodLink own index ⟨"java/lang/Object", "getClass", "()Ljava/lang/Class;"⟩ ∈ lw_all) (hinst : Cond.instanceMethod ⟨"java/lang/Object", "getClass", "()Ljava/lang/Class;"⟩ ∈ lw_all) (hnat : Cond.native ⟨"java/lang/Object", "getClass", "()Ljava/lang/Class;"⟩ ∈ lw_all) (hsel : Cond.selects "[Ljava/lang/Object;" ⟨"java/lang/Object", "getClass", "()Ljava/lang/Class;"⟩ ⟨"java/lang/Object", "getClass", "()Ljava/lang/Class;"⟩ ∈ lw_all)
    (hf : 1 ≤ fr ∧ 22 ≤ lo) (hW : bsz stk ≤ 8) (hd : decode cc pc = .ok (.invokevirtual index, 3)) (kk : bJ κ st (pc + 3) L ((2, bg st 1 (-(2 + 20)) 0) :: stk)) : bJ κ st pc L ((2, a) :: stk) := by
  obtain ⟨p, l, e, R, s, m, args, below, meth, c, Q, Γ, s0, nn⟩ := κ
  obtain ⟨hx, hb, o3, hown, hts, hK, o7, o8, o9, o10, o11, o12, rfl, rfl⟩ := hκ
  intro hle H locs ls hR hS hL
  obtain ⟨a, rfl, -, haz⟩ := hR.nat (a := a) (by rw [ha]; omega)
  obtain ⟨ca, a1, a2⟩ := hR.arr (t := 6) ha
  have hk2 : (bty Γ)[6]? = some (Γ.2.2.2.1 6, .object "java/lang/Object") := rfl
  have hnm : s.vm.findClass "[Ljava/lang/Object;" = some (Γ.2.2.2.1 6) := va_nmO (hK.1.2 6 _ hk2).2 rfl
  have e1 : bd (2, (a : Int)) = .ref a := brv_nat a
  rw [List.map_cons, e1]
  have hrm := b_room (m := m) (pc := pc) (ls := ls) (stk0 := []) hW
  obtain ⟨hm0, hM⟩ := hK.2.2.2.2.2.2.2.2.2.2.2.2.2.1 ("[Ljava/lang/Object;", 20) (by decide +kernel)
  refine va_getC hx hb (by rw [hL.1, o3]) hown (hts _ hl) (va_Dc.use hK.2.2.2.2.2.2.2.2.2.2.2.2.1) (hts _ hsel) (hts _ hinst) (hts _ hnat) hM ⟨_, ca, rfl, hnm⟩ (by omega) (by rw [← bsz_sum] at *; omega) hd ?_
  have key := kk hle H locs ls hR hS hL
  have e2 : bg st 1 (-(2 + 20)) 0 = Γ.2.2.2.2 20 := hR.2.2.2.2.1.2 20
  rw [List.map_cons, show bd (2, bg st 1 (-(2 + 20)) 0) = .ref (Γ.2.2.2.2 20).toNat by rw [e2]; exact brv_ref hm0] at key
  exact key
/-- the class object of Object[], by ldc -/
theorem r_ldcM (hκ : bOk κ Γ0 l0 cc own nL fr lo) {index : Nat} (hl : Cond.classLink own index "[Ljava/lang/Object;" ∈ lw_all) (hd : decode cc pc = .ok (.ldc index, 2)) (kk : bJ κ st (pc + 2) L ((2, bg st 1 (-(2 + 20)) 0) :: stk)) : bJ κ st pc L stk := by
  obtain ⟨p, l, e, R, s, m, args, below, meth, c, Q, Γ, s0, nn⟩ := κ
  obtain ⟨hx, hb, o3, hown, hts, hK, o7, o8, o9, o10, o11, o12, rfl, rfl⟩ := hκ
  intro hle H locs ls hR hS hL
  obtain ⟨hm0, hM⟩ := hK.2.2.2.2.2.2.2.2.2.2.2.2.2.1 ("[Ljava/lang/Object;", 20) (by decide +kernel)
  refine va_ldcM hx hb hown (hts _ hl) hM hd ?_
  have key := kk hle H locs ls hR hS hL
  have e2 : bg st 1 (-(2 + 20)) 0 = Γ.2.2.2.2 20 := hR.2.2.2.2.1.2 20
  rw [List.map_cons, show bd (2, bg st 1 (-(2 + 20)) 0) = .ref (Γ.2.2.2.2 20).toNat by rw [e2]; exact brv_ref hm0] at key
  exact key
end R8
