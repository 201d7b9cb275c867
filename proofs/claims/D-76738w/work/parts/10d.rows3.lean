set_option maxRecDepth 100000
/-! ROWS 3: an array of int arrays -/
theorem outer_eq (c : ClassId) (N h0 : Nat) : ∀ i, Jvm.Free.Multi.outerC c N h0 i = arrV c N (fun j => if j < i then .ref (h0 + 1 + j) else .null)
  | 0 => by
    show ({ cls := c, slots := Array.replicate N .null, vm := .none } : Cell) = _
    rw [arrV_new]
    rfl
  | i + 1 => by
    show (Jvm.Free.Multi.outerC c N h0 i).setSlot i (.ref (h0 + 1 + i)) = _
    rw [outer_eq c N h0 i, arrV_store]
    congr 1
    funext j
    unfold updV
    by_cases e : j = i
    · rw [if_pos e, if_pos (by omega), e]
    · rw [if_neg e]
      show (if j < i then _ else _) = (if j < i + 1 then _ else _)
      by_cases e2 : j < i
      · rw [if_pos e2, if_pos (by omega)]
      · rw [if_neg e2, if_neg (by omega)]
theorem arrV_congr {c : ClassId} {N : Nat} {f g : Nat → Value} (h : ∀ j, j < N → f j = g j) : arrV c N f = arrV c N g := by
  unfold arrV
  congr 2
  funext j
  exact h j.val j.isLt
theorem bRep.multi {Γ : bG} {st : bS} {H H' : Heap} {x y : Int} (hx : 0 ≤ x ∧ x ≤ 67108864) (hy : 0 ≤ y ∧ y ≤ 67108864) (hR : bRep Γ st H) (hsz : H'.size = H.size + 1 + x.toNat) (hH : ∀ q : Nat, q < H.size → H'[q]? = H[q]?) (h1 : H'[H.size]? = some (arrV (Γ.2.2.2.1 10) x.toNat (fun j => .ref (H.size + 1 + j)))) (h2 : ∀ j : Nat, j < x.toNat → H'[H.size + 1 + j]? = some (arrV (Γ.2.2.2.1 3) y.toNat (fun _ => .int 0))) : bRep Γ (bmul st x y) H' := by
  obtain ⟨a1, a2, a3, a4, a6, a5⟩ := hR
  have e0 : st.2.1 = H.size := a1.symm
  have m0 : ∀ (r : Nat) (i : Int), (bmul st x y).1 r (H.size : Int) i = (if r = 0 then 1010 else if r = 4 then x else if r = 10 then (if 0 ≤ i ∧ i < x then (H.size : Int) + 1 + i else -1) else bdf r) := fun r i => by
    show (if (H.size : Int) = (st.2.1 : Int) then _ else _) = _
    rw [e0, if_pos rfl]
  have m1 : ∀ (r : Nat) (b i : Int), (H.size : Int) < b → b ≤ (H.size : Int) + x → (bmul st x y).1 r b i = (if r = 0 then 1003 else if r = 4 then y else bdf r) := fun r b i q1 q2 => by
    show (if b = (st.2.1 : Int) then _ else if (st.2.1 : Int) < b ∧ b ≤ (st.2.1 : Int) + x then _ else _) = _
    rw [e0, if_neg (by omega), if_pos ⟨q1, q2⟩]
  have m2 : ∀ (r : Nat) (b i : Int), (b < (H.size : Int) ∨ (H.size : Int) + x < b) → (bmul st x y).1 r b i = st.1 r b i := fun r b i q => by
    show (if b = (st.2.1 : Int) then _ else if (st.2.1 : Int) < b ∧ b ≤ (st.2.1 : Int) + x then _ else _) = _
    rw [e0, if_neg (by omega), if_neg (by omega)]
  have hnx : bnx (bmul st x y) = H.size + 1 + x.toNat := by
    show st.2.1 + 1 + x.toNat = _
    rw [e0]
  refine ⟨by rw [hsz, hnx], by omega, fun q hq => by rw [hH q (by omega)]; exact a3 q hq, fun b hb => ?_, ?_, fun b t hb ht => ?_⟩
  · rw [hnx]
    by_cases q : b = (H.size : Int)
    · omega
    · by_cases q2 : (H.size : Int) < b ∧ b ≤ (H.size : Int) + x
      · omega
      · rw [m2 0 b 0 (by omega)] at hb ⊢
        have := a4 b hb
        omega
  · exact ⟨by rw [m2 1 (-1) 0 (by omega)]; exact a6.1, fun j => by rw [m2 _ _ _ (by omega)]; exact a6.2 j⟩
  · by_cases q : b = H.size
    · subst q
      rw [m0] at hb
      have e3 : t = 1010 := by
        rw [if_pos rfl] at hb
        omega
      subst e3
      unfold bat
      rw [if_neg (by omega), m0]
      refine ⟨?_, hx.1, by rw [if_neg (by omega), if_pos rfl]; omega, fun j ty hj hty => by cases hty; exact fit_ref rfl _⟩
      rw [h1]
      congr 1
      refine arrV_congr fun j hj => ?_
      show _ = bval 10 _
      show _ = bval 10 ((bmul st x y).1 10 (H.size : Int) j)
      rw [m0, if_neg (by omega), if_neg (by omega), if_pos rfl, if_pos (by omega)]
      rw [show (H.size : Int) + 1 + (j : Int) = ((H.size + 1 + j : Nat) : Int) by omega]
      exact (brv_nat _).symm
    · by_cases q2 : H.size < b ∧ b ≤ H.size + x.toNat
      · rw [m1 0 b 0 (by omega) (by omega), if_pos rfl] at hb
        have e3 : t = 1003 := by omega
        subst e3
        unfold bat
        rw [if_neg (by omega), m1 4 b 0 (by omega) (by omega), if_neg (by omega), if_pos rfl]
        refine ⟨?_, hy.1, by omega, fun j ty hj hty => by cases hty; rfl⟩
        obtain ⟨j, rfl⟩ : ∃ j, b = H.size + 1 + j := ⟨b - H.size - 1, by omega⟩
        rw [h2 j (by omega)]
        congr 1
        refine arrV_congr fun i hi => ?_
        show _ = bval 20 ((bmul st x y).1 20 ((H.size + 1 + j : Nat) : Int) i)
        rw [m1 20 _ _ (by omega) (by omega), if_neg (by omega), if_neg (by omega)]
        rfl
      · have e2 : ((b : Int) < (H.size : Int) ∨ (H.size : Int) + x < (b : Int)) := by omega
        rw [m2 0 b 0 e2] at hb
        have hl : b < H.size := by
          have := a4 b (by rw [hb]; omega)
          omega
        exact (a5 b t hb ht).same (hH b hl) (fun r i => m2 r b i e2)
section R4
variable {κ : bK} {Γ0 : bG} {l0 : Launch} {cc : ByteArray} {own : String} {nL fr lo : Nat} {st st' : bS} {pc : Nat} {L L2 : List (Nat × bV)} {stk : List bV} {x y a i v : Int}
theorem r_multi (hκ : bOk κ Γ0 l0 cc own nL fr lo) {index : Nat} (hl : Cond.classLink own index "[[I" ∈ lw_all) (har : Cond.arrayClass .int ∈ lw_all) (hx1 : 0 ≤ x ∧ x ≤ 67108864) (hy1 : 0 ≤ y ∧ y ≤ 67108864) (hroom : bc st + (1 + x.toNat) ≤ bCM ∧ bk st + (x.toNat + x.toNat * y.toNat) ≤ bKM) (hd : decode cc pc = .ok (.multianewarray index 2, 4)) (kk : ∀ st', st' = bmul st x y → bJ κ st' (pc + 4) L ((2, (bnx st : Int)) :: stk)) : bJ κ st pc L ((0, y) :: (0, x) :: stk) := by
  have k0 := kk _ rfl
  obtain ⟨p, l, e, R, s, m, args, below, meth, c, Q, Γ, s0, nn⟩ := κ
  obtain ⟨hx, hb, o3, hown, hts, hK, o7, o8, o9, o10, -⟩ := hκ
  intro hle H locs ls hR hS hL
  obtain ⟨l1, l2, l3, l4⟩ := id hle
  obtain ⟨r1, r2⟩ := hroom
  have ex := i32_clamp hx1.1 (by omega)
  have ey := i32_clamp hy1.1 (by omega)
  have hneg : ∀ z : Int, 0 ≤ z ∧ z ≤ 67108864 → ¬ i32 z < 0 := fun z hz q => by
    have h0 : (0 : Int32) = i32 0 := rfl
    rw [h0, i32_lt (by omega) (by omega)] at q
    omega
  intro T hT X
  obtain ⟨vm₁, cA, comp, hW, hfA, hfC, -, -, X1, step⟩ := X.multianewarray2F hx (own := own) (index := index) (ty := .int) hown (hts _ hl) (va_AOI.use hK.2.2.2.2.2.2.2.1) (hts _ har)
    (g := F0 m pc ls (((0, y) :: (0, x) :: stk).map bd)) rfl (by rw [hb]; exact hd) (n := i32 x) (k := i32 y) (rest := stk.map bd) rfl (hneg x hx1) (hneg y hy1)
    (by rw [ex]; omega) (by rw [ey]; show y.toNat * 4 ≤ _; omega) (by rw [ey]; omega) rfl rfl (by rw [ex, o9]; omega) (by rw [ex, ey, o10]; omega)
  rw [ex, ey] at X1 step
  obtain ⟨f1, f2, f3, f4⟩ := Jvm.Free.Multi.fill_facts (T.setVm vm₁) cA comp x.toNat y.toNat (defaultValue .int) x.toNat
  have hsz : (T.setVm vm₁).heap.size = H.size := by show T.heap.size = _; rw [hT]
  have hcA : cA = Γ.2.2.2.1 10 := Option.some.inj (hfA.symm.trans (hK.1.2 10 (Γ.2.2.2.1 10, .array .int) rfl).2)
  have hcC : comp = Γ.2.2.2.1 3 := Option.some.inj (hfC.symm.trans (hK.1.2 3 (Γ.2.2.2.1 3, .int) rfl).2)
  subst hcA; subst hcC
  generalize hF : Jvm.Free.Multi.fill (T.setVm vm₁) (Γ.2.2.2.1 10) (Γ.2.2.2.1 3) x.toNat y.toNat (defaultValue .int) x.toNat = S at X1 step f1 f2
  have hold : ∀ q : Nat, q < H.size → S.heap[q]? = H[q]? := fun q hq => by
    rw [← hF, Jvm.Free.Multi.fill_old (T.setVm vm₁) _ _ _ _ _ (by rw [hsz]; exact hq), ← hT]
    rfl
  have hR' : bRep Γ (bmul st x y) S.heap := by
    refine bRep.multi hx1 hy1 hR (by rw [f1, hsz]) hold ?_ (fun j hj => ?_)
    · rw [← hsz, f2, outer_eq]
      congr 1
      refine arrV_congr fun j hj => ?_
      rw [if_pos hj]
    · rw [← hsz, ← hF, Jvm.Free.Multi.fill_inner (T.setVm vm₁) _ _ _ _ _ _ j hj]
      congr 1
      exact arrV_new _ _ _
  have hS' : va_S (bA Γ) s.heap S.heap locs := ⟨by rw [f1, hsz]; have := hS.1; omega, fun q q1 q2 => by rw [hold q (by have := hS.1; omega)]; exact hS.2.1 q q1 q2, hS.2.2⟩
  have ec : bc (bmul st x y) = bc st + (1 + x.toNat) := rfl
  have ek : bk (bmul st x y) = bk st + (x.toNat + x.toNat * y.toNat) := rfl
  have key := k0 ⟨by rw [ec]; omega, by rw [ec]; omega, by rw [ek]; omega, by rw [ek]; omega⟩ S.heap locs ls hR' hS' hL S rfl (by
    rw [ec, ek, show bc st + (1 + x.toNat) - bc s0 = bc st - bc s0 + 1 + x.toNat by omega, show bk st + (x.toNat + x.toNat * y.toNat) - bk s0 = bk st - bk s0 + x.toNat + x.toNat * y.toNat by omega]
    exact X1)
  obtain ⟨t, z1, z2⟩ := key
  refine ⟨t, step t ?_, z2⟩
  have e : bd (2, (bnx st : Int)) = .ref (bnx st) := brv_nat _
  rw [List.map_cons, e, ← hR.1, ← hT] at z1
  exact z1
end R4
section R5
variable {κ : bK} {Γ0 : bG} {l0 : Launch} {cc : ByteArray} {own : String} {nL fr lo : Nat} {st st' : bS} {pc : Nat} {L L2 : List (Nat × bV)} {stk : List bV} {x y a i v : Int}
theorem b_Zat {Γ : bG} {H : Heap} {C n d : String} {w : Value} {U : State} (hR : bRep Γ st H) (h : va_Z C n d w (fun z => Γ.2.1 ≤ z) U Γ.2.2.1) : va_Z C n d w (bA Γ) U H := by
  obtain ⟨cf, kf, fi, f, a, cell, h1, h2, h3, h4, h5, h6, h7, h8⟩ := h
  exact ⟨cf, kf, fi, f, a, cell, h1, h2, h3, h4, by rw [hR.2.2.1 a (Nat.lt_of_not_le h8)]; exact h5, h6, h7, h8⟩
theorem b_gets {p : Program} {l : Launch} {e : Env} {R : Room} {s : State} {m : MethodId} {args : Array Value} {below : List Frame} {meth : Method} {c : Code} {H : Heap} {locs : List Loc} {cells slots : Nat} {Q : State → Prop} {ls : Array Slot} {rest : List Value} {A : Nat → Prop} (hexec : p.tables.exec = Jvm.exec) (hb : c.code = cc) {C n d ref : String} {w : Value} {index : Nat} (hZ : va_Z C n d w A s H) (hown : s.vm.findClass own = some m.cls) (hlink : (Cond.fieldLink own index ref n d).before args s = true) (hsame : C = ref) (hdg : decode cc pc = .ok (.getstatic index, 3))
    (kk : W p l e R s m args below meth c H locs cells slots Q (F0 m (pc + 3) ls (w :: rest))) : W p l e R s m args below meth c H locs cells slots Q (F0 m pc ls rest) := by
  subst hsame
  obtain ⟨cf, kf, fi, f, a, cell, h1, h2, h3, h4, h5, h6, h7, h8⟩ := hZ
  exact W.gets hexec hb hown hlink h1 h2 h3 h4 h5 (fun e => by rw [e] at h6; cases h6) h7 rfl hdg kk
theorem r_getsR (hκ : bOk κ Γ0 l0 cc own nL fr lo) {index j : Nat} {C n d : String} (hm : (C, n, d, j) ∈ bsref) (hl : Cond.fieldLink own index C n d ∈ lw_all) (hd : decode cc pc = .ok (.getstatic index, 3)) (k : bJ κ st (pc + 3) L ((2, bg st 1 (-(2 + (j : Int))) 0) :: stk)) : bJ κ st pc L stk := by
  refine bJ_same hκ (fun p l e R s m args below meth c Q Γ s0 n H locs ls q1 q2 hn hx hb hK hts hown hR hL kk => ?_) k
  have h := kk ls hL
  have e : bg st 1 (-(2 + (j : Int))) 0 = Γ.2.2.2.2 j := hR.2.2.2.2.1.2 j
  rw [List.map_cons, e] at h
  exact b_gets hx hb (b_Zat hR (hK.2.2.2.2.2.2.2.2.2.1 _ hm)) hown (hts _ hl) rfl hd h
theorem r_getsI (hκ : bOk κ Γ0 l0 cc own nL fr lo) {index : Nat} {C n d : String} (hm : (C, n, d, x) ∈ bsint) (hl : Cond.fieldLink own index C n d ∈ lw_all) (hd : decode cc pc = .ok (.getstatic index, 3)) (k : bJ κ st (pc + 3) L ((0, x) :: stk)) : bJ κ st pc L stk := by
  refine bJ_same hκ (fun p l e R s m args below meth c Q Γ s0 n H locs ls q1 q2 hn hx hb hK hts hown hR hL kk => ?_) k
  exact b_gets hx hb (b_Zat hR (hK.2.2.2.2.2.2.2.2.2.2.1 _ hm)) hown (hts _ hl) rfl hd (kk ls hL)
theorem r_ldcs (hκ : bOk κ Γ0 l0 cc own nL fr lo) {index j : Nat} {tx : String} (hm : (own, index, tx, j) ∈ bstr) (hd : decode cc pc = .ok (.ldc index, 2)) (k : bJ κ st (pc + 2) L ((2, bg st 1 (-(2 + (j : Int))) 0) :: stk)) : bJ κ st pc L stk := by
  refine bJ_same hκ (fun p l e R s m args below meth c Q Γ s0 n H locs ls q1 q2 hn hx hb hK hts hown hR hL kk => ?_) k
  have h := kk ls hL
  have e : bg st 1 (-(2 + (j : Int))) 0 = Γ.2.2.2.2 j := hR.2.2.2.2.1.2 j
  obtain ⟨g1, g2⟩ := hK.2.2.2.2.2.2.2.2.2.2.2.1 _ hm
  rw [List.map_cons, e, show bd (2, Γ.2.2.2.2 j) = .ref (Γ.2.2.2.2 j).toNat from brv_ref g1] at h
  exact va_ldcS hx hb hown g2 hd h
end R5
section R6
variable {κ : bK} {Γ0 : bG} {l0 : Launch} {cc : ByteArray} {own : String} {nL fr lo : Nat} {st st' : bS} {pc : Nat} {L L2 : List (Nat × bV)} {stk : List bV} {x y a i v : Int}
theorem va_ldcsw {p : Program} {l : Launch} {e : Env} {R : Room} {s : State} {m : MethodId} {args : Array Value} {below : List Frame} {meth : Method} {c : Code} {H : Heap} {locs : List Loc} {cells slots : Nat} {Q : State → Prop} {ls : Array Slot} {rest : List Value} (hexec : p.tables.exec = Jvm.exec) (hb : c.code = cc) {tx : String} {index q : Nat} (hown : s.vm.findClass own = some m.cls) (hZ : vk_R own index tx q s) (hdg : decode cc pc = .ok (.ldc_w index, 3))
    (k : W p l e R s m args below meth c H locs cells slots Q (F0 m (pc + 3) ls (.ref q :: rest))) : W p l e R s m args below meth c H locs cells slots Q (F0 m pc ls rest) := by
  intro T hT X
  obtain ⟨t, a1, b1⟩ := k T hT X
  refine ⟨t, ?_, b1⟩
  have hconst : (Cond.stringRef own index tx).before args s = true := hZ.1
  have hev : (Term.string own index).eval args s none [] s = some (.ref q) := hZ.2
  obtain ⟨k, cf, i, a', hk, hcf, hcp, -, hr, hev'⟩ := Cond.stringRef_spec hown hconst
  cases hev.symm.trans hev'
  obtain ⟨k', hk', he⟩ := X.warmed.alike.2.2 _ _ hk
  have hr' : k'.resolved[index]? = some (some (.string q)) := by
    rcases X.warmed.entry hk hk' index with h | ⟨h, -⟩
    · rw [h]; exact hr
    · rw [hr] at h; cases h
  have hdg' : decode c.code (F0 m pc ls rest).pc = .ok (.ldc_w index, 3) := by rw [hb]; exact hdg
  jvm_step X.here [hexec, hdg', ldc_w.wp_string (e := e) (s := T) (f := F0 m pc ls rest) X.here.top hk' (by rw [he]; exact hcf) hcp hr']
  exact a1
theorem r_ldcsw (hκ : bOk κ Γ0 l0 cc own nL fr lo) {index j : Nat} {tx : String} (hm : (own, index, tx, j) ∈ bstr) (hd : decode cc pc = .ok (.ldc_w index, 3)) (k : bJ κ st (pc + 3) L ((2, bg st 1 (-(2 + (j : Int))) 0) :: stk)) : bJ κ st pc L stk := by
  refine bJ_same hκ (fun p l e R s m args below meth c Q Γ s0 n H locs ls q1 q2 hn hx hb hK hts hown hR hL kk => ?_) k
  have h := kk ls hL
  have e : bg st 1 (-(2 + (j : Int))) 0 = Γ.2.2.2.2 j := hR.2.2.2.2.1.2 j
  obtain ⟨g1, g2⟩ := hK.2.2.2.2.2.2.2.2.2.2.2.1 _ hm
  rw [List.map_cons, e, show bd (2, Γ.2.2.2.2 j) = .ref (Γ.2.2.2.2 j).toNat from brv_ref g1] at h
  exact va_ldcsw hx hb hown g2 hd h
theorem r_anew (hκ : bOk κ Γ0 l0 cc own nL fr lo) {index t : Nat} {C : String} (hl : Cond.classLink own index C ∈ lw_all) (hov : C ∈ baover) (hty : btys[t]? = some (.object C)) (h6 : 6 ≤ t ∧ t < 10) (hx1 : 0 ≤ x ∧ x ≤ 67108864) (hroom : bc st + 1 ≤ bCM ∧ bk st + x.toNat ≤ bKM) (hd : decode cc pc = .ok (.anewarray index, 3)) (kk : ∀ st', st' = bnw st ((t + 1000 : Nat) : Int) x x.toNat → bJ κ st' (pc + 3) L ((2, (bnx st : Int)) :: stk)) : bJ κ st pc L ((0, x) :: stk) := by
  have k0 := kk _ rfl
  obtain ⟨p, l, e, R, s, m, args, below, meth, c, Q, Γ, s0, nn⟩ := κ
  obtain ⟨hx, hb, o3, hown, hts, hK, o7, o8, o9, o10, -⟩ := hκ
  intro hle H locs ls hR hS hL
  obtain ⟨l1, l2, l3, l4⟩ := id hle
  obtain ⟨r1, r2⟩ := hroom
  have ex := i32_clamp hx1.1 (by omega)
  have her : ber (t + 1000) = 10 := by
    obtain ⟨q1, q2⟩ := h6
    rcases (show t = 6 ∨ t = 7 ∨ t = 8 ∨ t = 9 by omega) with h | h | h | h <;> subst h <;> rfl
  have hk2 : (bty Γ)[t]? = some (Γ.2.2.2.1 t, .object C) := by simp [bty, hty]
  refine W.anew hx hb hown (hts _ hl) (va_AO.use (hK.2.2.2.2.2.2.2.2.1 C hov)) rfl hd (n := i32 x) rfl (fun q => ?_) (by rw [ex]; omega) (by rw [o9]; omega) (by rw [o10, ex]; omega) fun cA kA comp f1 f2 f3 f4 => ?_
  · have h0 : (0 : Int32) = i32 0 := rfl
    rw [h0, i32_lt (by omega) (by omega)] at q
    omega
  · obtain ⟨kA2, comp2, g1, g2, g3, g4⟩ := (hK.1.2 t _ hk2).2
    have hcA : cA = Γ.2.2.2.1 t := Option.some.inj (f1.symm.trans g4)
    subst hcA
    rw [ex, arrV_new]
    generalize hH' : H.push (arrV (Γ.2.2.2.1 t) x.toNat (fun _ => Value.null)) = H'
    have hz : H'.size = H.size + 1 := by rw [← hH', Array.size_push]
    have hH : ∀ q : Nat, q < H.size → H'[q]? = H[q]? := fun q hq => by rw [← hH', Array.getElem?_push, if_neg (Nat.ne_of_lt hq)]
    have hcell : H'[H.size]? = some (arrV (Γ.2.2.2.1 t) x.toNat (fun _ => Value.null)) := by rw [← hH', Array.getElem?_push_size]
    have hR' := hR.newarr (t := t) (er := 10) (n := x) her (by decide) (show Value.null = _ from rfl) (fun ty hty9 => by rw [Option.some.inj (hty9.symm.trans hty)]; rfl) hx1.1 (by omega) hz hH hcell
    have key := k0 ⟨by rw [bc_bnw]; omega, by rw [bc_bnw]; omega, by rw [bk_bnw]; omega, by rw [bk_bnw]; omega⟩ H' locs ls hR' (hS.pushed hz hH) hL
    rw [bc_bnw, bk_bnw] at key
    rw [show bc st - bc s0 + 1 = bc st + 1 - bc s0 by omega, show bk st - bk s0 + x.toNat = bk st + x.toNat - bk s0 by omega]
    have e : bd (2, (bnx st : Int)) = .ref (bnx st) := brv_nat _
    rw [List.map_cons, e, ← hR.1] at key
    exact key
end R6
