set_option maxRecDepth 100000
/-! ROWS 4: System.arraycopy -/
def bcp (s : bS) (r : Nat) (a sp b dp n : Int) : bS := (fun r' a' i' => if r' = r ∧ a' = b ∧ dp ≤ i' ∧ i' < dp + n then s.1 r a (sp + (i' - dp)) else s.1 r' a' i', s.2)
theorem bRep.copy {Γ : bG} {st : bS} {H H' : Heap} {a b t er : Nat} {sp dp n : Int} (hR : bRep Γ st H) (hlow : Γ.2.1 ≤ b) (ha : bg st 0 (a : Int) 0 = ((t + 1000 : Nat) : Int)) (hb : bg st 0 (b : Int) 0 = ((t + 1000 : Nat) : Int)) (her : ber (t + 1000) = er) (h8 : 8 ≤ er) (h1 : 0 ≤ sp) (h2 : 0 ≤ dp) (h3 : 0 ≤ n) (h4 : sp + n ≤ bg st 4 a 0) (h5 : dp + n ≤ bg st 4 b 0)
    (hsz : H'.size = H.size) (hH : ∀ q : Nat, q ≠ b → H'[q]? = H[q]?) (hnew : H'[b]? = some (arrV (Γ.2.2.2.1 t) (bg st 4 b 0).toNat (fun j => bval er (va_cpy (fun j : Nat => bg st er a j) (fun j : Nat => bg st er b j) sp.toNat dp.toNat n.toNat j)))) : bRep Γ (bcp st er a sp b dp n) H' := by
  have hm : ∀ j : Nat, (bcp st er a sp b dp n).1 er b j = va_cpy (fun j : Nat => bg st er a j) (fun j : Nat => bg st er b j) sp.toNat dp.toNat n.toNat j := fun j => by
    show (if er = er ∧ (b : Int) = (b : Int) ∧ dp ≤ (j : Int) ∧ (j : Int) < dp + n then st.1 er a (sp + ((j : Int) - dp)) else st.1 er b j) = _
    unfold va_cpy
    by_cases q : dp ≤ (j : Int) ∧ (j : Int) < dp + n
    · rw [if_pos ⟨rfl, rfl, q⟩, if_pos (by omega)]
      have e9 : sp + ((j : Int) - dp) = ((sp.toNat + (j - dp.toNat) : Nat) : Int) := by omega
      rw [e9]
      rfl
    · rw [if_neg (by intro z; exact q z.2.2), if_neg (by omega)]
      rfl
  refine hR.upd b hlow rfl (fun r' c j hc => ?_) ?_ ?_ hsz hH (fun t2 q2 q3 => ?_)
  · show (if r' = er ∧ c = (b : Int) ∧ dp ≤ j ∧ j < dp + n then _ else _) = _
    rw [if_neg (by intro q; exact hc q.2.1)]
  · show (if 0 = er ∧ (b : Int) = (b : Int) ∧ dp ≤ (0 : Int) ∧ (0 : Int) < dp + n then _ else _) = _
    rw [if_neg (by intro q; omega)]
  · show (if 1 = er ∧ (-1 : Int) = (b : Int) ∧ dp ≤ (0 : Int) ∧ (0 : Int) < dp + n then _ else _) = _
    rw [if_neg (by intro q; omega)]
  · have e : t2 = t + 1000 := by
      have q4 : bg st 0 (b : Int) 0 = (t2 : Int) := q2
      rw [hb] at q4
      omega
    subst e
    have e4 : (bcp st er a sp b dp n).1 4 b 0 = bg st 4 b 0 := by
      show (if 4 = er ∧ (b : Int) = (b : Int) ∧ dp ≤ (0 : Int) ∧ (0 : Int) < dp + n then _ else _) = _
      rw [if_neg (by intro q; omega)]
      rfl
    unfold bat
    rw [if_neg (by omega), e4, Nat.add_sub_cancel, her]
    refine ⟨?_, (hR.arr hb).2.1, (hR.arr hb).2.2, fun j ty hj hty => ?_⟩
    · rw [hnew]
      congr 2
      funext j
      rw [hm]
    · rw [hm]
      unfold va_cpy
      by_cases q : dp.toNat ≤ j ∧ j < dp.toNat + n.toNat
      · rw [if_pos q]
        have := hR.arrfit (j := sp.toNat + (j - dp.toNat)) ha (by omega) hty
        rw [her] at this
        exact this
      · rw [if_neg q]
        have := hR.arrfit (j := j) hb hj hty
        rw [her] at this
        exact this
section R7
variable {κ : bK} {Γ0 : bG} {l0 : Launch} {cc : ByteArray} {own : String} {nL fr lo : Nat} {st st' : bS} {pc : Nat} {L L2 : List (Nat × bV)} {stk : List bV} {x y a b i v sp dp n : Int}
theorem i32_nn {z : Int} (h : 0 ≤ z ∧ z < 2147483648) : ¬ i32 z < 0 ∧ (i32 z).toNatClampNeg = z.toNat ∧ (i32 z).toInt = ((i32 z).toNatClampNeg : Int) := by
  have e := i32_clamp h.1 h.2
  refine ⟨fun q => ?_, e, ?_⟩
  · have h0 : (0 : Int32) = i32 0 := rfl
    rw [h0, i32_lt (by omega) (by omega)] at q
    omega
  · rw [e, i32_toInt (by omega)]
    omega
/-- System.arraycopy between two arrays of one kind: t its place; elements that are references may lie in Object[] alone -/
theorem r_acopy (hκ : bOk κ Γ0 l0 cc own nL fr lo) {index t er : Nat} (ha : bg st 0 a 0 = ((t + 1000 : Nat) : Int)) (hb0 : bg st 0 b 0 = ((t + 1000 : Nat) : Int)) (ht : t < 6 ∨ t = 6) (her : ber (t + 1000) = er) (h1 : 0 ≤ sp) (h2 : 0 ≤ dp) (h3 : 0 ≤ n) (h4 : sp + n ≤ bg st 4 a 0) (h5 : dp + n ≤ bg st 4 b 0) (hlo : bg st 1 (-1) 0 ≤ b)
    (hel : t = 6 → ∀ j : Nat, (j : Int) < n → bg st 10 a (sp + j) < 0 ∨ ∃ ci r, bg st 0 (bg st 10 a (sp + j)) 0 = ((ci + 1 : Nat) : Int) ∧ bcls[ci]? = some r ∧ (r.1, "java/lang/Object") ∈ bcast)
    (hl : Cond.methodLink own index arraycopyName ∈ lw_all) (hnat : Cond.native arraycopyName ∈ lw_all) (hst : Cond.static arraycopyName ∈ lw_all) (hini : Cond.initialized "java/lang/System" ∈ lw_all) (hf : 1 ≤ fr ∧ 8 + (nativeFrameWords "java/lang/System" "arraycopy" 5 + 11) ≤ lo) (hW : bsz stk ≤ 8) (hd : decode cc pc = .ok (.invokestatic index, 3)) (kk : ∀ st', st' = bcp st er a sp b dp n → bJ κ st' (pc + 3) L stk) : bJ κ st pc L ((0, n) :: (0, dp) :: (2, b) :: (0, sp) :: (2, a) :: stk) := by
  have k0 := kk _ rfl
  obtain ⟨p, l, e, R, s, m, args, below, meth, c, Q, Γ, s0, nn⟩ := κ
  obtain ⟨hx, hb, o3, hown, hts, hK, o7, o8, o9, o10, o11, o12, rfl, rfl⟩ := hκ
  intro hle H locs ls hR hS hL
  obtain ⟨a, rfl, -, -⟩ := hR.nat (a := a) (by rw [ha]; omega)
  obtain ⟨b, rfl, -, -⟩ := hR.nat (a := b) (by rw [hb0]; omega)
  have h8 : bg st 1 (-1) 0 = (Γ.2.1 : Int) := hR.2.2.2.2.1.1
  have hlow : Γ.2.1 ≤ b := by omega
  obtain ⟨ca, a1, a2⟩ := hR.arr ha
  obtain ⟨cb, b1, b2⟩ := hR.arr hb0
  rw [her] at ca cb
  obtain ⟨u1, u2, u3⟩ := i32_nn (z := sp) (by omega)
  obtain ⟨v1, v2, v3⟩ := i32_nn (z := dp) (by omega)
  obtain ⟨w1, w2, w3⟩ := i32_nn (z := n) (by omega)
  obtain ⟨ty, hty, hpr⟩ : ∃ ty, btys[t]? = some ty ∧ (t = 6 ∧ ty = .object "java/lang/Object" ∨ refKind ty = false) := by
    rcases ht with h | h
    · rcases (show t = 0 ∨ t = 1 ∨ t = 2 ∨ t = 3 ∨ t = 4 ∨ t = 5 by omega) with h | h | h | h | h | h <;> subst h <;> exact ⟨_, rfl, Or.inr rfl⟩
    · subst h
      exact ⟨_, rfl, Or.inl ⟨rfl, rfl⟩⟩
  have hk2 : (bty Γ)[t]? = some (Γ.2.2.2.1 t, ty) := by simp [bty, hty]
  have e1 : bd (2, (a : Int)) = .ref a := brv_nat a
  have e2 : bd (2, (b : Int)) = .ref b := brv_nat b
  rw [List.map_cons, List.map_cons, List.map_cons, List.map_cons, List.map_cons, e1, e2]
  intro T hT X
  obtain ⟨-, k1, hk1, cm1, hkk1⟩ := (hK.1.2 t _ hk2).1 0 (fun _ => .null)
  have k1' : s.vm.classes[Γ.2.2.2.1 t]? = some k1 := hk1
  have hrm := b_room (m := m) (pc := pc) (ls := ls) (stk0 := []) hW
  have h4' : sp.toNat + n.toNat ≤ (bg st 4 a 0).toNat := by omega
  obtain ⟨vm', X', step⟩ := X.arraycopy hx hown (hts _ hl) (hts _ hnat) (hts _ hst) (hts _ hini) (src := a) (dst := b) (srcPos := i32 sp) (destPos := i32 dp) (n := i32 n) (by rw [hT]; exact ca) (by rw [hT]; exact cb)
    (fun _ h => by cases h) (fun _ h => by cases h) (fun h => by cases h) (fun h => by cases h) k1' k1' hkk1 hkk1 (by show (refKind ty != refKind ty || (!refKind ty && ty != ty)) = false; cases refKind ty <;> simp) u1 v1 w1
    (by rw [u3, w3, u2, w2]; show ¬ _ > ((arrV _ _ _).slots.size : Int); rw [arrV_size]; omega)
    (by rw [v3, w3, v2, w2]; show ¬ _ > ((arrV _ _ _).slots.size : Int); rw [arrV_size]; omega)
    (fun vm₁ hal j hj => by
      rw [w2] at hj
      have ev : (arrV (Γ.2.2.2.1 t) (bg st 4 a 0).toNat (fun j => bval er (bg st er a j))).slots.getD ((i32 sp).toNatClampNeg + j) .null = bval er (bg st er a ((sp.toNat + j : Nat) : Int)) := by
        rw [u2, Array.getD_eq_getD_getElem?, arrV_read _ _ (by omega)]
        rfl
      rw [ev]
      have hfit := hR.arrfit (j := sp.toNat + j) ha (by omega) hty
      rw [her] at hfit
      refine ⟨hfit, ?_⟩
      rcases hpr with ⟨h6, rfl⟩ | hp
      · have e7 : sp + (j : Int) = ((sp.toNat + j : Nat) : Int) := by omega
        have hz := hel h6 j (by omega)
        rw [e7] at hz
        subst h6
        cases her
        rcases hz with hz | ⟨ci, r, q1, q2, q3⟩
        · rw [show bval (ber (6 + 1000)) (bg st (ber (6 + 1000)) a ((sp.toNat + j : Nat) : Int)) = .null from brv_null hz]
          trivial
        · obtain ⟨y, ey, cell, g1, g2, g3⟩ := b_recv hR hK q1 q2
          rw [show bval (ber (6 + 1000)) (bg st (ber (6 + 1000)) a ((sp.toNat + j : Nat) : Int)) = .ref y from by
            show brv (bg st 10 a ((sp.toNat + j : Nat) : Int)) = _
            rw [ey]; exact brv_nat y]
          obtain ⟨kA, comp, r1, r2, r3, -⟩ := (hK.1.2 6 _ hk2).2
          cases k1'.symm.trans r1
          cases hkk1.symm.trans r2
          obtain ⟨kC, hkC, -⟩ := Vm.findClass_spec g3
          obtain ⟨kE, hkE, -⟩ := Vm.findClass_spec r3
          obtain ⟨kC', hkC', -⟩ := hal.2.2 _ _ hkC
          obtain ⟨kE', hkE', -⟩ := hal.2.2 _ _ hkE
          refine ⟨cell, (show T.heap[y]? = some cell by rw [hT]; exact g1), (fun q h => by rw [h] at g2; cases g2), ⟨kC', hkC'⟩, ⟨kE', hkE'⟩, ?_⟩
          show vm₁.assignable _ _ = true
          rw [hal.assignable]
          exact vb_asgC (hK.2.2.1 _ q3) _ _ r3 g3
      · have h6' : t < 6 := by
          rcases ht with h | h
          · exact h
          · subst h
            cases hty
            cases hp
        rcases (show t = 0 ∨ t = 1 ∨ t = 2 ∨ t = 3 ∨ t = 4 ∨ t = 5 by omega) with h | h | h | h | h | h <;> subst h <;> cases her <;> exact trivial)
    (g := F0 m pc ls (.int (i32 n) :: .int (i32 dp) :: .ref b :: .int (i32 sp) :: .ref a :: stk.map bd)) rfl (by show ls.size = c.maxLocals; rw [hL.1, o3]) (rest := stk.map bd) rfl (by rw [hb]; exact hd) (by omega) (by rw [bsz_sum]; show 2 * 0 + _ + _ ≤ _; omega)
  have ec : copied (arrV (Γ.2.2.2.1 t) (bg st 4 a 0).toNat (fun j => bval er (bg st er a j))) (arrV (Γ.2.2.2.1 t) (bg st 4 b 0).toNat (fun j => bval er (bg st er b j))) (i32 sp) (i32 dp) (i32 n) = arrV (Γ.2.2.2.1 t) (bg st 4 b 0).toNat (fun j => bval er (va_cpy (fun j : Nat => bg st er a j) (fun j : Nat => bg st er b j) sp.toNat dp.toNat n.toNat j)) := by
    have := va_copied (fun z => bval er z) (Γ.2.2.2.1 t) (Γ.2.2.2.1 t) (n0 := (bg st 4 a 0).toNat) (n1 := (bg st 4 b 0).toNat) (dp := (i32 dp).toNatClampNeg) (fun j : Nat => bg st er a j) (fun j : Nat => bg st er b j) (sp := (i32 sp).toNatClampNeg) (n := (i32 n).toNatClampNeg) (by rw [u2, w2]; exact h4')
    rw [u2, v2, w2] at this
    rw [← this]
    show _ = _
    unfold copied
    rw [u2, v2, w2]
  rw [ec] at X' step
  generalize hC : arrV (Γ.2.2.2.1 t) (bg st 4 b 0).toNat (fun j => bval er (va_cpy (fun j : Nat => bg st er a j) (fun j : Nat => bg st er b j) sp.toNat dp.toNat n.toNat j)) = C at X' step
  have hl2 : b < H.size := (Array.getElem?_eq_some_iff.mp cb).1
  have hheap : ((T.setVm vm').setCell b C).heap = H.setIfInBounds b C := by rw [← hT]; rfl
  have oq : ∀ q : Nat, q ≠ b → (H.setIfInBounds b C)[q]? = H[q]? := fun q hq => by simp [Array.getElem?_setIfInBounds, Ne.symm hq]
  have hnew : (H.setIfInBounds b C)[b]? = some C := by simp [Array.getElem?_setIfInBounds, hl2]
  have h8e : 8 ≤ er := by
    rw [← her]
    rcases (show t = 0 ∨ t = 1 ∨ t = 2 ∨ t = 3 ∨ t = 4 ∨ t = 5 ∨ t = 6 by omega) with h | h | h | h | h | h | h <;> subst h <;> decide
  have hR' := hR.copy hlow ha hb0 her h8e h1 h2 h3 h4 h5 (by simp) oq (by rw [hnew, hC])
  obtain ⟨t9, z1, z2⟩ := k0 hle _ _ ls hR' ⟨by simp; exact hS.1, fun q g1 g2 => by
      rw [oq q (fun e => g2 (by rw [e]; exact hlow))]
      exact hS.2.1 q g1 g2, fun q hq => by
      rcases List.mem_append.mp hq with h | h
      · exact hS.2.2 q h
      · obtain ⟨z, -, hz⟩ := List.mem_map.mp h
        rw [← hz]
        exact hlow⟩ hL _ hheap X'
  exact ⟨t9, step t9 z1, z2⟩
end R7
