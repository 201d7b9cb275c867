set_option maxRecDepth 100000
/-! ROWS 6: casts and tests with arrays too -/
def bnm (t : Nat) : Option String := if t < 1000 then (bcls[t - 1]?).map (·.1) else (btys[t - 1000]?).map fun ty => "[" ++ ty.toString
theorem va_RA.name {s : State} {cA : ClassId} {ty : FieldType} (h : va_RA s cA ty) : s.vm.findClass ("[" ++ ty.toString) = some cA := by
  cases ty with
  | object C => exact va_nmO h rfl
  | _ => exact h
section R9
variable {κ : bK} {Γ0 : bG} {l0 : Launch} {cc : ByteArray} {own : String} {nL fr lo : Nat} {st st' : bS} {pc : Nat} {L L2 : List (Nat × bV)} {stk : List bV} {x y a b i v sp dp n : Int}
theorem b_recv2 {Γ : bG} {H : Heap} {t : Nat} {C : String} {s : State} (hR : bRep Γ st H) (hK : bKK Γ s) (hv : bg st 0 x 0 = (t : Int)) (h0 : t ≠ 0) (hc : bnm t = some C) : ∃ v : Nat, x = (v : Int) ∧ ∃ cell : Cell, H[v]? = some cell ∧ cell.vm.isStatics = false ∧ s.vm.findClass C = some cell.cls := by
  unfold bnm at hc
  split at hc
  · obtain ⟨r, hr, rfl⟩ := Option.map_eq_some_iff.mp hc
    exact b_recv hR hK (ci := t - 1) (by rw [hv]; omega) hr
  · obtain ⟨ty, hr, rfl⟩ := Option.map_eq_some_iff.mp hc
    obtain ⟨v, rfl, -, -⟩ := hR.nat (a := x) (by rw [hv]; omega)
    obtain ⟨ca, -, -⟩ := hR.arr (a := v) (t := t - 1000) (by rw [hv]; omega)
    have hk2 : (bty Γ)[t - 1000]? = some (Γ.2.2.2.1 (t - 1000), ty) := by simp [bty, hr]
    exact ⟨v, rfl, _, ca, rfl, (hK.1.2 _ _ hk2).2.name⟩
theorem r_castG (hκ : bOk κ Γ0 l0 cc own nL fr lo) {index : Nat} {nm : String} (hl : Cond.classLink own index nm ∈ lw_all) (hv : x < 0 ∨ ∃ (t : Nat) (C : String), bg st 0 x 0 = (t : Int) ∧ t ≠ 0 ∧ bnm t = some C ∧ (C = nm ∨ (C, nm) ∈ bcast)) (hd : decode cc pc = .ok (.checkcast index, 3)) (k : bJ κ st (pc + 3) L ((2, x) :: stk)) : bJ κ st pc L ((2, x) :: stk) := by
  refine bJ_same hκ (fun p l e R s m args below meth c Q Γ s0 n H locs ls q1 q2 hn hx hb hK hts hown hR hL kk => ?_) k
  have h := kk ls hL
  rw [List.map_cons] at h ⊢
  rcases hv with hv | ⟨t, C, hv1, hv0, hv2, hv3⟩
  · rw [show bd (2, x) = .null from brv_null hv] at h ⊢
    exact lv_castN hx hb hd h
  · obtain ⟨v, rfl, cell, g1, g2, g3⟩ := b_recv2 hR hK hv1 hv0 hv2
    rw [show bd (2, (v : Int)) = .ref v from brv_nat v] at h ⊢
    rcases hv3 with e | e
    · subst e
      intro T hT X
      obtain ⟨vm', X', st⟩ := X.checkcastYes hx hown (hts _ hl) (by rw [hT]; exact g1) g2 g3 (va_asg _ _) (g := F0 m pc ls (.ref v :: stk.map bd)) rfl rfl (by rw [hb]; exact hd)
      obtain ⟨t, a1, b1⟩ := h (T.setVm vm') hT X'
      exact ⟨t, st t a1, b1⟩
    · exact va_castY hx hb hown (hts _ hl) (hK.2.2.1 _ e) ⟨cell, g1, g2, g3⟩ hd h
theorem r_instGY (hκ : bOk κ Γ0 l0 cc own nL fr lo) {index : Nat} {nm : String} (hl : Cond.classLink own index nm ∈ lw_all) (hv : ∃ (t : Nat) (C : String), bg st 0 x 0 = (t : Int) ∧ t ≠ 0 ∧ bnm t = some C ∧ (C = nm ∨ (C, nm) ∈ bcast)) (hd : decode cc pc = .ok (.instanceof index, 3)) (k : bJ κ st (pc + 3) L ((0, 1) :: stk)) : bJ κ st pc L ((2, x) :: stk) := by
  refine bJ_same hκ (fun p l e R s m args below meth c Q Γ s0 n H locs ls q1 q2 hn hx hb hK hts hown hR hL kk => ?_) k
  have h := kk ls hL
  rw [List.map_cons] at h ⊢
  obtain ⟨t, C, hv1, hv0, hv2, hv3⟩ := hv
  obtain ⟨v, rfl, cell, g1, g2, g3⟩ := b_recv2 hR hK hv1 hv0 hv2
  rw [show bd (2, (v : Int)) = .ref v from brv_nat v]
  rcases hv3 with e | e
  · subst e
    intro T hT X
    obtain ⟨vm', X', st⟩ := X.instanceofYes hx hown (hts _ hl) (by rw [hT]; exact g1) g2 g3 (va_asg _ _) (g := F0 m pc ls (.ref v :: stk.map bd)) rfl rfl (by rw [hb]; exact hd)
    obtain ⟨t, a1, b1⟩ := h (T.setVm vm') hT X'
    exact ⟨t, st t a1, b1⟩
  · exact va_instY hx hb hown (hts _ hl) (hK.2.2.1 _ e) ⟨cell, g1, g2, g3⟩ hd h
theorem r_instGN (hκ : bOk κ Γ0 l0 cc own nL fr lo) {index : Nat} {nm : String} (hl : Cond.classLink own index nm ∈ lw_all) (hv : x < 0 ∨ ∃ (t : Nat) (C : String), bg st 0 x 0 = (t : Int) ∧ t ≠ 0 ∧ bnm t = some C ∧ (C, nm) ∈ bncast) (hd : decode cc pc = .ok (.instanceof index, 3)) (k : bJ κ st (pc + 3) L ((0, 0) :: stk)) : bJ κ st pc L ((2, x) :: stk) := by
  refine bJ_same hκ (fun p l e R s m args below meth c Q Γ s0 n H locs ls q1 q2 hn hx hb hK hts hown hR hL kk => ?_) k
  have h := kk ls hL
  rw [List.map_cons] at h ⊢
  rcases hv with hv | ⟨t, C, hv1, hv0, hv2, e⟩
  · rw [show bd (2, x) = .null from brv_null hv]
    exact lv_instN hx hb hd h
  · obtain ⟨v, rfl, cell, g1, g2, g3⟩ := b_recv2 hR hK hv1 hv0 hv2
    rw [show bd (2, (v : Int)) = .ref v from brv_nat v]
    exact va_instNo hx hb hown (hts _ hl) (hK.2.2.2.2.2.1 _ e) ⟨cell, g1, g2, g3⟩ hd h
end R9
/-- null, or an object of one of the classes of the table -/
abbrev bob (s : bS) (x : Int) : Prop := x < 0 ∨ (1 ≤ bg s 0 x 0 ∧ bg s 0 x 0 ≤ 25)
theorem bob_cls : ∀ ci : Nat, ci < 25 → ∃ r, bcls[ci]? = some r ∧ (r.1, "java/lang/Object") ∈ bcast := by
  intro ci h
  have key : ∀ ci ∈ List.range 25, ((bcls[ci]?).map fun r => decide ((r.1, "java/lang/Object") ∈ bcast)) = some true := by decide +kernel
  have := key ci (List.mem_range.mpr h)
  obtain ⟨r, h1, h2⟩ := Option.map_eq_some_iff.mp this
  exact ⟨r, h1, of_decide_eq_true h2⟩
theorem bob_all {s : bS} {a sp n : Int} (h : ∀ j9 : Nat, j9 < n.toNat → bob s (bg s 10 a (sp + j9))) : ∀ j : Nat, (j : Int) < n → bg s 10 a (sp + j) < 0 ∨ ∃ ci r, bg s 0 (bg s 10 a (sp + j)) 0 = ((ci + 1 : Nat) : Int) ∧ bcls[ci]? = some r ∧ (r.1, "java/lang/Object") ∈ bcast := by
  intro j hj
  rcases h j (by omega) with h | ⟨h1, h2⟩
  · exact Or.inl h
  · obtain ⟨r, h3, h4⟩ := bob_cls (bg s 0 (bg s 10 a (sp + j)) 0 - 1).toNat (by omega)
    exact Or.inr ⟨_, r, by omega, h3, h4⟩
