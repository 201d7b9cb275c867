set_option maxRecDepth 100000
/-! ROWS 7: private methods of a superclass -/
theorem b_gP {sl a b d e : Cond} {ws : List Cond} (gs : goodWord sl = true) (h1 : a ∈ lw_all) (h2 : b ∈ lw_all) (h3 : d ∈ lw_all) (h4 : e ∈ lw_all) (hw : GoodIn lw_all ws) : GoodIn (sl :: lw_all) ([a, b, sl, d, e] ++ ws) := by
  have h := lw_app (a := [a, b, d, e]) (fun w hw => by
    rcases List.mem_cons.mp hw with rfl | hw
    · exact h1
    rcases List.mem_cons.mp hw with rfl | hw
    · exact h2
    rcases List.mem_cons.mp hw with rfl | hw
    · exact h3
    rcases List.mem_cons.mp hw with rfl | hw
    · exact h4
    cases hw) hw
  intro w hw
  by_cases q : w = sl
  · subst q
    exact ⟨List.mem_cons_self, good_of_word gs⟩
  · have hm : w ∈ [a, b, d, e] ++ ws := by
      simp only [List.cons_append, List.nil_append, List.mem_cons] at hw ⊢
      rcases hw with hw | hw | hw | hw | hw | hw
      · exact Or.inl hw
      · exact Or.inr (Or.inl hw)
      · exact absurd hw q
      · exact Or.inr (Or.inr (Or.inl hw))
      · exact Or.inr (Or.inr (Or.inr (Or.inl hw)))
      · exact Or.inr (Or.inr (Or.inr (Or.inr hw)))
    exact ⟨List.mem_cons_of_mem _ (h w hm).1, (h w hm).2⟩
section BR7
variable {κ : bK} {Γ0 : bG} {l0 : Launch} {cc : ByteArray} {own : String} {nL fr lo : Nat} {st st2 : bS} {pc : Nat} {L : List (Nat × bV)} {stk : List bV} {x y a i : Int}
variable {b : ByteArray} {maxL frc loc n' index : Nat} {ret : Option FieldType} {av : List bV} {ov : Option bV} {stk0 : List bV}
theorem r_callP (hκ : bOk κ Γ0 l0 cc own nL fr lo) {x9 y : MethodName} {C owner : String} {t N : Nat} {T9 : u_T} (ct : bCt Γ0 l0 y b maxL ret frc loc ((2, a) :: av) st st2 ov) (hcw : ∀ (R : Room) (s : State) (args : Array Value), (∀ w ∈ lw_all, w.before args s = true) → (∀ q ∈ bsel, (Cond.selects q.1 q.2 q.2).before args s = true) → (frc + 1 ≤ R.frames ∧ 8 + (maxL + 11) + loc ≤ R.locals) → va_CU R s args own C owner index x9 y b maxL ret (ws_ y b maxL ret) (bRm st frc loc) (bRm st frc loc).cells (bRm st frc loc).slots n') (ht : bg st 0 a 0 = ((t + 1 : Nat) : Int)) (hc : bcls[t]? = some (C, T9, N)) (hlen : av.length = n') (hRR : frc + 1 ≤ fr ∧ 8 + (maxL + 11) + loc ≤ lo) (hstk : stk0 = av.reverse ++ (2, a) :: stk) (hW : bsz stk ≤ 8) (hd : decode cc pc = .ok (.invokevirtual index, 3)) (k : bJ κ st2 (pc + 3) L (ov.toList ++ stk)) : bJ κ st pc L stk0 := by
  obtain ⟨p, l, e, R, s, m, args, below, meth, c, Q, Γ, s0, n⟩ := κ
  obtain ⟨hx, hb, o3, hown, hts, hK, o7, o8, o9, o10, o11, o12, rfl, rfl⟩ := hκ
  intro hle H locs ls hR hS hL
  have hRm : (bRm st frc loc).frames + 1 ≤ R.frames ∧ 8 + (maxL + 11) + (bRm st frc loc).locals ≤ R.locals := by rw [o11, o12]; exact hRR
  have hf1 : bc st - bc s0 + (bCM - bc st) ≤ R.cells := by rw [o9]; obtain ⟨q1, q2, -⟩ := hle; omega
  have hf2 : bk st - bk s0 + (bKM - bk st) ≤ R.slots := by rw [o10]; obtain ⟨-, -, q1, q2⟩ := hle; omega
  obtain ⟨bb, rfl, -, -⟩ := hR.nat (a := a) (by rw [ht]; omega)
  have hOB := hR.obj ht hc
  obtain ⟨cellB, g1, g2, g3, -⟩ := hOB
  have hcls := (hK.1.1 t _ hc).2
  have hPc : ∀ U : State, U.heap = H → s.WarmedH U.vm → bPc Γ st ((2, (bb : Int)) :: av) ((Value.ref bb :: av.map bd).toArray) U := fun U hU hW => ⟨by show _ = ((bd (2, (bb : Int))) :: av.map bd).toArray; rw [show bd (2, (bb : Int)) = .ref bb from brv_nat bb], by rw [hU]; exact hR, bKK.moved hW hK, hle.2.1, hle.2.2.2⟩
  have cw := hcw R s args hts (fun q hq => va_Nw.use rfl (hK.2.2.2.2.2.2.2.2.2.2.2.2.2.2.1 q hq)) hRm
  obtain ⟨hrc, hrs, hfr, hlo, hws, hcw2⟩ := cw.back
  have hini := cw.init
  have hKb := back2 (sargs := args) (p := p) (e := e) (below := below) (W := 8) (len := 3) (bytes := b) (maxL := maxL) (ret := ret) ct (bPc_blind Γ st _) hfr hlo hws hcw2 (fun a' U hW => word_at hW (Or.inl (by first | rfl | simp [Cond.onTables, Cond.keeps, Cond.steady])) hini)
  have hlen2 := cw.len
  intro T hT X
  have hstk2 : stk0.map bd = (av.map bd).reverse ++ .ref bb :: stk.map bd := by
    rw [hstk, List.map_append, List.map_reverse]
    rw [List.map_cons, show bd (2, (bb : Int)) = .ref bb from brv_nat bb]
  rw [hstk2]
  exact b_fin k hle hS hL hT (va_callVU X hx (C := C) (owner := owner) (bytes := b) (maxL := maxL) (ret := ret) hown cw.link cw.same cw.decl cw.notMH cw.sel cw.inst cw.code hKb (b := bb) (by rw [hT]; exact g1) (by rw [g3]; rfl) (by rw [g2]; exact hcls.1) (g := F0 m pc ls _) rfl (by show ls.size = c.maxLocals; rw [hL.1, o3]) (argsL := av.map bd) (rest := stk.map bd) (fun sig h => by rw [List.length_map]; exact hlen.trans (hlen2 sig h)) rfl (b_room hW) (by rw [hb]; exact hd) (fun vm₁ hW₁ => ⟨hf1, hf2, hPc (T.setVm vm₁) hT hW₁⟩))
end BR7
