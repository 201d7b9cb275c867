/-! ROWS 8: calls that land in an interface's default method -/
theorem bKK.bdfF {Γ : bG} {U : State} (h : bKK Γ U) : ∀ q ∈ bdfF, va_FD q.1 q.2.1 q.2.2 U := h.2.2.2.2.2.2.2.2.2.2.2.2.2.2.2.1
theorem bKK.bdfV {Γ : bG} {U : State} (h : bKK Γ U) : ∀ q ∈ bdfV, va_VD q.1 q.2.1 q.2.2.1 q.2.2.2 U := h.2.2.2.2.2.2.2.2.2.2.2.2.2.2.2.2.1
theorem bKK.blam {Γ : bG} {U : State} (h : bKK Γ U) : ∀ (k : Nat) (q : MethodName × Nat × Nat × Lambda.Shape), blam[k]? = some q → bLm Γ U k q := h.2.2.2.2.2.2.2.2.2.2.2.2.2.2.2.2.2.1
theorem bKK.un {Γ : bG} {U : State} (h : bKK Γ U) : vx_Zq Bundle.tN "UNASSIGNED_STACK" Bundle.steD (fun z => Γ.2.1 ≤ z) U Γ.2.2.1 := h.2.2.2.2.2.2.2.2.2.2.2.2.2.2.2.2.2.2.1
theorem bKK.su {Γ : bG} {U : State} (h : bKK Γ U) : vx_Zq Bundle.tN "SUPPRESSED_SENTINEL" Bundle.listD (fun z => Γ.2.1 ≤ z) U Γ.2.2.1 := h.2.2.2.2.2.2.2.2.2.2.2.2.2.2.2.2.2.2.2.1
theorem bKK.vw {Γ : bG} {U : State} (h : bKK Γ U) : bvW U := h.2.2.2.2.2.2.2.2.2.2.2.2.2.2.2.2.2.2.2.2.1
theorem bKK.bdecl {Γ : bG} {U : State} (h : bKK Γ U) : ∀ x ∈ bdecl, va_Nw (.declares x) U := h.2.2.2.2.2.2.2.2.2.2.2.2.2.2.2.2.2.2.2.2.2.1
theorem bKK.bdw {Γ : bG} {U : State} (h : bKK Γ U) : ∀ w ∈ defaultWords_1, va_Nw w U := h.2.2.2.2.2.2.2.2.2.2.2.2.2.2.2.2.2.2.2.2.2.2.1
theorem bKK.bifm {Γ : bG} {U : State} (h : bKK Γ U) : ∀ x ∈ bifm, va_Nw (.interfaceMethod x.cls x.cls x.name x.desc) U := h.2.2.2.2.2.2.2.2.2.2.2.2.2.2.2.2.2.2.2.2.2.2.2.1
theorem dw_all {args : Array Value} {s : State} {Γ : bG} (hK : bKK Γ s) (hts : ∀ w ∈ lw_all, w.before args s = true) : ∀ w ∈ defaultWords_1 ++ lw_all, w.before args s = true := fun w hw => (List.mem_append.mp hw).elim (fun h => va_Nw.use (bdw_ok w h).2 (hK.bdw w h)) (hts w)
theorem dw_l {w : Cond} (h : w ∈ lw_all) : w ∈ defaultWords_1 ++ lw_all ∧ goodWord w = true := ⟨List.mem_append_right _ h, (List.mem_filter.mp h).2⟩
theorem dw_d {w : Cond} (i : Nat) (h : defaultWords_1[i]? = some w) : w ∈ defaultWords_1 ++ lw_all ∧ goodWord w = true := ⟨List.mem_append_left _ (List.mem_of_getElem? h), (bdw_ok w (List.mem_of_getElem? h)).1⟩
theorem dw_app {a b : List Cond} (ha : ∀ w ∈ a, w ∈ defaultWords_1 ++ lw_all ∧ goodWord w = true) (hb : GoodIn lw_all b) : GoodIn (defaultWords_1 ++ lw_all) (a ++ b) := fun w h => (List.mem_append.mp h).elim (fun h => ⟨(ha w h).1, good_of_word (ha w h).2⟩) (fun h => ⟨List.mem_append_right _ (hb w h).1, (hb w h).2⟩)
theorem dw_l6 {a0 a1 a2 a3 a4 a5 : Cond} {P : Cond → Prop} (h0 : P a0) (h1 : P a1) (h2 : P a2) (h3 : P a3) (h4 : P a4) (h5 : P a5) : ∀ w ∈ [a0, a1, a2, a3, a4, a5], P w := by
  intro w hw
  simp only [List.mem_cons, List.not_mem_nil, or_false] at hw
  rcases hw with e | e | e | e | e | e
  · exact e ▸ h0
  · exact e ▸ h1
  · exact e ▸ h2
  · exact e ▸ h3
  · exact e ▸ h4
  · exact e ▸ h5
section BR88
variable {κ : bK} {Γ0 : bG} {l0 : Launch} {cc : ByteArray} {own : String} {nL fr lo : Nat} {st st2 : bS} {pc : Nat} {L : List (Nat × bV)} {stk : List bV} {x y a i : Int}
variable {b : ByteArray} {maxL frc loc n' index : Nat} {ret : Option FieldType} {av : List bV} {ov : Option bV} {stk0 : List bV}
theorem r_callFD (hκ : bOk κ Γ0 l0 cc own nL fr lo) {x9 y : MethodName} {C : String} {count t N : Nat} {T9 : u_T} (ct : bCt Γ0 l0 y b maxL ret frc loc ((2, a) :: av) st st2 ov) (hw : GoodIn lw_all (ws_ y b maxL ret)) (hl0 : Cond.methodLink own index x9 ∈ lw_all) (hin0 : Cond.instanceMethod y ∈ lw_all) (hini0 : Cond.initialized y.cls ∈ lw_all) (hF : (C, x9, y) ∈ bdfF) (hd1 : x9.cls ≠ "java/lang/invoke/MethodHandle" ∧ x9.cls ≠ "java/lang/invoke/VarHandle" ∧ (parseMethodDescriptor x9.desc).map (fun d => d.parameters.length) = some n') (ht : bg st 0 a 0 = ((t + 1 : Nat) : Int)) (hc : bcls[t]? = some (C, T9, N)) (hlen : av.length = n') (hRR : frc + 1 ≤ fr ∧ 8 + (maxL + 11) + loc ≤ lo) (hstk : stk0 = av.reverse ++ (2, a) :: stk) (hW : bsz stk ≤ 8) (hd : decode cc pc = .ok (.invokeinterface index count, 5)) (k : bJ κ st2 (pc + 5) L (ov.toList ++ stk)) : bJ κ st pc L stk0 := by
  obtain ⟨p, l, e, R, s, m, args, below, meth, c, Q, Γ, s0, n⟩ := κ
  obtain ⟨hx, hb, o3, hown, hts, hK, o7, o8, o9, o10, o11, o12, rfl, rfl⟩ := hκ
  intro hle H locs ls hR hS hL
  have hRm : (bRm st frc loc).frames + 1 ≤ R.frames ∧ 8 + (maxL + 11) + (bRm st frc loc).locals ≤ R.locals := by rw [o11, o12]; exact hRR
  have hf1 : bc st - bc s0 + (bCM - bc st) ≤ R.cells := by rw [o9]; obtain ⟨q1, q2, -⟩ := hle; omega
  have hf2 : bk st - bk s0 + (bKM - bk st) ≤ R.slots := by rw [o10]; obtain ⟨-, -, q1, q2⟩ := hle; omega
  obtain ⟨bb, rfl, -, -⟩ := hR.nat (a := a) (by rw [ht]; omega)
  have hOB := hR.obj ht hc
  obtain ⟨cellB, g1, g2, g3, -⟩ := hOB
  have hcls := (hK.1.1 t _ hc).2
  have hPc : ∀ U : State, U.heap = H → s.WarmedH U.vm → bPc Γ st ((2, (bb : Int)) :: av) ((Value.ref bb :: av.map bd).toArray) U := fun U hU hW => ⟨by show _ = ((bd (2, (bb : Int))) :: av.map bd).toArray; rw [show bd (2, (bb : Int)) = .ref bb from brv_nat bb], by rw [hU]; exact hR, bKK.moved hW hK, hle.2.1, hle.2.2.2⟩
  obtain ⟨hfc, kB, hkB, -⟩ := hcls
  have hcode0 : Cond.code y b maxL ret ∈ ws_ y b maxL ret := List.mem_cons_self
  have hini := hts _ hini0
  have hKb := back2 (sargs := args) (p := p) (e := e) (below := below) (W := 8) (len := 5) (bytes := b) (maxL := maxL) (ret := ret) ct (bPc_blind Γ st _) hRm.1 hRm.2 (pay_in hts hw) hcode0 (fun a' U hW => word_at hW (Or.inl (by first | rfl | simp [Cond.onTables, Cond.keeps, Cond.steady])) hini)
  obtain ⟨f1, f2, f3, f4, f5⟩ := hK.bdfF _ hF
  have hlen2 : ∀ sig, parseMethodDescriptor x9.desc = some sig → n' = sig.parameters.length := fun sig h => by
    have h2 := hd1.2.2
    rw [h] at h2
    exact (Option.some.inj h2).symm
  intro T hT X
  have hstk2 : stk0.map bd = (av.map bd).reverse ++ .ref bb :: stk.map bd := by
    rw [hstk, List.map_append, List.map_reverse]
    rw [List.map_cons, show bd (2, (bb : Int)) = .ref bb from brv_nat bb]
  rw [hstk2]
  obtain ⟨v, vm₁, B, w1, w2, w3, w4⟩ := interfaceBackD X hx hown (hts _ hl0) (va_Nw.use rfl f1) (va_Nw.use rfl f2) (va_landA f4) (hts _ hin0) (va_Nw.use rfl f3) (va_Nw.use rfl f5) ⟨hd1.1, hd1.2.1⟩ hKb (b := bb) hfc hkB ⟨cellB, by rw [hT]; exact g1, g2, by rw [g3]; rfl⟩ (g := F0 m pc ls _) rfl (by show ls.size = c.maxLocals; rw [hL.1, o3]) (Steps.refl _) (argsL := av.map bd) (rest := stk.map bd) (fun sig h => by rw [List.length_map]; exact hlen.trans (hlen2 sig h)) rfl (b_room hW) (by rw [hb]; exact hd) (fun vm₁ hW₁ => ⟨hf1, hf2, hPc (T.setVm vm₁) hT hW₁⟩)
  exact b_fin k hle hS hL hT ⟨v, vm₁, B, w1, w2, w3, fun target h => w4.trans h⟩
theorem r_callVD (hκ : bOk κ Γ0 l0 cc own nL fr lo) {x9 y : MethodName} {C owner : String} {t N : Nat} {T9 : u_T} (ct : bCt Γ0 l0 y b maxL ret frc loc ((2, a) :: av) st st2 ov) (hw : GoodIn lw_all (ws_ y b maxL ret)) (hl0 : Cond.methodLink own index x9 ∈ defaultWords_1) (hsm0 : Cond.sameMethod x9.cls owner x9.name x9.desc ∈ defaultWords_1) (hin0 : Cond.instanceMethod y ∈ lw_all) (hini0 : Cond.initialized y.cls ∈ lw_all) (hF : (C, owner, x9, y) ∈ bdfV) (hd1 : owner ≠ "java/lang/invoke/MethodHandle" ∧ owner ≠ "java/lang/invoke/VarHandle" ∧ (parseMethodDescriptor x9.desc).map (fun d => d.parameters.length) = some n') (ht : bg st 0 a 0 = ((t + 1 : Nat) : Int)) (hc : bcls[t]? = some (C, T9, N)) (hlen : av.length = n') (hRR : frc + 1 ≤ fr ∧ 8 + (maxL + 11) + loc ≤ lo) (hstk : stk0 = av.reverse ++ (2, a) :: stk) (hW : bsz stk ≤ 8) (hd : decode cc pc = .ok (.invokevirtual index, 3)) (k : bJ κ st2 (pc + 3) L (ov.toList ++ stk)) : bJ κ st pc L stk0 := by
  obtain ⟨p, l, e, R, s, m, args, below, meth, c, Q, Γ, s0, n⟩ := κ
  obtain ⟨hx, hb, o3, hown, hts, hK, o7, o8, o9, o10, o11, o12, rfl, rfl⟩ := hκ
  intro hle H locs ls hR hS hL
  have hRm : (bRm st frc loc).frames + 1 ≤ R.frames ∧ 8 + (maxL + 11) + (bRm st frc loc).locals ≤ R.locals := by rw [o11, o12]; exact hRR
  have hf1 : bc st - bc s0 + (bCM - bc st) ≤ R.cells := by rw [o9]; obtain ⟨q1, q2, -⟩ := hle; omega
  have hf2 : bk st - bk s0 + (bKM - bk st) ≤ R.slots := by rw [o10]; obtain ⟨-, -, q1, q2⟩ := hle; omega
  obtain ⟨bb, rfl, -, -⟩ := hR.nat (a := a) (by rw [ht]; omega)
  have hOB := hR.obj ht hc
  obtain ⟨cellB, g1, g2, g3, -⟩ := hOB
  have hcls := (hK.1.1 t _ hc).2
  have hPc : ∀ U : State, U.heap = H → s.WarmedH U.vm → bPc Γ st ((2, (bb : Int)) :: av) ((Value.ref bb :: av.map bd).toArray) U := fun U hU hW => ⟨by show _ = ((bd (2, (bb : Int))) :: av.map bd).toArray; rw [show bd (2, (bb : Int)) = .ref bb from brv_nat bb], by rw [hU]; exact hR, bKK.moved hW hK, hle.2.1, hle.2.2.2⟩
  have hcode0 : Cond.code y b maxL ret ∈ ws_ y b maxL ret := List.mem_cons_self
  have hini := hts _ hini0
  have hKb := back2 (sargs := args) (p := p) (e := e) (below := below) (W := 8) (len := 3) (bytes := b) (maxL := maxL) (ret := ret) ct (bPc_blind Γ st _) hRm.1 hRm.2 (pay_in hts hw) hcode0 (fun a' U hW => word_at hW (Or.inl (by first | rfl | simp [Cond.onTables, Cond.keeps, Cond.steady])) hini)
  obtain ⟨f1, f2⟩ := hK.bdfV _ hF
  have hlen2 : ∀ sig, parseMethodDescriptor x9.desc = some sig → n' = sig.parameters.length := fun sig h => by
    have h2 := hd1.2.2
    rw [h] at h2
    exact (Option.some.inj h2).symm
  intro T hT X
  have hstk2 : stk0.map bd = (av.map bd).reverse ++ .ref bb :: stk.map bd := by
    rw [hstk, List.map_append, List.map_reverse]
    rw [List.map_cons, show bd (2, (bb : Int)) = .ref bb from brv_nat bb]
  rw [hstk2]
  obtain ⟨v, vm₁, B, w1, w2, w3, w4⟩ := virtualBackUpD X hx hown (va_Nw.use rfl (hK.bdw _ hl0)) (va_Nw.use rfl (hK.bdw _ hsm0)) (va_Nw.use rfl f1) ⟨hd1.1, hd1.2.1⟩ (va_landA f2) (hts _ hin0) hKb (b := bb) hcls.1 ⟨cellB, by rw [hT]; exact g1, g2, by rw [g3]; rfl⟩ (g := F0 m pc ls _) rfl (by show ls.size = c.maxLocals; rw [hL.1, o3]) (Steps.refl _) (argsL := av.map bd) (rest := stk.map bd) (fun sig h => by rw [List.length_map]; exact hlen.trans (hlen2 sig h)) rfl (b_room hW) (by rw [hb]; exact hd) (fun vm₁ hW₁ => ⟨hf1, hf2, hPc (T.setVm vm₁) hT hW₁⟩)
  exact b_fin k hle hS hL hT ⟨v, vm₁, B, w1, w2, w3, fun target h => w4.trans h⟩
theorem r_callUA (hκ : bOk κ Γ0 l0 cc own nL fr lo) {x9 y : MethodName} {C owner : String} {t N : Nat} {T9 : u_T} (ct : bCt Γ0 l0 y b maxL ret frc loc ((2, a) :: av) st st2 ov) (hw : GoodIn lw_all (va_wsU own index C owner x9 y (ws_ y b maxL ret))) (hF : (⟨owner, x9.name, x9.desc⟩ : MethodName) ∈ bdecl) (hd1 : owner ≠ "java/lang/invoke/MethodHandle" ∧ owner ≠ "java/lang/invoke/VarHandle" ∧ (parseMethodDescriptor x9.desc).map (fun d => d.parameters.length) = some n') (ht : bg st 0 a 0 = ((t + 1 : Nat) : Int)) (hc : bcls[t]? = some (C, T9, N)) (hlen : av.length = n') (hRR : frc + 1 ≤ fr ∧ 8 + (maxL + 11) + loc ≤ lo) (hstk : stk0 = av.reverse ++ (2, a) :: stk) (hW : bsz stk ≤ 8) (hd : decode cc pc = .ok (.invokevirtual index, 3)) (k : bJ κ st2 (pc + 3) L (ov.toList ++ stk)) : bJ κ st pc L stk0 := by
  obtain ⟨p, l, e, R, s, m, args, below, meth, c, Q, Γ, s0, n⟩ := κ
  obtain ⟨hx, hb, o3, hown, hts, hK, o7, o8, o9, o10, o11, o12, rfl, rfl⟩ := hκ
  intro hle H locs ls hR hS hL
  have hRm : (bRm st frc loc).frames + 1 ≤ R.frames ∧ 8 + (maxL + 11) + (bRm st frc loc).locals ≤ R.locals := by rw [o11, o12]; exact hRR
  have hf1 : bc st - bc s0 + (bCM - bc st) ≤ R.cells := by rw [o9]; obtain ⟨q1, q2, -⟩ := hle; omega
  have hf2 : bk st - bk s0 + (bKM - bk st) ≤ R.slots := by rw [o10]; obtain ⟨-, -, q1, q2⟩ := hle; omega
  obtain ⟨bb, rfl, -, -⟩ := hR.nat (a := a) (by rw [ht]; omega)
  have hOB := hR.obj ht hc
  obtain ⟨cellB, g1, g2, g3, -⟩ := hOB
  have hcls := (hK.1.1 t _ hc).2
  have hPc : ∀ U : State, U.heap = H → s.WarmedH U.vm → bPc Γ st ((2, (bb : Int)) :: av) ((Value.ref bb :: av.map bd).toArray) U := fun U hU hW => ⟨by show _ = ((bd (2, (bb : Int))) :: av.map bd).toArray; rw [show bd (2, (bb : Int)) = .ref bb from brv_nat bb], by rw [hU]; exact hR, bKK.moved hW hK, hle.2.1, hle.2.2.2⟩
  have cw := va_cwA (R := R) (mc := (bRm st frc loc).cells) (ms := (bRm st frc loc).slots) n' hts hw rfl rfl rfl (hK.bdecl _ hF) hd1 hRm
  obtain ⟨hrc, hrs, hfr, hlo, hws, hcw2⟩ := cw.back
  have hini := cw.init
  have hKb := back2 (sargs := args) (p := p) (e := e) (below := below) (W := 8) (len := 3) (bytes := b) (maxL := maxL) (ret := ret) ct (bPc_blind Γ st _) hfr hlo hws hcw2 (fun a' U hW => word_at hW (Or.inl (by first | rfl | simp [Cond.onTables, Cond.keeps, Cond.steady])) hini)
  have hlen2 := cw.len
  intro T hT X
  have hstk2 : stk0.map bd = (av.map bd).reverse ++ .ref bb :: stk.map bd := by
    rw [hstk, List.map_append, List.map_reverse]
    rw [List.map_cons, show bd (2, (bb : Int)) = .ref bb from brv_nat bb]
  rw [hstk2]
  exact b_fin k hle hS hL hT (va_callVU X hx (C := C) (owner := owner) (bytes := b) (maxL := maxL) (ret := ret) hown cw.link cw.same cw.decl cw.notMH cw.sel cw.inst cw.code hKb (b := bb) (by rw [hT]; exact g1) (by rw [g3]; rfl) (by rw [g2]; exact hcls.1) (g := F0 m pc ls _) rfl (by show ls.size = c.maxLocals; rw [hL.1, o3]) (argsL := av.map bd) (rest := stk.map bd) (fun sig h => by rw [List.length_map]; exact hlen.trans (hlen2 sig h)) rfl (b_room hW) (by rw [hb]; exact hd) (fun vm₁ hW₁ => ⟨hf1, hf2, hPc (T.setVm vm₁) hT hW₁⟩))
theorem r_callUX (hκ : bOk κ Γ0 l0 cc own nL fr lo) {x9 y : MethodName} {C owner : String} {t N : Nat} {T9 : u_T} (ct : bCt Γ0 l0 y b maxL ret frc loc ((2, a) :: av) st st2 ov) (hcw : ∀ (R : Room) (s : State) (args : Array Value), (∀ w ∈ defaultWords_1 ++ lw_all, w.before args s = true) → (frc + 1 ≤ R.frames ∧ 8 + (maxL + 11) + loc ≤ R.locals) → va_CU R s args own C owner index x9 y b maxL ret (ws_ y b maxL ret) (bRm st frc loc) (bRm st frc loc).cells (bRm st frc loc).slots n') (ht : bg st 0 a 0 = ((t + 1 : Nat) : Int)) (hc : bcls[t]? = some (C, T9, N)) (hlen : av.length = n') (hRR : frc + 1 ≤ fr ∧ 8 + (maxL + 11) + loc ≤ lo) (hstk : stk0 = av.reverse ++ (2, a) :: stk) (hW : bsz stk ≤ 8) (hd : decode cc pc = .ok (.invokevirtual index, 3)) (k : bJ κ st2 (pc + 3) L (ov.toList ++ stk)) : bJ κ st pc L stk0 := by
  obtain ⟨p, l, e, R, s, m, args, below, meth, c, Q, Γ, s0, n⟩ := κ
  obtain ⟨hx, hb, o3, hown, hts, hK, o7, o8, o9, o10, o11, o12, rfl, rfl⟩ := hκ
  intro hle H locs ls hR hS hL
  have hRm : (bRm st frc loc).frames + 1 ≤ R.frames ∧ 8 + (maxL + 11) + (bRm st frc loc).locals ≤ R.locals := by rw [o11, o12]; exact hRR
  have hf1 : bc st - bc s0 + (bCM - bc st) ≤ R.cells := by rw [o9]; obtain ⟨q1, q2, -⟩ := hle; omega
  have hf2 : bk st - bk s0 + (bKM - bk st) ≤ R.slots := by rw [o10]; obtain ⟨-, -, q1, q2⟩ := hle; omega
  obtain ⟨bb, rfl, -, -⟩ := hR.nat (a := a) (by rw [ht]; omega)
  have hOB := hR.obj ht hc
  obtain ⟨cellB, g1, g2, g3, -⟩ := hOB
  have hcls := (hK.1.1 t _ hc).2
  have hPc : ∀ U : State, U.heap = H → s.WarmedH U.vm → bPc Γ st ((2, (bb : Int)) :: av) ((Value.ref bb :: av.map bd).toArray) U := fun U hU hW => ⟨by show _ = ((bd (2, (bb : Int))) :: av.map bd).toArray; rw [show bd (2, (bb : Int)) = .ref bb from brv_nat bb], by rw [hU]; exact hR, bKK.moved hW hK, hle.2.1, hle.2.2.2⟩
  have cw := hcw R s args (dw_all hK hts) hRm
  obtain ⟨hrc, hrs, hfr, hlo, hws, hcw2⟩ := cw.back
  have hini := cw.init
  have hKb := back2 (sargs := args) (p := p) (e := e) (below := below) (W := 8) (len := 3) (bytes := b) (maxL := maxL) (ret := ret) ct (bPc_blind Γ st _) hfr hlo hws hcw2 (fun a' U hW => word_at hW (Or.inl (by first | rfl | simp [Cond.onTables, Cond.keeps, Cond.steady])) hini)
  have hlen2 := cw.len
  intro T hT X
  have hstk2 : stk0.map bd = (av.map bd).reverse ++ .ref bb :: stk.map bd := by
    rw [hstk, List.map_append, List.map_reverse]
    rw [List.map_cons, show bd (2, (bb : Int)) = .ref bb from brv_nat bb]
  rw [hstk2]
  exact b_fin k hle hS hL hT (va_callVU X hx (C := C) (owner := owner) (bytes := b) (maxL := maxL) (ret := ret) hown cw.link cw.same cw.decl cw.notMH cw.sel cw.inst cw.code hKb (b := bb) (by rw [hT]; exact g1) (by rw [g3]; rfl) (by rw [g2]; exact hcls.1) (g := F0 m pc ls _) rfl (by show ls.size = c.maxLocals; rw [hL.1, o3]) (argsL := av.map bd) (rest := stk.map bd) (fun sig h => by rw [List.length_map]; exact hlen.trans (hlen2 sig h)) rfl (b_room hW) (by rw [hb]; exact hd) (fun vm₁ hW₁ => ⟨hf1, hf2, hPc (T.setVm vm₁) hT hW₁⟩))
end BR88
