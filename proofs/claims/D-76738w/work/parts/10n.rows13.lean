/-! ROWS 13: calls of lambda objects that capture nothing -/
set_option maxRecDepth 100000
section BRL3
variable {κ : bK} {Γ0 : bG} {l0 : Launch} {cc : ByteArray} {own : String} {nL fr lo : Nat} {st st2 : bS} {pc : Nat} {L : List (Nat × bV)} {stk stk0 : List bV} {x y a i : Int}
variable {b : ByteArray} {maxL frc loc index : Nat} {P : bP}
/-- receiver: the one object of the site k, which captures nothing; the interface's method takes one reference; the target y is static -/
theorem r_callL6 (hκ : bOk κ Γ0 l0 cc own nL fr lo) {k count : Nat} {q : MethodName × Nat × Nat × Lambda.Shape} {xi y : MethodName} (hq : blam[k]? = some q) {bytes : ByteArray} {ml midx : Nat} {fi : List Nat} (hS : LamS q bytes ml midx fi) (hO : Cond.instantiable "java/lang/Object" 0 ∈ lw_all)
    {pv : Int} (hbc : bcap[k]? = some []) (hk100 : k < 100)
    (htag : bg st 0 a 0 = ((500 + k : Nat) : Int))
    (hci : q.2.2.2.iface = xi.cls ∧ q.2.2.2.name = xi.name ∧ q.2.2.2.sam.toString = xi.desc ∧ q.2.2.2.implItf = false) (hyt : y = ⟨q.2.2.2.implClass, q.2.2.2.implName, q.2.2.2.implDesc.toString⟩)
    (hpl : plainName (q.1.cls ++ "$$Lambda") = true)
    (hml : ml = 2) (hd0 : decode bytes 0 = .ok (.aload_n 1, 1)) (hdI : decode bytes 1 = .ok (.invokestatic midx, 3)) (hdR : decode bytes 4 = .ok (.ireturn, 1))
    (ct : bCx Γ0 l0 y (ws_ y b maxL (some .int)) frc loc (some 0) [(2, pv)] st P)
    (hl0 : Cond.methodLink own index xi ∈ lw_all) (hde : xi ∈ bdecl) (hfa : xi ∈ bifm)
    (hst0 : Cond.static y ∈ lw_all) (hini0 : Cond.initialized y.cls ∈ lw_all) (hcode : Cond.code y b maxL (some .int) ∈ lw_all)
    (hx1 : xi.cls ≠ "java/lang/invoke/MethodHandle" ∧ xi.cls ≠ "java/lang/invoke/VarHandle") (hy1 : y.cls ≠ "java/lang/invoke/MethodHandle" ∧ y.cls ≠ "java/lang/invoke/VarHandle")
    (hlx : (parseMethodDescriptor xi.desc).map (fun d => d.parameters.length) = some 1) (hly : (parseMethodDescriptor y.desc).map (fun d => d.parameters.length) = some 1)
    (hRR : frc + 2 ≤ fr ∧ 8 + (ml + 11) + (8 + (maxL + 11) + loc) ≤ lo) (hstk : stk0 = (2, pv) :: (2, a) :: stk) (hW : bsz stk ≤ 8) (hd : decode cc pc = .ok (.invokeinterface index count, 5))
    (k1 : ∀ st2 v, P st2 v (-1) → bJ κ st2 (pc + 5) L ((0, v) :: stk)) (k2 : ∀ st2 q (j : Nat), P st2 q (j : Int) → bT κ st2 pc L q (j : Int)) : bJ κ st pc L stk0 := by
  obtain ⟨p, l, e, R, s, m, args, below, meth, c, Q, Γ, s0, n⟩ := κ
  obtain ⟨hx, hb, o3, hown, hts, hK, o7, o8, o9, o10, o11, o12, rfl, rfl⟩ := hκ
  intro hle H locs ls hR hS2 hL T hT X
  obtain ⟨bb, rfl, -, hblt⟩ := hR.nat (a := a) (by rw [htag]; omega)
  -- the lambda object's cell
  have hcellL : H[bb]? = some ({ cls := Γ.2.2.2.1 (100 + k), vm := .none, slots := #[] } : Cell) := by
    have h := hR.2.2.2.2.2 bb (500 + k) htag (by omega)
    unfold bat at h
    rw [if_pos (by omega)] at h
    have h := h.1 (by omega)
    rw [show 500 + k - 400 = 100 + k by omega, show 500 + k - 500 = k by omega, List.getD_eq_getElem?_getD, hbc, Option.getD_some] at h
    rw [h]
    rfl
  obtain ⟨D, fwd, laid, mci, mnt, cu, S1, S2, S3, S4, S5, S6, S7, S8, S9⟩ := hS
  -- at s: the call lands in the made class's method
  have site : ∀ U : State, s.WarmedH U.vm → ∃ (md : MethodId) (kc : Class), U.methodNamed? q.1 = some md ∧ U.vm.classes[md.cls]? = some kc ∧ kc.name = q.1.cls ∧ Lambda.isMade { classPath := fun _ => none } U.vm md.cls q.2.2.2 (Γ.2.2.2.1 (100 + k)) = true ∧ U.lambdaCallable q.2.2.2 (Γ.2.2.2.1 (100 + k)) = true := by
    intro U hU
    obtain ⟨m', kc, cf, i0, p0, lk, hm, hkc, -, -, -, hmade, hcall, -⟩ := bLm.moved hU (hK.blam k q hq)
    obtain ⟨kn, hkn, hnm2⟩ := Vm.findClass_spec (findClass_of_methodNamed hm)
    cases hkn.symm.trans hkc
    exact ⟨m', kc, hm, hkc, hnm2, hmade, hcall⟩
  obtain ⟨md, kc, hmd, hkc, hkcn, hmade, hcall⟩ := site s (State.WarmedH.refl s)
  obtain ⟨kK, tk, file, methk, ck, t9, tgt, w1, w2, w3, w4, w5, wk, w6, w7, w8, w9, w10, w11, w12, w13, w14, w15, w16, w17, w18, w19, w20⟩ := lam_made hkc hkcn hmade (lam_obj hts hO) S1 S2 S3 S4 S5 S6 S7 S8
  obtain ⟨r0, r, hn0, hrm, hstR, hsigR⟩ := Cond.declares_spec (va_Nw.use (A := args) rfl (hK.bdecl xi hde))
  obtain ⟨cL, kL, r1, hcL, hkL, hiL, hfoundL, hn1⟩ := Cond.interfaceMethod_spec (va_Nw.use (A := args) rfl (hK.bifm xi hfa))
  cases hn0.symm.trans hn1
  have hr0cls : r0.cls = cL := Option.some.inj ((findClass_of_methodNamed hn0).symm.trans hcL)
  obtain ⟨hrn, hrd⟩ := name_of_methodNamed hn0 hrm
  obtain ⟨ic, hic, hasg, hway⟩ := State.lambdaCallable_spec hcall
  rw [hci.1] at hic
  cases hic.symm.trans hcL
  have hsel0 : selectMethod {} s.vm (Γ.2.2.2.1 (100 + k)) r0 = .method ⟨Γ.2.2.2.1 (100 + k), 1⟩ := by
    obtain ⟨dk', k', ok', tk', file', cf', object', iface', t', lay', methods', target', found', -, -, -, -, -, hi', -, -, -, -, -, -, hfound', -, -, -, -, -, -, -, -, -, -, hsel'⟩ := Lambda.isMade_spec hmade
    rw [hci.1] at hi'
    cases hi'.symm.trans hcL
    have hff : found' = r0 := by
      have h1 := State.methodFound?_of_named hn0 hx1
      unfold State.methodFound? at h1
      rw [hcL] at h1
      simp only [Option.bind_eq_bind, Option.bind_some, hkL, hiL] at h1
      rw [hci.2.1, hci.2.2.1] at hfound'
      rw [hfound'] at h1
      exact Option.some.inj h1
    rw [← hff]
    exact hsel'
  have hlen2 : ∀ sig, parseMethodDescriptor xi.desc = some sig → 1 = sig.parameters.length := fun sig h => by
    rw [h] at hlx
    exact (Option.some.inj hlx).symm
  have hstk2 : stk0.map bd = [brv pv].reverse ++ .ref bb :: stk.map bd := by
    rw [hstk, List.map_cons, List.map_cons, show bd (2, (bb : Int)) = .ref bb from brv_nat bb]
    rfl
  obtain ⟨vm₁, X₁, hstep₁⟩ := X.invokeinterface hx hown (hts _ hl0) hn0 hrm hstR (by rw [hr0cls]; exact hkL) hiL hx1 (a := bb) (by rw [hT]; exact hcellL) (fun z h => by cases h) (kcell := kK) w1 (by rw [hr0cls]; exact hasg)
    (m' := ⟨Γ.2.2.2.1 (100 + k), 1⟩) (meth' := methk) (by rw [Launch.admits_selectMethod X.admits]; exact hsel0) w6 (by rw [hrn, hrd, ← hci.2.1, ← hci.2.2.1]; exact hway) (by rw [w12]; decide) (by simp [Method.isAbstract, w12, hasFlag, Acc.abstract])
    (g := F0 m pc ls (stk0.map bd)) rfl (argsL := [brv pv]) (rest := stk.map bd) (hlen2 _ hsigR) hstk2 (by rw [hb]; exact hd)
  have hW1 : s.WarmedH (T.setVm vm₁).vm := X₁.warmed
  have htsU : ∀ w ∈ lw_all, w.before args (T.setVm vm₁) = true := lwT hts hW1
  obtain ⟨md', kc', hmd', hkc', hkcn', hmade', hcall'⟩ := site (T.setVm vm₁) hW1
  obtain ⟨kK', tk', file', methk', ck', t9', tgt', v1, v2, v3, v4, v5, vk, v6, v7, v8, v9, v10, v11, v12, v13, v14, v15, v16, v17, v18, v19, v20⟩ := lam_made hkc' hkcn' hmade' (lam_obj htsU hO) S1 S2 S3 S4 S5 S6 S7 S8
  obtain ⟨tm, hny⟩ := Cond.code_named (htsU _ hcode)
  obtain ⟨mt, cY, hmt, -, -, -, -, -, -, hsigY⟩ := Cond.code_spec hny (htsU _ hcode)
  have hstt : mt.isStatic = true := Cond.static_spec hny hmt (htsU _ hst0)
  obtain ⟨kP, hkP, -⟩ := className_of_methodNamed hny
  have hinitP : kP.init = .initialized := Cond.initialized_spec (findClass_of_methodNamed hny) hkP (htsU _ hini0)
  have htgt : tgt' = tm := by
    have h1 := State.methodFound?_of_named hny hy1
    unfold State.methodFound? at h1
    rw [hyt] at h1
    rw [v14] at h1
    simp only [Option.bind_eq_bind, Option.bind_some, v15, v17] at h1
    exact Option.some.inj h1
  subst htgt
  have hpoly : signaturePolymorphic kP mt = false := by
    obtain ⟨kq, hkq, hkn⟩ := className_of_methodNamed hny
    cases hkq.symm.trans hkP
    exact signaturePolymorphic_of_name (by rw [hkn]; exact hy1) mt
  have hplain : (T.setVm vm₁).plainMethod ⟨Γ.2.2.2.1 (100 + k), 1⟩ := by
    intro kq hkq
    cases v1.symm.trans hkq
    rw [v2, hpl]
    rfl
  have hsz : (F0 m pc ls (stk.map bd)).locals.size = c.maxLocals := by show ls.size = c.maxLocals; rw [hL.1, o3]
  obtain ⟨Y, hin⟩ := X₁.into (g := F0 m pc ls (stk.map bd)) rfl hsz (by show decode c.code pc = .ok (.invokeinterface index count, 5); rw [hb]; exact hd) (mk := ⟨Γ.2.2.2.1 (100 + k), 1⟩) [Value.ref bb, brv pv].toArray
    (R' := { frames := frc + 1, cells := bCM - bc st, slots := bKM - bk st, locals := 8 + (maxL + 11) + loc }) v6 v7 v11 hplain (by rw [o11]; show frc + 1 + 1 ≤ fr; omega)
    (by
      have h1 : ((stk.map bd).map fun v => v.category).sum ≤ 8 := by rw [bsz_sum]; exact hW
      rw [v9, o12]
      show 2 * 0 + ((stk.map bd).map fun v => v.category).sum + (ml + 11) + (8 + (maxL + 11) + loc) ≤ lo
      omega)
    (by rw [o9]; obtain ⟨q1, q2, -⟩ := hle; show bc st - bc s0 + (bCM - bc st) ≤ _; omega) (by rw [o10]; obtain ⟨-, -, q1, q2⟩ := hle; show bk st - bk s0 + (bKM - bk st) ≤ _; omega)
  have hWc : s.WarmedH ((T.setVm vm₁).calling (F0 m pc ls (stk.map bd)) ⟨Γ.2.2.2.1 (100 + k), 1⟩ [Value.ref bb, brv pv].toArray).vm := hW1
  have htsC : ∀ w ∈ lw_all, w.before args ((T.setVm vm₁).calling (F0 m pc ls (stk.map bd)) ⟨Γ.2.2.2.1 (100 + k), 1⟩ [Value.ref bb, brv pv].toArray) = true := lwT hts hWc
  have hKb := xb_back (R := { frames := frc + 1, cells := bCM - bc st, slots := bKM - bk st, locals := 8 + (maxL + 11) + loc }) (p := p) (e := e) (below := .java (F0 m pc ls (stk.map bd)) :: below)
    (s := (T.setVm vm₁).calling (F0 m pc ls (stk.map bd)) ⟨Γ.2.2.2.1 (100 + k), 1⟩ [Value.ref bb, brv pv].toArray) (sargs := [Value.ref bb, brv pv].toArray) (W9 := 8) (len := 3) (bytes := b) (maxL := maxL) (ret := some .int) ct (bPc_blind Γ st _) (Nat.le_refl _) (Nat.le_refl _)
    (pay_in htsC (lw_meth hcode)) List.mem_cons_self (fun a' U hW => lwT htsC hW _ hini0)
  have run : ∃ t, Steps p.tables e (.java (F0 m pc ls (stk.map bd)) :: below) ((((T.setVm vm₁).setTop (F0 m pc ls (stk.map bd))).pushFrame (.java (entryFrame ⟨Γ.2.2.2.1 (100 + k), 1⟩ [Value.ref bb, brv pv].toArray ck'.maxLocals))).setTop (entryFrame ⟨Γ.2.2.2.1 (100 + k), 1⟩ [Value.ref bb, brv pv].toArray ck'.maxLocals)) t ∧
      fwEnd Γ st P ((T.setVm vm₁).calling (F0 m pc ls (stk.map bd)) ⟨Γ.2.2.2.1 (100 + k), 1⟩ [Value.ref bb, brv pv].toArray) (.java (F0 m pc ls (stk.map bd)) :: below) (((T.setVm vm₁).setTop (F0 m pc ls (stk.map bd))).pushFrame (.java (entryFrame ⟨Γ.2.2.2.1 (100 + k), 1⟩ [Value.ref bb, brv pv].toArray ck'.maxLocals))) t := by
    generalize hU : ((T.setVm vm₁).setTop (F0 m pc ls (stk.map bd))).pushFrame (.java (entryFrame ⟨Γ.2.2.2.1 (100 + k), 1⟩ [Value.ref bb, brv pv].toArray ck'.maxLocals)) = U at Y
    have hUv : U.vm = (T.setVm vm₁).vm := by rw [← hU]; rfl
    have hUh : U.heap = H := by rw [← hU, ← hT]; rfl
    have hsl2 : (lg_sl [Value.ref bb, brv pv]).length = ml := by
      rw [hml]
      rcases brv_or pv with h | ⟨z, h⟩ <;> rw [h] <;> rfl
    have he := lv_entry [Value.ref bb, brv pv] (n := ml) (by rw [hsl2]; exact Nat.le_refl _)
    rw [v9, lg_entry_eq]
    generalize (lg_sl [Value.ref bb, brv pv] ++ List.replicate (ml - (lg_sl [Value.ref bb, brv pv]).length) Slot.unset).toArray = ls2 at he ⊢
    have hl1 : ls2[1]? = some (.val (brv pv)) := lv_at he 1 rfl
    have d0 : decode ck'.code 0 = .ok (.aload_n 1, 1) := by rw [v8]; exact hd0
    have hrf : (brv pv).isRef = true := by rcases brv_or pv with h | ⟨z, h⟩ <;> rw [h] <;> rfl
    obtain ⟨bq, hmem⟩ := memberRef_ask' (e := e) (vm := U.vm) (d := Γ.2.2.2.1 (100 + k)) (index := midx) (by rw [hUv]; exact v1) v3 (Or.inl (by rw [v4]; exact S6.1)) (by rw [v4]; exact S6.2.2)
    have hpref : plainRef U e (Γ.2.2.2.1 (100 + k)) midx := by
      refine ⟨mci, _, _, bq, t9', tk', hmem, by rw [hUv]; exact v19, by rw [hUv]; exact v15, ?_⟩
      obtain ⟨kn, hkn, hkname⟩ := Vm.findClass_spec v14
      cases hkn.symm.trans v15
      have hyc : q.2.2.2.implClass = y.cls := by rw [hyt]
      have hno : ∀ z, signaturePolymorphic tk' z = false := fun z => signaturePolymorphic_of_name (by rw [hkname, hyc]; exact hy1) z
      simp [hno]
    obtain ⟨t, y1, y2⟩ := fw_S Y hx (q := 1) (midx := midx) (ls := ls2) (by rw [v9]; exact he.1) (by rw [v8]; exact hdI) (by rw [v8]; exact hdR) v13 v11 v10 (tm := tgt') (kt := kP) (mt := mt) (y := y)
      hpref (by rw [hUv]; exact v18) (by rw [hUv]; exact hkP) (by rw [hUv]; exact hmt) hpoly hstt hinitP (As := [brv pv]) (by
        cases hp : parseMethodDescriptor y.desc with
        | none => rw [hp] at hly; cases hly
        | some sg =>
          rw [hp] at hly
          have h8 := Option.some.inj (hp.symm.trans hsigY)
          rw [← h8]
          exact (Option.some.inj hly).symm)
      (by
        have h1 : U.methodNamed? y = (T.setVm vm₁).methodNamed? y := by unfold State.methodNamed?; rw [hUv]
        rw [h1]; exact hny) hKb
      ⟨by show 0 + (bCM - bc st) ≤ bCM - bc st; omega, by show 0 + (bKM - bk st) ≤ bKM - bk st; omega, rfl, by show bRep Γ st U.heap; rw [hUh]; exact hR, bKK.moved (by rw [hUv]; exact hW1) hK, hle.2.1, hle.2.2.2⟩
    refine ⟨t, ?_, y2⟩
    jvm_step Y.here [hx, d0, hl1, hrf]
    exact y1
  have hout := fw_out X₁ (g := F0 m pc ls (stk.map bd)) rfl (by show decode c.code pc = .ok (.invokeinterface index count, 5); rw [hb]; exact hd) (a2 := [Value.ref bb, brv pv].toArray) ⟨rfl, rfl⟩ run
  refine xb_fin (P := P) (rk := some 0) (ln := 5) (a := [Value.ref bb, brv pv].toArray) (fun st2 v hP => k1 st2 v hP) k2 hle hS2 hL hT ?_
  rcases hout with ⟨v, B, XB, hpost, hs⟩ | ⟨qx, B, XB, hpost, hs⟩
  · exact Or.inl ⟨v, vm₁, B, hW1, XB, hpost, fun target h => hstep₁ target fun acts => by rw [hin acts]; exact hs.trans h⟩
  · exact Or.inr ⟨qx, vm₁, B, hW1, XB, hpost, hstep₁ _ fun acts => by rw [hin acts]; exact hs⟩
end BRL3
/-! for the printed walks -/
abbrev bEq (s : bS) (v x : Int) : bP := fun a b c => (a, b, c) = (s, v, x)
abbrev bclx {α : Type} (o : Option (bS × Int × Int)) (f : bS → Int → Int → Option α) : Option α := o >>= fun r => f r.1 r.2.1 r.2.2
theorem bclx_i {α : Type} {o : Option (bS × Int × Int)} {f : bS → Int → Int → Option α} {r : α} (h : bclx o f = some r) : ∃ s v x, o = some (s, v, x) ∧ f s v x = some r := by
  unfold bclx at h
  cases o with
  | none => cases h
  | some q => exact ⟨q.1, q.2.1, q.2.2, rfl, h⟩
theorem bclx_t {α : Type} {o : Option (bS × Int × Int)} {f : bS → Int → Int → Option α} {s : bS} {v x : Int} (h : o = some (s, v, x)) : bclx o f = f s v x := by rw [h]; rfl
theorem r_xj1 {κ : bK} {s1 : bS} {v1 x1 : Int} {pc : Nat} {L : List (Nat × bV)} {stk : List bV} {rk : Option Nat} (k : x1 = -1 → bJ κ s1 pc L ((rk.map fun k => (k, v1)).toList ++ stk)) : ∀ st2 v, bEq s1 v1 x1 st2 v (-1) → bJ κ st2 pc L ((rk.map fun k => (k, v)).toList ++ stk) := by
  intro st2 v h
  cases h
  exact k rfl
theorem r_xj2 {κ : bK} {s1 : bS} {v1 x1 : Int} {pc : Nat} {L : List (Nat × bV)} (k : ¬ x1 = -1 → bT κ s1 pc L v1 x1) : ∀ st2 q (j : Nat), bEq s1 v1 x1 st2 q (j : Int) → bT κ st2 pc L q (j : Int) := by
  intro st2 q j h
  cases h
  exact k (by omega)
theorem x_P {s s' : bS} {v v' x x' : Int} (h : some (s, v, x) = some (s', v', x')) : bEq s' v' x' s v x := Option.some.inj h
theorem r_xcatchE {κ : bK} {Γ0 : bG} {l0 : Launch} {cc : ByteArray} {own : String} {nL fr lo : Nat} {st : bS} {pc : Nat} {L : List (Nat × bV)} {q j : Int} (hκ : bOk κ Γ0 l0 cc own nL fr lo) {hh : List (Nat × Nat × Nat × Nat)} (ht : xTab κ hh) {E name : String} {jn ih : Nat} {z0 : Nat × Nat × Nat × Nat} (hjn : j = (jn : Int)) (hi : hh[ih]? = some z0) (hjE : bex[jn]? = some E)
    (hpass : ∀ z ∈ hh.take ih, ¬ (z.1 ≤ pc ∧ pc < z.2.1) ∨ (z.2.2.2 ≠ 0 ∧ ∃ nm : String, Cond.classLink own z.2.2.2 nm ∈ lw_all ∧ (E, nm) ∈ bncast))
    (hcov : z0.1 ≤ pc ∧ pc < z0.2.1) (h0 : z0.2.2.2 ≠ 0) (hlink : Cond.classLink own z0.2.2.2 name ∈ lw_all) (hcast : (E, name) ∈ bcast)
    (k : bJ κ st z0.2.2.1 L [(2, q)]) : bT κ st pc L q j := by
  rw [hjn]
  exact r_xcatch hκ ht hi hjE hpass hcov h0 hlink hcast k
