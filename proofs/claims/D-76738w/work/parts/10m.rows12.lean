/-! ROWS 12: calls of lambda objects -/
set_option maxRecDepth 100000
theorem fw_par {p : Program} {l : Launch} {e : Env} {R : Room} {s : State} {m : MethodId} {args : Array Value} {below : List Frame} {meth : Method} {c : Code} {U : State} {locs : List Loc} {cells slots : Nat} (Y : Stand p l e R s m args below meth c U locs cells slots) (hexec : p.tables.exec = Jvm.exec) {ls : Array Slot} {q : Nat} {vs : List Value} {ps : List Int} (hps : ps.length ≤ 1)
    (hl1 : ∀ z, ps = [z] → ls[1]? = some (.val (.int (i32 z)))) (hdp : ps.length = 1 → decode c.code q = .ok (.iload_n 1, 1)) :
    ∀ target, Steps p.tables e below (U.setTop (F0 m (q + ps.length) ls ((ps.map fun x => Value.int (i32 x)).reverse ++ vs))) target → Steps p.tables e below (U.setTop (F0 m q ls vs)) target := by
  intro target h
  match ps, hps, hl1, hdp, h with
  | [], _, _, _, h => exact h
  | [z], _, hl1, hdp, h =>
    have hl1' := hl1 z rfl
    have dd := hdp rfl
    jvm_step Y.here [hexec, dd, hl1', Value.isRef]
    exact h
section BRL2
variable {κ : bK} {Γ0 : bG} {l0 : Launch} {cc : ByteArray} {own : String} {nL fr lo : Nat} {st st2 : bS} {pc : Nat} {L : List (Nat × bV)} {stk stk0 : List bV} {x y a i : Int}
variable {b : ByteArray} {maxL frc loc index : Nat} {P : bP}
/-- receiver: a lambda object of the site k, which captured v0 and the ints xs; the interface's method takes the ints ps (none or one); the target is y -/
theorem r_callL5 (hκ : bOk κ Γ0 l0 cc own nL fr lo) {k count : Nat} {q : MethodName × Nat × Nat × Lambda.Shape} {xi y : MethodName} (hq : blam[k]? = some q) {bytes : ByteArray} {ml midx : Nat} {fi : List Nat} (hS : LamS q bytes ml midx fi) (hO : Cond.instantiable "java/lang/Object" 0 ∈ lw_all)
    {v0 : Int} {xs ps : List Int} (hcap : q.2.2.2.captured = .object "EditsMeet" :: List.replicate xs.length .int) (hbc : bcap[k]? = some (2 :: List.replicate xs.length 0)) (hk100 : k < 100)
    (htag : bg st 0 a 0 = ((500 + k : Nat) : Int)) (hv0 : v0 = bg st 2402 a 0) (hxs : ∀ j, j < xs.length → xs[j]? = some (bg st (2400 + 4 * (j + 1)) a 0))
    (hci : q.2.2.2.iface = xi.cls ∧ q.2.2.2.name = xi.name ∧ q.2.2.2.sam.toString = xi.desc ∧ q.2.2.2.implItf = false) (hyt : y = ⟨q.2.2.2.implClass, q.2.2.2.implName, q.2.2.2.implDesc.toString⟩)
    (hpl : plainName (q.1.cls ++ "$$Lambda") = true)
    (hml : ml = 1 + ps.length) (hps : ps.length ≤ 1) (hfi : fi.length = 1 + xs.length)
    (hdf : ∀ j i, fi[j]? = some i → decode bytes (4 * j) = .ok (.aload_n 0, 1) ∧ decode bytes (4 * j + 1) = .ok (.getfield i, 3))
    (hdp : ps.length = 1 → decode bytes (4 * (1 + xs.length)) = .ok (.iload_n 1, 1)) (hdI : decode bytes (4 * (1 + xs.length) + ps.length) = .ok (.invokevirtual midx, 3)) (hdR : decode bytes (4 * (1 + xs.length) + ps.length + 3) = .ok (.ireturn, 1))
    (ct : bCx Γ0 l0 y (ws_ y b maxL (some .int)) frc loc (some 0) ((2, v0) :: (xs ++ ps).map fun x => ((0, x) : bV)) st P)
    (ht0 : bg st 0 v0 0 = 1) (hl0 : Cond.methodLink own index xi ∈ lw_all) (hde : xi ∈ bdecl) (hfa : xi ∈ bifm)
    (hin0 : Cond.instanceMethod y ∈ lw_all) (hse0 : Cond.selects "EditsMeet" y y ∈ lw_all) (hini0 : Cond.initialized y.cls ∈ lw_all) (hcode : Cond.code y b maxL (some .int) ∈ lw_all)
    (hx1 : xi.cls ≠ "java/lang/invoke/MethodHandle" ∧ xi.cls ≠ "java/lang/invoke/VarHandle") (hy1 : y.cls ≠ "java/lang/invoke/MethodHandle" ∧ y.cls ≠ "java/lang/invoke/VarHandle")
    (hlx : (parseMethodDescriptor xi.desc).map (fun d => d.parameters.length) = some ps.length) (hly : (parseMethodDescriptor y.desc).map (fun d => d.parameters.length) = some (xs.length + ps.length))
    (hRR : frc + 2 ≤ fr ∧ 8 + (ml + 11) + (8 + (maxL + 11) + loc) ≤ lo) (hstk : stk0 = (ps.map fun x => ((0, x) : bV)).reverse ++ (2, a) :: stk) (hW : bsz stk ≤ 8) (hd : decode cc pc = .ok (.invokeinterface index count, 5))
    (k1 : ∀ st2 v, P st2 v (-1) → bJ κ st2 (pc + 5) L ((0, v) :: stk)) (k2 : ∀ st2 q (j : Nat), P st2 q (j : Int) → bT κ st2 pc L q (j : Int)) : bJ κ st pc L stk0 := by
  obtain ⟨p, l, e, R, s, m, args, below, meth, c, Q, Γ, s0, n⟩ := κ
  obtain ⟨hx, hb, o3, hown, hts, hK, o7, o8, o9, o10, o11, o12, rfl, rfl⟩ := hκ
  intro hle H locs ls hR hS2 hL T hT X
  obtain ⟨bb, rfl, -, hblt⟩ := hR.nat (a := a) (by rw [htag]; omega)
  obtain ⟨bo, rfl, -, -⟩ := hR.nat (a := v0) (by rw [ht0]; omega)
  -- the lambda object's cell
  have hcellL : H[bb]? = some ({ cls := Γ.2.2.2.1 (100 + k), vm := .none, slots := (.ref bo :: xs.map fun x => Value.int (i32 x)).toArray } : Cell) := by
    have h := hR.2.2.2.2.2 bb (500 + k) htag (by omega)
    unfold bat at h
    rw [if_pos (by omega)] at h
    have h := h.1 (by omega)
    rw [show 500 + k - 400 = 100 + k by omega, show 500 + k - 500 = k by omega, List.getD_eq_getElem?_getD, hbc, Option.getD_some] at h
    rw [h]
    congr 2
    congr 1
    rw [← brv_nat bo]
    refine List.ext_getElem? fun j => ?_
    rw [List.getElem?_map, List.getElem?_zipIdx]
    match j with
    | 0 =>
      show some (bd (2, st.1 (2400 + 4 * 0 + 2) (bb : Int) 0)) = some (brv (bo : Int))
      rw [hv0]
      rfl
    | j + 1 =>
      rw [List.getElem?_cons_succ, List.getElem?_cons_succ, List.getElem?_map, List.getElem?_replicate]
      by_cases h : j < xs.length
      · rw [if_pos h, hxs j h, Option.map_some, Option.map_some, Option.map_some]
        show some (bd (0, st.1 (2400 + 4 * (0 + (j + 1)) + 0) (bb : Int) 0)) = some (.int (i32 (st.1 (2400 + 4 * (j + 1)) (bb : Int) 0)))
        rw [show 2400 + 4 * (0 + (j + 1)) + 0 = 2400 + 4 * (j + 1) by omega]
        rfl
      · rw [if_neg h, List.getElem?_eq_none (by omega)]
        rfl
  obtain ⟨D, fwd, laid, mci, mnt, cu, S1, S2, S3, S4, S5, S6, S7, S8, S9⟩ := hS
  -- at s: the call lands in the made class's method
  have site : ∀ U : State, s.WarmedH U.vm → ∃ (md : MethodId) (kc : Class), U.methodNamed? q.1 = some md ∧ U.vm.classes[md.cls]? = some kc ∧ kc.name = q.1.cls ∧ Lambda.isMade { classPath := fun _ => none } U.vm md.cls q.2.2.2 (Γ.2.2.2.1 (100 + k)) = true ∧ U.lambdaCallable q.2.2.2 (Γ.2.2.2.1 (100 + k)) = true := by
    intro U hU
    obtain ⟨m', kc, cf, i0, p0, lk, hm, hkc, -, -, -, hmade, hcall, -⟩ := bLm.moved hU (hK.blam k q hq)
    obtain ⟨kn, hkn, hnm2⟩ := Vm.findClass_spec (findClass_of_methodNamed hm)
    cases hkn.symm.trans hkc
    exact ⟨m', kc, hm, hkc, hnm2, hmade, hcall⟩
  obtain ⟨md, kc, hmd, hkc, hkcn, hmade, hcall⟩ := site s (State.WarmedH.refl s)
  obtain ⟨kK, tk, file, methk, ck, t9, tgt, w1, w2, w3, w4, w5, wk, w6, w7, w8, w9, w10, w11, w12, w13, w14, w15, w16, w17, w18, w19, w20⟩ := lam_made hkc hkcn hmade (lam_obj hts hO) S1 S2 S3 S4 S5 S6 S7 S8
  obtain ⟨r0, r, hn0, hrm, hstR, hsigR⟩ := Cond.declares_spec (va_Nw.use (A := args) rfl (hK.bdecl xi hde))
  obtain ⟨cL, kL, r1, hcL, hkL, hiL, hfoundL, hn1⟩ := Cond.interfaceMethod_spec (va_Nw.use (A := args) rfl (hK.bifm xi hfa))
  cases hn0.symm.trans hn1
  have hr0cls : r0.cls = cL := Option.some.inj ((findClass_of_methodNamed hn0).symm.trans hcL)
  obtain ⟨hrn, hrd⟩ := name_of_methodNamed hn0 hrm
  obtain ⟨ic, hic, hasg, hway⟩ := State.lambdaCallable_spec hcall
  rw [hci.1] at hic
  cases hic.symm.trans hcL
  have hsel0 : selectMethod {} s.vm (Γ.2.2.2.1 (100 + k)) r0 = .method ⟨Γ.2.2.2.1 (100 + k), 1⟩ := by
    obtain ⟨dk', k', ok', tk', file', cf', object', iface', t', lay', methods', target', found', -, -, -, -, -, hi', -, -, -, -, -, -, hfound', -, -, -, -, -, -, -, -, -, -, hsel'⟩ := Lambda.isMade_spec hmade
    rw [hci.1] at hi'
    cases hi'.symm.trans hcL
    have hff : found' = r0 := by
      have h1 := State.methodFound?_of_named hn0 hx1
      unfold State.methodFound? at h1
      rw [hcL] at h1
      simp only [Option.bind_eq_bind, Option.bind_some, hkL, hiL] at h1
      rw [hci.2.1, hci.2.2.1] at hfound'
      rw [hfound'] at h1
      exact Option.some.inj h1
    rw [← hff]
    exact hsel'
  have hlen2 : ∀ sig, parseMethodDescriptor xi.desc = some sig → ps.length = sig.parameters.length := fun sig h => by
    rw [h] at hlx
    exact (Option.some.inj hlx).symm
  have hstk2 : stk0.map bd = (ps.map fun x => Value.int (i32 x)).reverse ++ .ref bb :: stk.map bd := by
    rw [hstk, List.map_append, List.map_reverse, List.map_map, List.map_cons, show bd (2, (bb : Int)) = .ref bb from brv_nat bb]
    rfl
  obtain ⟨vm₁, X₁, hstep₁⟩ := X.invokeinterface hx hown (hts _ hl0) hn0 hrm hstR (by rw [hr0cls]; exact hkL) hiL hx1 (a := bb) (by rw [hT]; exact hcellL) (fun z h => by cases h) (kcell := kK) w1 (by rw [hr0cls]; exact hasg)
    (m' := ⟨Γ.2.2.2.1 (100 + k), 1⟩) (meth' := methk) (by rw [Launch.admits_selectMethod X.admits]; exact hsel0) w6 (by rw [hrn, hrd, ← hci.2.1, ← hci.2.2.1]; exact hway) (by rw [w12]; decide) (by simp [Method.isAbstract, w12, hasFlag, Acc.abstract])
    (g := F0 m pc ls (stk0.map bd)) rfl (argsL := ps.map fun x => Value.int (i32 x)) (rest := stk.map bd) (by rw [List.length_map]; exact hlen2 _ hsigR) hstk2 (by rw [hb]; exact hd)
  have hW1 : s.WarmedH (T.setVm vm₁).vm := X₁.warmed
  have htsU : ∀ w ∈ lw_all, w.before args (T.setVm vm₁) = true := lwT hts hW1
  obtain ⟨md', kc', hmd', hkc', hkcn', hmade', hcall'⟩ := site (T.setVm vm₁) hW1
  obtain ⟨kK', tk', file', methk', ck', t9', tgt', v1, v2, v3, v4, v5, vk, v6, v7, v8, v9, v10, v11, v12, v13, v14, v15, v16, v17, v18, v19, v20⟩ := lam_made hkc' hkcn' hmade' (lam_obj htsU hO) S1 S2 S3 S4 S5 S6 S7 S8
  obtain ⟨tm, mt, hny, hmt, hstt, habs⟩ := Cond.instanceMethod_spec (htsU _ hin0)
  obtain ⟨mt2, cY, hmt2, -, -, -, -, -, -, hsigY⟩ := Cond.code_spec hny (htsU _ hcode)
  cases hmt.symm.trans hmt2
  obtain ⟨c2, r2, m2, z1, z2, z3, z4, kP, hkP, hkPi⟩ := Cond.selects_spec (htsU _ hse0)
  cases (State.methodFound?_of_named hny hy1).symm.trans z2
  cases hny.symm.trans z3
  have htgt : tgt' = tm := by
    have h1 := State.methodFound?_of_named hny hy1
    unfold State.methodFound? at h1
    rw [hyt] at h1
    rw [v14] at h1
    simp only [Option.bind_eq_bind, Option.bind_some, v15, v17] at h1
    exact Option.some.inj h1
  subst htgt
  have hpoly : signaturePolymorphic kP mt = false := by
    obtain ⟨kq, hkq, hkn⟩ := className_of_methodNamed hny
    cases hkq.symm.trans hkP
    exact signaturePolymorphic_of_name (by rw [hkn]; exact hy1) mt
  have hplain : (T.setVm vm₁).plainMethod ⟨Γ.2.2.2.1 (100 + k), 1⟩ := by
    intro kq hkq
    cases v1.symm.trans hkq
    rw [v2, hpl]
    rfl
  have hcellB : ∃ cellB : Cell, H[bo]? = some cellB ∧ cellB.vm = .none ∧ s.vm.findClass "EditsMeet" = some cellB.cls := by
    have ht1 : bg st 0 (bo : Int) 0 = ((0 + 1 : Nat) : Int) := ht0
    have hc0 : bcls[0]? = some (RX0, TX0, 8) := rfl
    obtain ⟨cellB, g1, g2, g3, -⟩ := hR.obj ht1 hc0
    exact ⟨cellB, g1, g3, by rw [g2]; exact ((hK.1.1 0 _ hc0).2).1⟩
  obtain ⟨cellB, hcB, hvB, hfB⟩ := hcellB
  have hclsB : c2 = cellB.cls := by
    have h1 : (T.setVm vm₁).vm.findClass "EditsMeet" = some cellB.cls := by
      have := hW1.alike.findClass "EditsMeet"
      rw [this]
      exact hfB
    exact Option.some.inj (z1.symm.trans h1)
  subst hclsB
  have hav : (((2, (bo : Int)) :: (xs ++ ps).map fun x => ((0, x) : bV)).map bd) = .ref bo :: ((xs ++ ps).map fun x => Value.int (i32 x)) := by
    rw [List.map_cons, show bd (2, (bo : Int)) = .ref bo from brv_nat bo, List.map_map]
    rfl
  have hsz : (F0 m pc ls (stk.map bd)).locals.size = c.maxLocals := by show ls.size = c.maxLocals; rw [hL.1, o3]
  obtain ⟨Y, hin⟩ := X₁.into (g := F0 m pc ls (stk.map bd)) rfl hsz (by show decode c.code pc = .ok (.invokeinterface index count, 5); rw [hb]; exact hd) (mk := ⟨Γ.2.2.2.1 (100 + k), 1⟩) (Value.ref bb :: ps.map fun x => Value.int (i32 x)).toArray
    (R' := { frames := frc + 1, cells := bCM - bc st, slots := bKM - bk st, locals := 8 + (maxL + 11) + loc }) v6 v7 v11 hplain (by rw [o11]; show frc + 1 + 1 ≤ fr; omega)
    (by
      have h1 : ((stk.map bd).map fun v => v.category).sum ≤ 8 := by rw [bsz_sum]; exact hW
      rw [v9, o12]
      show 2 * 0 + ((stk.map bd).map fun v => v.category).sum + (ml + 11) + (8 + (maxL + 11) + loc) ≤ lo
      omega)
    (by rw [o9]; obtain ⟨q1, q2, -⟩ := hle; show bc st - bc s0 + (bCM - bc st) ≤ _; omega) (by rw [o10]; obtain ⟨-, -, q1, q2⟩ := hle; show bk st - bk s0 + (bKM - bk st) ≤ _; omega)
  have hWc : s.WarmedH ((T.setVm vm₁).calling (F0 m pc ls (stk.map bd)) ⟨Γ.2.2.2.1 (100 + k), 1⟩ (Value.ref bb :: ps.map fun x => Value.int (i32 x)).toArray).vm := hW1
  have htsC : ∀ w ∈ lw_all, w.before args ((T.setVm vm₁).calling (F0 m pc ls (stk.map bd)) ⟨Γ.2.2.2.1 (100 + k), 1⟩ (Value.ref bb :: ps.map fun x => Value.int (i32 x)).toArray) = true := lwT hts hWc
  have hKb := xb_back (R := { frames := frc + 1, cells := bCM - bc st, slots := bKM - bk st, locals := 8 + (maxL + 11) + loc }) (p := p) (e := e) (below := .java (F0 m pc ls (stk.map bd)) :: below)
    (s := (T.setVm vm₁).calling (F0 m pc ls (stk.map bd)) ⟨Γ.2.2.2.1 (100 + k), 1⟩ (Value.ref bb :: ps.map fun x => Value.int (i32 x)).toArray) (sargs := (Value.ref bb :: ps.map fun x => Value.int (i32 x)).toArray) (W9 := 8) (len := 3) (bytes := b) (maxL := maxL) (ret := some .int) ct (bPc_blind Γ st _) (Nat.le_refl _) (Nat.le_refl _)
    (pay_in htsC (lw_meth hcode)) List.mem_cons_self (fun a' U hW => lwT htsC hW _ hini0)
  have run : ∃ t, Steps p.tables e (.java (F0 m pc ls (stk.map bd)) :: below) ((((T.setVm vm₁).setTop (F0 m pc ls (stk.map bd))).pushFrame (.java (entryFrame ⟨Γ.2.2.2.1 (100 + k), 1⟩ (Value.ref bb :: ps.map fun x => Value.int (i32 x)).toArray ck'.maxLocals))).setTop (entryFrame ⟨Γ.2.2.2.1 (100 + k), 1⟩ (Value.ref bb :: ps.map fun x => Value.int (i32 x)).toArray ck'.maxLocals)) t ∧
      fwEnd Γ st P ((T.setVm vm₁).calling (F0 m pc ls (stk.map bd)) ⟨Γ.2.2.2.1 (100 + k), 1⟩ (Value.ref bb :: ps.map fun x => Value.int (i32 x)).toArray) (.java (F0 m pc ls (stk.map bd)) :: below) (((T.setVm vm₁).setTop (F0 m pc ls (stk.map bd))).pushFrame (.java (entryFrame ⟨Γ.2.2.2.1 (100 + k), 1⟩ (Value.ref bb :: ps.map fun x => Value.int (i32 x)).toArray ck'.maxLocals))) t := by
    generalize hU : ((T.setVm vm₁).setTop (F0 m pc ls (stk.map bd))).pushFrame (.java (entryFrame ⟨Γ.2.2.2.1 (100 + k), 1⟩ (Value.ref bb :: ps.map fun x => Value.int (i32 x)).toArray ck'.maxLocals)) = U at Y
    have hUv : U.vm = (T.setVm vm₁).vm := by rw [← hU]; rfl
    have hUh : U.heap = H := by rw [← hU, ← hT]; rfl
    have hsl2 : (lg_sl (Value.ref bb :: ps.map fun x => Value.int (i32 x))).length = ml := by
      rw [hml]
      match ps, hps with
      | [], _ => rfl
      | [_], _ => rfl
    have he := lv_entry (Value.ref bb :: ps.map fun x => Value.int (i32 x)) (n := ml) (by rw [hsl2]; exact Nat.le_refl _)
    rw [v9, lg_entry_eq]
    generalize (lg_sl (Value.ref bb :: ps.map fun x => Value.int (i32 x)) ++ List.replicate (ml - (lg_sl (Value.ref bb :: ps.map fun x => Value.int (i32 x))).length) Slot.unset).toArray = ls2 at he ⊢
    have hl0' : ls2[0]? = some (.val (.ref bb)) := lv_at he 0 rfl
    have hvs : ∀ j v, (Value.ref bo :: xs.map fun x => Value.int (i32 x))[j]? = some v → ((Value.ref bo :: xs.map fun x => Value.int (i32 x)).toArray)[j]? = some v ∧ ∃ i f, U.vm.fieldReady (Γ.2.2.2.1 (100 + k)) i (Γ.2.2.2.1 (100 + k)) f ∧ f.isStatic = false ∧ f.slot = j ∧ decode ck'.code (4 * j) = .ok (.aload_n 0, 1) ∧ decode ck'.code (4 * j + 1) = .ok (.getfield i, 3) := by
      intro j v hj
      have hlt : j < fi.length := by
        have := (List.getElem?_eq_some_iff.mp hj).1
        simp only [List.length_cons, List.length_map] at this
        omega
      obtain ⟨f, f1, f2, f3⟩ := v20 j fi[j] (List.getElem?_eq_getElem hlt)
      obtain ⟨d1, d2⟩ := hdf j fi[j] (List.getElem?_eq_getElem hlt)
      exact ⟨by simpa using hj, fi[j], f, by rw [hUv]; exact f1, f2, f3, by rw [v8]; exact d1, by rw [v8]; exact d2⟩
    have hload := fw_load Y hx hl0' (by rw [hUh]; exact hcellL) rfl (Value.ref bo :: xs.map fun x => Value.int (i32 x)) hvs (1 + xs.length) (by simp; omega)
    have htk : ((Value.ref bo :: xs.map fun x => Value.int (i32 x)).take (1 + xs.length)).reverse = (xs.map fun x => Value.int (i32 x)).reverse ++ [.ref bo] := by
      rw [List.take_of_length_le (by simp; omega), List.reverse_cons]
    rw [htk] at hload
    have hl1 : ∀ z, ps = [z] → ls2[1]? = some (.val (.int (i32 z))) := by
      intro z hz
      rw [hz] at he
      exact lv_at he 1 rfl
    have hpar := fw_par Y hx (ls := ls2) (q := 4 * (1 + xs.length)) (vs := (xs.map fun x => Value.int (i32 x)).reverse ++ [.ref bo]) hps hl1 (fun h => by rw [v8]; exact hdp h)
    rw [show (ps.map fun x => Value.int (i32 x)).reverse ++ ((xs.map fun x => Value.int (i32 x)).reverse ++ [Value.ref bo]) = ((xs ++ ps).map fun x => Value.int (i32 x)).reverse ++ [Value.ref bo] by simp] at hpar
    obtain ⟨t, y1, y2⟩ := fw_V Y hx (q := 4 * (1 + xs.length) + ps.length) (midx := midx) (ls := ls2) (by rw [v9]; exact he.1) (by rw [v8]; exact hdI) (by rw [v8]; exact hdR) v13 v11 v10 (tm := tgt') (kt := kP) (mt := mt) (y := y)
      ⟨kK', file', mci, mnt, t9', tk', by rw [hUv]; exact v1, v3, by rw [v4]; exact S6.1, by rw [hUv]; exact v19, by rw [hUv]; exact v15, by rw [v16]; exact hci.2.2.2⟩ (by rw [hUv]; exact v18) (by rw [hUv]; exact hkP) (by rw [hUv]; exact hmt) hpoly hstt habs hkPi (b0 := bo) (cellB := cellB) (by rw [hUh]; exact hcB) (fun z h => by rw [hvB] at h; cases h)
      (by rw [hUv, Launch.admits_selectMethod X.admits]; exact z4) (As := (xs ++ ps).map fun x => Value.int (i32 x)) (by
        have h9 := hsigY
        cases hp : parseMethodDescriptor y.desc with
        | none => rw [hp] at hly; cases hly
        | some sg => 
          rw [hp] at hly
          rw [List.length_map, List.length_append]
          have h8 := Option.some.inj (hp.symm.trans hsigY)
          rw [← h8]
          exact (Option.some.inj hly).symm)
      (by
        have h1 : U.methodNamed? y = (T.setVm vm₁).methodNamed? y := by unfold State.methodNamed?; rw [hUv]
        rw [h1]; exact hny) hKb
      ⟨by show 0 + (bCM - bc st) ≤ bCM - bc st; omega, by show 0 + (bKM - bk st) ≤ bKM - bk st; omega, by rw [← hav], by show bRep Γ st U.heap; rw [hUh]; exact hR, bKK.moved (by rw [hUv]; exact hW1) hK, hle.2.1, hle.2.2.2⟩
    exact ⟨t, hload t (hpar t y1), y2⟩
  have hout := fw_out X₁ (g := F0 m pc ls (stk.map bd)) rfl (by show decode c.code pc = .ok (.invokeinterface index count, 5); rw [hb]; exact hd) (a2 := (Value.ref bb :: ps.map fun x => Value.int (i32 x)).toArray) ⟨rfl, rfl⟩ run
  refine xb_fin (P := P) (rk := some 0) (ln := 5) (a := (Value.ref bb :: ps.map fun x => Value.int (i32 x)).toArray) (fun st2 v hP => k1 st2 v hP) k2 hle hS2 hL hT ?_
  rcases hout with ⟨v, B, XB, hpost, hs⟩ | ⟨qx, B, XB, hpost, hs⟩
  · exact Or.inl ⟨v, vm₁, B, hW1, XB, hpost, fun target h => hstep₁ target fun acts => by rw [hin acts]; exact hs.trans h⟩
  · exact Or.inr ⟨qx, vm₁, B, hW1, XB, hpost, hstep₁ _ fun acts => by rw [hin acts]; exact hs⟩
end BRL2
