/-! ROWS 10: lambdas: the class that the VM makes for a site, its one method, its call (lam_made, the forwarder's run follow the library's Example/ToyCaptured, ForwardCaptured, Shelf42/FN1) -/
set_option maxRecDepth 100000
section LM
theorem lam_made {vm : Vm} {d c : ClassId} {dk : Class} {σ : Lambda.Shape} {nm : String} {D : ClassFile} {fwd : Method} {laid : Array Field × Array FieldType × Array FieldType} {bytes : ByteArray} {ml midx mci mnt cu : Nat} {fi : List Nat}
    (hd : vm.classes[d]? = some dk) (hname : dk.name = nm) (h : Lambda.isMade { classPath := fun _ => none } vm d σ c = true) (hO : ∀ o ok, vm.findClass "java/lang/Object" = some o → vm.classes[o]? = some ok → ok.instanceTypes.size = 0)
    (file_is : σ.file nm = some D) (second_is : ∀ ms, layoutMethods D = some ms → ms[1]? = some fwd) (laid_is : layoutFields D 0 = some laid)
    (f_code : (fwd.code.map fun c => (c.code.data, c.maxLocals)) = some (bytes.data, ml)) (f_flags : (fwd.accessFlags, fwd.sig.returnType) = (0x0001, some FieldType.int))
    (eM : D.constantPool[midx]? = some (.methodref mci mnt) ∧ D.constantPool.className? mci = some σ.implClass ∧ D.constantPool.nameAndType? mnt = some (σ.implName, σ.implDesc.toString))
    (eC : D.constantPool[mci]? = some (.class_ cu) ∧ D.constantPool.string? cu = some σ.implClass ∧ mci ≠ D.thisClass)
    (eF : ∀ j i, fi[j]? = some i → ∃ ci nt fn fd, D.constantPool[i]? = some (.fieldref ci nt) ∧ D.constantPool.nameAndType? nt = some (fn, fd) ∧ laid.1.findIdx? (·.name == fn) = some j ∧ (laid.1[j]?).map (fun f => (f.isStatic, f.slot)) = some (false, j)) :
    ∃ (k tk : Class) (file : ClassFile) (methk : Method) (ck : Code) (t : ClassId) (target : MethodId),
      vm.classes[c]? = some k ∧ k.name = nm ++ "$$Lambda" ∧ k.cf = some file ∧ file.constantPool = D.constantPool ∧ k.instanceTypes.toList = laid.2.1.toList ∧ k.kind = .ordinary ∧
      vm.method? ⟨c, 1⟩ = some methk ∧ methk.code = some ck ∧ ck.code = bytes ∧ ck.maxLocals = ml ∧ ck.exceptionTable.isEmpty = true ∧ methk.locks = false ∧ methk.accessFlags = 0x0001 ∧ methk.sig.returnType = some .int ∧
      vm.findClass σ.implClass = some t ∧ vm.classes[t]? = some tk ∧ tk.isInterface = σ.implItf ∧ ((methodIn t σ.implName σ.implDesc.toString tk.isInterface none).ask { classPath := fun _ => none } vm).1 = .ok target ∧
      vm.methodReady c midx target ∧ vm.classReady c mci t ∧ (∀ j i, fi[j]? = some i → ∃ f, vm.fieldReady c i c f ∧ f.isStatic = false ∧ f.slot = j) := by
  obtain ⟨dk', k, ok, tk, file, cf, object, iface, t, lay, methods, target, found, hd', hk, hfile, hcf, hobj, -, hok, hlay, hms, ht, htk, hg, -, hrec, -, -, -, hitf, hpool, hmeth, hfields, htys, hres, -⟩ := Lambda.isMade_spec h
  cases hd.symm.trans hd'
  rw [hname, file_is] at hcf
  cases hcf
  have hO2 := hO object ok hobj hok
  rw [hO2, laid_is] at hlay
  cases hlay
  obtain ⟨b, hb, hsame⟩ := hmeth 1 fwd (second_is methods hms)
  simp only [Lambda.sameMethod, Bool.and_eq_true, decide_eq_true_eq] at hsame
  obtain ⟨⟨hn, -, hsig, hfl⟩, hcode⟩ := hsame
  simp only [Prod.mk.injEq] at f_flags
  cases hfc : fwd.code with
  | none => rw [hfc] at f_code; cases f_code
  | some x =>
    cases hbc : b.code with
    | none => simp [hfc, hbc] at hcode
    | some y =>
      simp only [hfc, hbc, Bool.and_eq_true, decide_eq_true_eq] at hcode
      simp only [hfc, Option.map_some, Option.some.injEq, Prod.mk.injEq] at f_code
      refine ⟨k, tk, file, b, y, t, target, hk, by rw [hrec.1, hname], hfile, hpool.2.1, ?_, hrec.2.1, by simp [Vm.method?, hk, hb], hbc, ?_, by rw [← hcode.1.1.1.1.2.1]; exact f_code.2, hcode.1.1.2, ?_, by rw [← hfl]; exact f_flags.1, by rw [← hsig]; exact f_flags.2, ht, htk, hitf, hg,
        ⟨k, hk, hres midx _ (Lambda.resolvedOf_method eM.1 eM.2.1 ht htk eM.2.2 hg)⟩, ⟨k, hk, hres mci _ (Lambda.resolvedOf_class eC.1 eC.2.2 eC.2.1 ht)⟩, fun j i hji => ?_⟩
      · rw [htys.1, Array.eq_empty_of_size_eq_zero hO2]
        simp
      · rw [← hcode.1.1.1.1.2.2]
        exact ByteArray.ext f_code.1
      · simp [Method.locks, Method.isSynchronized, ← hfl, f_flags.1, hasFlag, Acc.synchronized]
      · obtain ⟨ci, nt, fn, fd, z1, z2, z3, z4⟩ := eF j i hji
        obtain ⟨g0, hg0, hp0⟩ := Option.map_eq_some_iff.mp z4
        simp only [Prod.mk.injEq] at hp0
        exact ⟨g0, ⟨k, j, k, hk, hres i _ (Lambda.resolvedOf_field z1 z2 z3), hk, hfields j _ hg0⟩, hp0.1, hp0.2⟩
variable {p : Program} {l : Launch} {e : Env} {R : Room} {s : State} {m : MethodId} {args : Array Value} {below : List Frame} {meth : Method} {c : Code}
theorem fw_load {U : State} {locs : List Loc} {cells slots : Nat} (Y : Stand p l e R s m args below meth c U locs cells slots) (hexec : p.tables.exec = Jvm.exec) {a : Addr} {cellK : Cell} {ls : Array Slot} (hl0 : ls[0]? = some (.val (.ref a))) (hcell : U.heap[a]? = some cellK) (hvm : cellK.vm = .none) (vs : List Value)
    (hsl : ∀ j v, vs[j]? = some v → cellK.slots[j]? = some v ∧ ∃ i f, U.vm.fieldReady m.cls i m.cls f ∧ f.isStatic = false ∧ f.slot = j ∧ decode c.code (4 * j) = .ok (.aload_n 0, 1) ∧ decode c.code (4 * j + 1) = .ok (.getfield i, 3)) :
    ∀ n, n ≤ vs.length → ∀ target, Steps p.tables e below (U.setTop (F0 m (4 * n) ls (vs.take n).reverse)) target → Steps p.tables e below (U.setTop (F0 m 0 ls [])) target := by
  intro n
  induction n with
  | zero => intro _ target h; exact h
  | succ n ih =>
    intro hn target h
    refine ih (by omega) target ?_
    obtain ⟨v, hv⟩ : ∃ v, vs[n]? = some v := ⟨vs[n], List.getElem?_eq_getElem (by omega)⟩
    obtain ⟨hsv, i, f, hf, hfs, hfsl, d1, d2⟩ := hsl n v hv
    have hs : U.topJava?.isSome := Y.here.top
    have htk : (vs.take (n + 1)).reverse = v :: (vs.take n).reverse := by rw [List.take_add_one, hv]; simp
    rw [htk] at h
    jvm_step Y.here [hexec, d1, hl0, Value.isRef]
    jvm_step Y.here [hexec, d2, getfield.wp_ready (e := e) (s := U) (c := m.cls) (field := f) (a := a) (rest := (vs.take n).reverse) (cell := cellK) (v := v) (f := F0 m (4 * n + 1) ls (.ref a :: (vs.take n).reverse)) hs hf hfs rfl hcell (by rw [hvm]; simp) (by rw [hfsl]; exact hsv)]
    exact h
/-- the end of a made class's method: the target's -/
def fwEnd (Γ : bG) (st : bS) (P : bP) (s : State) (below : List Frame) (U : State) (t : State) : Prop :=
  (∃ (L : List Loc) (st' : bS) (v0 : Int), Ended t below (.returned (some (bd (0, v0)))) ∧ P st' v0 (-1) ∧ bRep Γ st' t.heap ∧ (U.heap.size ≤ t.heap.size ∧ ∀ q : Nat, q < U.heap.size → ¬ bA Γ q → t.heap[q]? = U.heap[q]?) ∧ bLe st st' ∧ (∀ z ∈ L, bA Γ z.base) ∧ s.WarmedH t.vm ∧ s.sameButNew ({ t with vm := s.vm } : State) L (bc st' - bc st) (bk st' - bk st)) ∨
  (∃ (L : List Loc) (st' : bS) (qx : Addr) (j : Nat) (E : String) (ce : Cell), Ended t below (.threw qx) ∧ P st' (qx : Int) (j : Int) ∧ bex[j]? = some E ∧ t.heap[qx]? = some ce ∧ ce.vm = .none ∧ U.vm.findClass E = some ce.cls ∧ bRep Γ st' t.heap ∧ (U.heap.size ≤ t.heap.size ∧ ∀ q : Nat, q < U.heap.size → ¬ bA Γ q → t.heap[q]? = U.heap[q]?) ∧ bLe st st' ∧ (∀ z ∈ L, bA Γ z.base) ∧ s.WarmedH t.vm ∧ s.sameButNew ({ t with vm := s.vm } : State) L (bc st' - bc st) (bk st' - bk st))
theorem fw_end {U : State} (Y : Stand p l e R s m args below meth c U [] 0 0) (hexec : p.tables.exec = Jvm.exec) {q : Nat} {ls : Array Slot} (hdR : decode c.code (q + 3) = .ok (.ireturn, 1)) (hret : meth.sig.returnType = some .int) (hlk : meth.locks = false) (htab : c.exceptionTable.isEmpty = true)
    {Γ : bG} {st : bS} {P : bP} {a : Array Value} {S0 : State}
    (h : (∃ (v : Option Value) (B : Pt), Stand p l e R s m args below meth c B.U B.locs B.cells B.slots ∧ xbPost Γ (some 0) st P ⟨U, [], 0, 0⟩ a v B ∧ Steps p.tables e below S0 (B.U.setTop { F0 m q ls [] with pc := q + 3, stack := v.toList ++ [] })) ∨
      (∃ (qx : Addr) (B : Pt), Stand p l e R s m args below meth c B.U B.locs B.cells B.slots ∧ xbPostX Γ st P ⟨U, [], 0, 0⟩ a qx B ∧ Steps p.tables e below S0 ((B.U.setTop (F0 m q ls [])).pushFrame (.throwing qx)))) :
    ∃ t, Steps p.tables e below S0 t ∧ fwEnd Γ st P s below U t := by
  rcases h with ⟨v, ⟨U', l2, c2, s2⟩, X', ⟨g', mk', t, L, st', v0, e1, e2, hP, hv, hR, ⟨hz, hk⟩, hle, h1, hL, h2, h3⟩, hsteps⟩ | ⟨qx, ⟨U', l2, c2, s2⟩, X', ⟨g', mk', t, L, E, ce, j, st', e1, e2, hP, hE, hce, hcv, hcl, hR, ⟨hz, hk⟩, hle, h1, hL, h2, h3⟩, hsteps⟩
  · dsimp only [Pt.U, Pt.locs, Pt.cells, Pt.slots] at X' e1 e2 h1 h2 h3 hsteps hz hk
    subst h1; subst h2; subst h3
    have hv2 : v = some (bd (0, v0)) := hv
    subst hv2
    obtain ⟨fs, hretn, hrun, hended, hW, hsame⟩ := X'.leave (v := some (bd (0, v0))) (fun h => by rw [hret] at h; cases h) hlk
    have hheap : (U'.setFrames fs).heap = t.heap := e1
    refine ⟨U'.setFrames fs, ?_, Or.inl ⟨l2, st', v0, hended, hP, by rw [hheap]; exact hR, ⟨by rw [hheap]; exact hz, fun z z1 z2 => by rw [hheap]; exact hk z z1 z2⟩, hle, hL, hW, by simpa using hsame⟩⟩
    refine hsteps.trans ?_
    show Steps p.tables e below (U'.setTop (F0 m (q + 3) ls [.int (i32 v0)])) _
    jvm_step X'.here [X'.here.top, hexec, hdR, X'.method', hret, narrow]
    intro acts
    rw [show (Value.int (i32 v0)) = bd (0, v0) from rfl]
    rw [hretn (F0 m (q + 3) ls []) acts rfl rfl rfl]
    exact Steps.refl _
  · dsimp only [Pt.U, Pt.locs, Pt.cells, Pt.slots] at X' e1 e2 h1 h2 h3 hsteps hz hk hcl
    subst h1; subst h2; subst h3
    obtain ⟨st1, hrun, hend, hW, hsm⟩ := X'.leaveThrown qx (g := F0 m q ls []) rfl rfl rfl (fun x hx => by rw [Array.isEmpty_iff.mp htab] at hx; cases hx) hlk
    have hheap : (U'.setFrames (.throwing qx :: below)).heap = t.heap := e1
    exact ⟨_, hsteps.trans st1, Or.inr ⟨l2, st', qx, j, E, ce, hend, hP, hE, by rw [hheap]; exact hce, hcv, hcl, by rw [hheap]; exact hR, ⟨by rw [hheap]; exact hz, fun z z1 z2 => by rw [hheap]; exact hk z z1 z2⟩, hle, hL, hW, by simpa using hsm⟩⟩
theorem fw_V {U : State} (Y : Stand p l e R s m args below meth c U [] 0 0) (hexec : p.tables.exec = Jvm.exec) {q midx : Nat} {ls : Array Slot} (hsize : ls.size = c.maxLocals) (hdI : decode c.code q = .ok (.invokevirtual midx, 3)) (hdR : decode c.code (q + 3) = .ok (.ireturn, 1)) (hret : meth.sig.returnType = some .int) (hlk : meth.locks = false) (htab : c.exceptionTable.isEmpty = true)
    {tm : MethodId} {kt : Class} {mt : Method} {y : MethodName} (hnamed : namesAClass U m.cls midx) (hready : U.vm.methodReady m.cls midx tm) (hkt : U.vm.classes[tm.cls]? = some kt) (hmt : U.vm.method? tm = some mt) (hpoly : signaturePolymorphic kt mt = false) (hst : mt.isStatic = false) (habs : mt.isAbstract = false) (hitf : kt.isInterface = false)
    {b0 : Addr} {cellB : Cell} (hcellB : U.heap[b0]? = some cellB) (hobj : ∀ k, cellB.vm ≠ .statics k) (hsel : selectMethod e.platform U.vm cellB.cls tm = .method tm) {As : List Value} (hlen : As.length = mt.sig.parameters.length) (hny : U.methodNamed? y = some tm)
    {Pre : Pt → Array Value → Prop} {Γ : bG} {st : bS} {P : bP} (hKb : vx_Back l R p e below s args y 3 8 Pre (xbPost Γ (some 0) st P) (xbPostX Γ st P)) (hpre : Pre ⟨U, [], 0, 0⟩ (.ref b0 :: As).toArray) :
    ∃ t, Steps p.tables e below (U.setTop (F0 m q ls (As.reverse ++ [.ref b0]))) t ∧ fwEnd Γ st P s below U t := by
  have hs : U.topJava?.isSome := Y.here.top
  have h0 := hKb m meth c ⟨U, [], 0, 0⟩ (F0 m q ls []) (.invokevirtual midx) tm (.ref b0 :: As).toArray Y rfl hsize hdI (by show 2 * 0 + 0 ≤ 8; omega) hny hpre
  obtain ⟨t, h1, h2⟩ := fw_end Y hexec (ls := ls) (q := q) hdR hret hlk htab h0
  refine ⟨t, ?_, h2⟩
  jvm_step Y.here [hexec, hdI, invokevirtual.wp_ready (e := e) (s := U) (r := tm) (m := tm) (k := kt) (mk := kt) (rmeth := mt) (meth := mt) (a := b0) (args := As) (rest := []) (cell := cellB) (f := F0 m q ls (As.reverse ++ [.ref b0])) hs hnamed hready hkt hmt hpoly hst hlen rfl hcellB hobj hsel hmt habs hkt hitf]
  intro acts
  rw [doInvoke_state]
  exact h1
theorem fw_S {U : State} (Y : Stand p l e R s m args below meth c U [] 0 0) (hexec : p.tables.exec = Jvm.exec) {q midx : Nat} {ls : Array Slot} (hsize : ls.size = c.maxLocals) (hdI : decode c.code q = .ok (.invokestatic midx, 3)) (hdR : decode c.code (q + 3) = .ok (.ireturn, 1)) (hret : meth.sig.returnType = some .int) (hlk : meth.locks = false) (htab : c.exceptionTable.isEmpty = true)
    {tm : MethodId} {kt : Class} {mt : Method} {y : MethodName} (hnamed : plainRef U e m.cls midx) (hready : U.vm.methodReady m.cls midx tm) (hkt : U.vm.classes[tm.cls]? = some kt) (hmt : U.vm.method? tm = some mt) (hpoly : signaturePolymorphic kt mt = false) (hst : mt.isStatic = true) (hini : kt.init = .initialized)
    {As : List Value} (hlen : As.length = mt.sig.parameters.length) (hny : U.methodNamed? y = some tm)
    {Pre : Pt → Array Value → Prop} {Γ : bG} {st : bS} {P : bP} (hKb : vx_Back l R p e below s args y 3 8 Pre (xbPost Γ (some 0) st P) (xbPostX Γ st P)) (hpre : Pre ⟨U, [], 0, 0⟩ As.toArray) :
    ∃ t, Steps p.tables e below (U.setTop (F0 m q ls As.reverse)) t ∧ fwEnd Γ st P s below U t := by
  have hs : U.topJava?.isSome := Y.here.top
  have h0 := hKb m meth c ⟨U, [], 0, 0⟩ (F0 m q ls []) (.invokestatic midx) tm As.toArray Y rfl hsize hdI (by show 2 * 0 + 0 ≤ 8; omega) hny hpre
  obtain ⟨t, h1, h2⟩ := fw_end Y hexec (ls := ls) (q := q) hdR hret hlk htab h0
  refine ⟨t, ?_, h2⟩
  jvm_step Y.here [hexec, hdI, invokestatic.wp_ready (e := e) (s := U) (m := tm) (k := kt) (meth := mt) (args := As) (rest := []) (f := F0 m q ls As.reverse) hs hnamed hready hkt hmt hpoly hst hini hlen (by simp)]
  intro acts
  rw [doInvoke_state]
  exact h1
/-- out of the made class's method -/
theorem fw_out {T : State} {locs : List Loc} {cells slots : Nat} (X : Stand p l e R s m args below meth c T locs cells slots) {g : JFrame} (hg : g.method = m) {ig : Instr} {len : Nat} (hdg : decode c.code g.pc = .ok (ig, len)) {mk : MethodId} {a a2 : Array Value} {U S0 : State} (hU : U.heap = T.heap ∧ U.vm = T.vm)
    {Γ : bG} {st : bS} {P : bP} (h : ∃ t, Steps p.tables e (.java g :: below) S0 t ∧ fwEnd Γ st P (T.calling g mk a) (.java g :: below) U t) :
    (∃ (v : Option Value) (B : Pt), Stand p l e R s m args below meth c B.U B.locs B.cells B.slots ∧ xbPost Γ (some 0) st P ⟨T, locs, cells, slots⟩ a2 v B ∧ Steps p.tables e below S0 (B.U.setTop { g with pc := g.pc + len, stack := v.toList ++ g.stack })) ∨
      (∃ (qx : Addr) (B : Pt), Stand p l e R s m args below meth c B.U B.locs B.cells B.slots ∧ xbPostX Γ st P ⟨T, locs, cells, slots⟩ a2 qx B ∧ Steps p.tables e below S0 ((B.U.setTop g).pushFrame (.throwing qx))) := by
  obtain ⟨t, hsteps, hend⟩ := h
  have hw : Steps p.tables e below S0 t := Steps.weaken (mid := [.java g]) hsteps
  have hTU : T.heap.size ≤ U.heap.size ∧ U.heap.size ≤ T.heap.size := by rw [hU.1]; exact ⟨Nat.le_refl _, Nat.le_refl _⟩
  rcases hend with ⟨L, st', v0, hE, hP, hR, ⟨hz, hk⟩, hle, hL, hW, hsm⟩ | ⟨L, st', qx, j, E, ce, hE, hP, hbe, hce, hcv, hcl, hR, ⟨hz, hk⟩, hle, hL, hW, hsm⟩
  · obtain ⟨T', X', hW', hB, ht⟩ := X.outOf hg hdg hE hW hsm
    have hh : T'.heap = t.heap := by rw [ht]; rfl
    have hF : va_F (bA Γ) (T.calling g mk a) t := ⟨by show T.heap.size ≤ _; rw [← hU.1]; exact hz, fun z z1 z2 => (hk z (by rw [hU.1]; exact z1) z2).trans (by rw [hU.1]; rfl)⟩
    refine Or.inl ⟨some (bd (0, v0)), ⟨T', locs ++ L, cells + (bc st' - bc st), slots + (bk st' - bk st)⟩, X', ⟨g, mk, T', L, st', v0, rfl, rfl, hP, rfl, by rw [hh]; exact hR, ⟨by rw [hh]; exact hF.1, fun z z1 z2 => by rw [hh]; exact hF.2 z z1 z2⟩, hle, rfl, hL, rfl, rfl⟩, ?_⟩
    show Steps p.tables e below S0 (T'.setTop { g with pc := g.pc + len, stack := (some (bd (0, v0))).toList ++ g.stack })
    rw [← ht]
    exact hw
  · obtain ⟨T', X', hW', hB, ht⟩ := X.outOfThrown hg hE hW hsm
    have hh : T'.heap = t.heap := by rw [ht]; rfl
    have hF : va_F (bA Γ) (T.calling g mk a) t := ⟨by show T.heap.size ≤ _; rw [← hU.1]; exact hz, fun z z1 z2 => (hk z (by rw [hU.1]; exact z1) z2).trans (by rw [hU.1]; rfl)⟩
    refine Or.inr ⟨qx, ⟨T', locs ++ L, cells + (bc st' - bc st), slots + (bk st' - bk st)⟩, X', ⟨g, mk, T', L, E, ce, j, st', rfl, rfl, hP, hbe, by rw [hh]; exact hce, hcv, by show T.vm.findClass E = _; rw [← hU.2]; exact hcl, by rw [hh]; exact hR, ⟨by rw [hh]; exact hF.1, fun z z1 z2 => by rw [hh]; exact hF.2 z z1 z2⟩, hle, rfl, hL, rfl, rfl⟩, ?_⟩
    show Steps p.tables e below S0 ((T'.setTop g).pushFrame (.throwing qx))
    rw [← ht]
    exact hw
end LM
