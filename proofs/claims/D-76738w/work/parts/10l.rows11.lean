/-! ROWS 11: lambdas: rows (shapeOf's inversion follows the library's Shelf42/NT82) -/
set_option maxRecDepth 100000
section XL
variable {α : Type}
theorem xl_inv19 {x : Option CpInfo} {f : Nat → Nat → Option α} {r : α} (h : Lambda.shapeOf?.match_19 (fun _ => Option α) x f (fun _ => none) = some r) : ∃ b nt, x = some (.invokeDynamic b nt) ∧ f b nt = some r := by
  split at h
  · exact ⟨_, _, rfl, h⟩
  · cases h
theorem xl_inv17 {x : Option CpInfo} {f : Nat → Option α} {r : α} (h : Lambda.shapeOf?.match_17 (fun _ => Option α) x f (fun _ => none) = some r) : ∃ y, f y = some r := by
  split at h
  · exact ⟨_, h⟩
  · cases h
theorem xl_inv15 {x : Array Nat} {f : Nat → Nat → Nat → Option α} {r : α} (h : Lambda.shapeOf?.match_15 (fun _ => Option α) x f (fun _ => none) = some r) : ∃ a0 a1 a2, f a0 a1 a2 = some r := by
  rcases x with ⟨L⟩
  match L, h with
  | [], h => cases h
  | [_], h => cases h
  | [_, _], h => cases h
  | [a, b, c], h => exact ⟨a, b, c, h⟩
  | _ :: _ :: _ :: _ :: _, h => cases h
theorem xl_inv9 {x : Option CpInfo} {f : Nat → Option α} {r : α} (h : Lambda.shapeOf?.match_9 (fun _ => Option α) x f (fun _ => none) = some r) : ∃ y, f y = some r := by
  split at h
  · exact ⟨_, h⟩
  · cases h
theorem xl_inv12 {x : Option CpInfo} {f : Nat → Nat → Option α} {r : α} (h : Lambda.shapeOf?.match_12 (fun _ => Option α) x f (fun _ => none) = some r) : ∃ y z, f y z = some r := by
  split at h
  · exact ⟨_, _, h⟩
  · cases h
theorem xl_inv6 {x : Option FieldType} {f : String → Option α} {r : α} (h : Lambda.shapeOf?.match_6 (fun _ => Option α) x f (fun _ => none) = some r) : ∃ y, f y = some r := by
  split at h
  · exact ⟨_, h⟩
  · cases h
end XL
theorem xl_site {cf : ClassFile} {index : Nat} {σ : Lambda.Shape} (h : Lambda.shapeOf? cf index = some σ) :
    ∃ (b nt : Nat) (desc : String) (site : MethodDescriptor), cf.constantPool[index]? = some (.invokeDynamic b nt) ∧ cf.constantPool.nameAndType? nt = some (σ.name, desc) ∧ parseMethodDescriptor desc = some site ∧ site.parameters = σ.captured := by
  unfold Lambda.shapeOf? at h
  obtain ⟨b, nt, hc, h⟩ := xl_inv19 h
  obtain ⟨entries, -, h⟩ := Option.bind_eq_some_iff.mp h
  obtain ⟨bm, -, h⟩ := Option.bind_eq_some_iff.mp h
  obtain ⟨r, h⟩ := xl_inv17 h
  obtain ⟨_, -, h⟩ := Option.bind_eq_some_iff.mp h
  obtain ⟨a0, a1, a2, h⟩ := xl_inv15 h
  obtain ⟨d0, h⟩ := xl_inv9 h
  obtain ⟨kind, r1, h⟩ := xl_inv12 h
  obtain ⟨d2, h⟩ := xl_inv9 h
  obtain ⟨⟨name, desc⟩, hnt, h⟩ := Option.bind_eq_some_iff.mp h
  obtain ⟨site, hsite, h⟩ := Option.bind_eq_some_iff.mp h
  obtain ⟨iface, h⟩ := xl_inv6 h
  obtain ⟨⟨implClass, implName, implDesc, implItf⟩, -, h⟩ := Option.bind_eq_some_iff.mp h
  obtain ⟨x1, -, h⟩ := Option.bind_eq_some_iff.mp h
  obtain ⟨x2, -, h⟩ := Option.bind_eq_some_iff.mp h
  obtain ⟨x3, -, h⟩ := Option.bind_eq_some_iff.mp h
  obtain ⟨x4, -, h⟩ := Option.bind_eq_some_iff.mp h
  obtain ⟨x5, -, h⟩ := Option.bind_eq_some_iff.mp h
  cases h
  exact ⟨b, nt, desc, site, hc, hnt, hsite, rfl⟩
/-- what is known of the made class's file, by computation -/
def LamS (q : MethodName × Nat × Nat × Lambda.Shape) (bytes : ByteArray) (ml midx : Nat) (fi : List Nat) : Prop :=
  ∃ (D : ClassFile) (fwd : Method) (laid : Array Field × Array FieldType × Array FieldType) (mci mnt cu : Nat), q.2.2.2.file q.1.cls = some D ∧ (∀ ms, layoutMethods D = some ms → ms[1]? = some fwd) ∧ layoutFields D 0 = some laid ∧
    (fwd.code.map fun c => (c.code.data, c.maxLocals)) = some (bytes.data, ml) ∧ (fwd.accessFlags, fwd.sig.returnType) = (0x0001, some FieldType.int) ∧
    (D.constantPool[midx]? = some (.methodref mci mnt) ∧ D.constantPool.className? mci = some q.2.2.2.implClass ∧ D.constantPool.nameAndType? mnt = some (q.2.2.2.implName, q.2.2.2.implDesc.toString)) ∧
    (D.constantPool[mci]? = some (.class_ cu) ∧ D.constantPool.string? cu = some q.2.2.2.implClass ∧ mci ≠ D.thisClass) ∧
    (∀ j i, fi[j]? = some i → ∃ ci nt fn fd, D.constantPool[i]? = some (.fieldref ci nt) ∧ D.constantPool.nameAndType? nt = some (fn, fd) ∧ laid.1.findIdx? (·.name == fn) = some j ∧ (laid.1[j]?).map (fun f => (f.isStatic, f.slot)) = some (false, j)) ∧
    laid.2.1.toList = q.2.2.2.captured
def lamD (q : MethodName × Nat × Nat × Lambda.Shape) : ClassFile := (q.2.2.2.file q.1.cls).getD { minorVersion := 0, majorVersion := 0, constantPool := #[], accessFlags := 0, thisClass := 0, superClass := 0, interfaces := #[], fields := #[], methods := #[], attributes := #[] }
def lamFw (q : MethodName × Nat × Nat × Lambda.Shape) : Method := ((layoutMethods (lamD q)).bind (·[1]?)).getD default
def lamLa (q : MethodName × Nat × Nat × Lambda.Shape) : Array Field × Array FieldType × Array FieldType := (layoutFields (lamD q) 0).getD (#[], #[], #[])
theorem LamS.mk {q : MethodName × Nat × Nat × Lambda.Shape} {bytes : ByteArray} {ml midx mci mnt cu : Nat} {fi : List Nat} (h1 : (q.2.2.2.file q.1.cls).isSome = true) (h2 : ((layoutMethods (lamD q)).bind (·[1]?)).isSome = true) (h3 : (layoutFields (lamD q) 0).isSome = true)
    (h4 : ((lamFw q).code.map fun c => (c.code.data, c.maxLocals)) = some (bytes.data, ml)) (h5 : ((lamFw q).accessFlags, (lamFw q).sig.returnType) = (0x0001, some FieldType.int))
    (h6 : (lamD q).constantPool[midx]? = some (.methodref mci mnt) ∧ (lamD q).constantPool.className? mci = some q.2.2.2.implClass ∧ (lamD q).constantPool.nameAndType? mnt = some (q.2.2.2.implName, q.2.2.2.implDesc.toString))
    (h7 : (lamD q).constantPool[mci]? = some (.class_ cu) ∧ (lamD q).constantPool.string? cu = some q.2.2.2.implClass ∧ mci ≠ (lamD q).thisClass)
    (h8 : ∀ j i, fi[j]? = some i → ∃ ci nt fn fd, (lamD q).constantPool[i]? = some (.fieldref ci nt) ∧ (lamD q).constantPool.nameAndType? nt = some (fn, fd) ∧ (lamLa q).1.findIdx? (·.name == fn) = some j ∧ ((lamLa q).1[j]?).map (fun f => (f.isStatic, f.slot)) = some (false, j))
    (h9 : (lamLa q).2.1.toList = q.2.2.2.captured) : LamS q bytes ml midx fi := by
  refine ⟨lamD q, lamFw q, lamLa q, mci, mnt, cu, ?_, ?_, ?_, h4, h5, h6, h7, h8, h9⟩
  · obtain ⟨x, hx⟩ := Option.isSome_iff_exists.mp h1
    simp [lamD, hx]
  · intro ms hms
    obtain ⟨x, hx⟩ := Option.isSome_iff_exists.mp h2
    have hf : lamFw q = x := by simp [lamFw, hx]
    rw [hms] at hx
    rw [hf]
    exact hx
  · obtain ⟨x, hx⟩ := Option.isSome_iff_exists.mp h3
    simp [lamLa, hx]
theorem lwT {args a' : Array Value} {s U : State} (hts : ∀ w ∈ lw_all, w.before args s = true) (hW : s.WarmedH U.vm) : ∀ w ∈ lw_all, w.before a' U = true := fun w h => word_at hW (good_of_word (List.mem_filter.mp h).2) (hts w h)
theorem lam_obj {args : Array Value} {s : State} (hts : ∀ w ∈ lw_all, w.before args s = true) (hq : Cond.instantiable "java/lang/Object" 0 ∈ lw_all) : ∀ o ok, s.vm.findClass "java/lang/Object" = some o → s.vm.classes[o]? = some ok → ok.instanceTypes.size = 0 := by
  intro o ok h1 h2
  obtain ⟨c, k, a1, a2, -, -, -, a6⟩ := Cond.instantiable_spec (show (Cond.instantiable "java/lang/Object" 0).holds args s none s [] = true from hts _ hq)
  cases a1.symm.trans h1
  cases a2.symm.trans h2
  exact a6
def blm (s : bS) (t : Nat) (vs : List Int) : bS := (fun r a i => if a = (s.2.1 : Int) then (if r = 0 then (t : Int) else if 2400 ≤ r then vs.getD ((r - 2400) / 4) 0 else bdf r) else s.1 r a i, s.2.1 + 1, s.2.2.1 + 1, s.2.2.2 + vs.length)
theorem bRep.pushG {Γ : bG} {st st' : bS} {H H' : Heap} (hR : bRep Γ st H) (t : Nat) (ht0 : t ≠ 0) (hnx : bnx st' = bnx st + 1) (oth : ∀ (r : Nat) (b i : Int), b ≠ (H.size : Int) → st'.1 r b i = st.1 r b i) (htag : st'.1 0 (H.size : Int) 0 = (t : Int)) (hsz : H'.size = H.size + 1) (hH : ∀ q : Nat, q < H.size → H'[q]? = H[q]?) (hat : bat Γ st' H.size H' t) : bRep Γ st' H' := by
  obtain ⟨h1, h2, h3, h4, h6, h5⟩ := hR
  refine ⟨by rw [hsz, hnx, h1], by omega, fun q hq => by rw [hH q (by omega)]; exact h3 q hq, fun b hb => ?_, ?_, fun b t2 hb ht => ?_⟩
  · rw [hnx, ← h1]
    by_cases e : b = (H.size : Int)
    · omega
    · rw [oth 0 b 0 e] at hb ⊢
      have := h4 b hb
      omega
  · exact ⟨by rw [oth 1 (-1) 0 (by omega)]; exact h6.1, fun j => by rw [oth _ _ _ (by omega)]; exact h6.2 j⟩
  · by_cases e : b = H.size
    · subst e
      rw [htag] at hb
      have e3 : t = t2 := by omega
      subst e3
      exact hat
    · have e2 : ((b : Nat) : Int) ≠ (H.size : Int) := by omega
      rw [oth _ _ _ e2] at hb
      have hold := h5 b t2 hb ht
      have hl : b < H.size := by
        have := h4 b (by rw [hb]; omega)
        omega
      exact hold.same (hH b hl) (fun r i => oth r b i e2)
theorem lam_narrow (v0 : Value) (xs : List Int) : (((.object "EditsMeet" :: List.replicate xs.length .int : List FieldType).zip (v0 :: xs.map fun x => Value.int (i32 x))).map fun (t, v) => narrow t v) = v0 :: xs.map fun x => Value.int (i32 x) := by
  rw [List.zip_cons_cons, List.map_cons]
  congr 1
  induction xs with
  | nil => rfl
  | cons x xs ih =>
    rw [List.length_cons, List.replicate_succ, List.map_cons, List.zip_cons_cons, List.map_cons, ih]
    rfl
theorem lam_slots (v0 : Int) (xs : List Int) (f : Nat → Int) (hf : ∀ r, 2400 ≤ r → f r = (v0 :: xs).getD ((r - 2400) / 4) 0) : ((2 :: List.replicate xs.length 0 : List Nat).zipIdx.map fun q => bd (q.1, f (2400 + 4 * q.2 + q.1))) = brv v0 :: xs.map fun x => Value.int (i32 x) := by
  refine List.ext_getElem? fun j => ?_
  rw [List.getElem?_map, List.getElem?_zipIdx]
  match j with
  | 0 =>
    rw [List.getElem?_cons_zero, List.getElem?_cons_zero, Option.map_some, Option.map_some]
    dsimp only
    rw [hf _ (by omega)]
    rfl
  | j + 1 =>
    rw [List.getElem?_cons_succ, List.getElem?_cons_succ, List.getElem?_map, List.getElem?_replicate]
    by_cases h : j < xs.length
    · rw [if_pos h, Option.map_some, Option.map_some, List.getElem?_eq_getElem h, Option.map_some]
      dsimp only
      rw [hf _ (by omega), show (2400 + 4 * (0 + (j + 1)) + 0 - 2400) / 4 = j + 1 by omega, List.getD_cons_succ, List.getD_eq_getElem?_getD, List.getElem?_eq_getElem h, Option.getD_some]
      rfl
    · rw [if_neg h, List.getElem?_eq_none (by omega)]
      rfl
section BRL
variable {κ : bK} {Γ0 : bG} {l0 : Launch} {cc : ByteArray} {own : String} {nL fr lo : Nat} {st st2 : bS} {pc : Nat} {L : List (Nat × bV)} {stk stk0 : List bV} {x y a i : Int}
theorem r_indyM (hκ : bOk κ Γ0 l0 cc own nL fr lo) {y : MethodName} (hi : bIn κ y) {k index : Nat} {q : MethodName × Nat × Nat × Lambda.Shape} (hq : blam[k]? = some q) (hy : q.1 = y) (hpc : q.2.1 = pc) (hix : q.2.2.1 = index) {bytes : ByteArray} {ml midx : Nat} {fi : List Nat} (hS : LamS q bytes ml midx fi) (hO : Cond.instantiable "java/lang/Object" 0 ∈ lw_all)
    {v0 : Int} {xs : List Int} (hcap : q.2.2.2.captured = .object "EditsMeet" :: List.replicate xs.length .int) (hbc : bcap[k]? = some (2 :: List.replicate xs.length 0)) (hk100 : k < 100)
    (hroom : bc st + 1 ≤ bCM ∧ bk st + (xs.length + 1) ≤ bKM) (hstk : stk0 = (xs.map fun x => ((0, x) : bV)).reverse ++ (2, v0) :: stk) (hW : bsz stk0 ≤ 8) (hlo : 3080 ≤ lo) (hd : decode cc pc = .ok (.invokedynamic index, 5))
    (kk : ∀ st', st' = blm st (500 + k) (v0 :: xs) → bJ κ st' (pc + 5) L ((2, (bnx st : Int)) :: stk)) : bJ κ st pc L stk0 := by
  have k0 := kk _ rfl
  obtain ⟨p, l, e, R, s, m, args, below, meth, c, Q, Γ, s0, n⟩ := κ
  obtain ⟨hx, hb, o3, hown, hts, hK, o7, o8, o9, o10, o11, o12, rfl, rfl⟩ := hκ
  intro hle H locs ls hR hS2 hL T hT X
  obtain ⟨l1, l2, l3, l4⟩ := id hle
  obtain ⟨r1, r2⟩ := hroom
  obtain ⟨m', kc, cf, i0, p0, lk, hm, hkc, hcf, hsh, hfind, hmade, hcall, hlk⟩ := hK.blam k q hq
  have hnm : s.methodNamed? q.1 = some m := by rw [hy]; exact hi.2
  cases hm.symm.trans hnm
  have hlk2 : lk = .makes (Γ.2.2.2.1 (100 + k)) := by
    rcases hlk with ⟨h, -⟩ | ⟨-, h⟩
    · rw [hcap] at h; cases h
    · exact h
  subst hlk2
  obtain ⟨b, nt, desc, site, hc1, hnt, hsig, hpar⟩ := xl_site hsh
  obtain ⟨D, fwd, laid, mci, mnt, cu, S1, S2, S3, S4, S5, S6, S7, S8, S9⟩ := hS
  obtain ⟨kn, hkn, hnm2⟩ := Vm.findClass_spec (findClass_of_methodNamed hm)
  cases hkn.symm.trans hkc
  obtain ⟨kK, tk, file, methk, ck, t9, tgt, w1, w2, w3, w4, w5, wk, -⟩ := lam_made hkc hnm2 hmade (lam_obj hts hO) S1 S2 S3 S4 S5 S6 S7 S8
  have htys : kK.instanceTypes.toList = .object "EditsMeet" :: List.replicate xs.length .int := by rw [w5, S9, hcap]
  have hvals : ((kK.instanceTypes.toList.zip (brv v0 :: xs.map fun x => Value.int (i32 x))).map fun (t, v) => narrow t v) = brv v0 :: xs.map fun x => Value.int (i32 x) := by rw [htys]; exact lam_narrow _ _
  have hstk2 : stk0.map bd = (brv v0 :: xs.map fun x => Value.int (i32 x)).reverse ++ stk.map bd := by
    rw [hstk, List.map_append, List.map_reverse, List.map_map, List.map_cons, List.reverse_cons, List.append_assoc]
    rfl
  have hwd : 2 * (F0 m pc ls (stk0.map bd)).monitorRoom + ((stk0.map bd).map fun v => v.category).sum + e.platform.lambdaLinkWords ≤ R.locals := by
    have h1 : ((stk0.map bd).map fun v => v.category).sum ≤ 8 := by rw [bsz_sum]; exact hW
    rw [X.admits.platform, o12]
    show 2 * 0 + ((stk0.map bd).map fun v => v.category).sum + 3072 ≤ lo
    omega
  have mk := X.lambdaMakes hx (g := F0 m pc ls (stk0.map bd)) rfl (by show ls.size = c.maxLocals; rw [hL.1, o3]) (index := index) (bsm := b) (nt := nt) (by rw [hb]; exact hd) hkc (by rw [← hpc]; exact hfind) hcf (by rw [← hix]; exact hc1) hnt (parseLong_of_parse hsig)
    (vals := brv v0 :: xs.map fun x => Value.int (i32 x)) (rest := stk.map bd) (by rw [hpar, hcap]; simp) hstk2 w1 hwd (by rw [o9]; omega) (by rw [hvals, o10]; simp; omega) (by
      intro j v hv
      rw [hvals] at hv
      have hj : (brv v0 :: xs.map fun x => Value.int (i32 x))[j]? = some v := by simpa using hv
      have hjt : kK.instanceTypes[j]? = (FieldType.object "EditsMeet" :: List.replicate xs.length .int)[j]? := by rw [← Array.getElem?_toList, htys]
      unfold State.fitsSlot State.slotType?
      match j, hj with
      | 0, hj =>
        simp only [List.getElem?_cons_zero, Option.some.injEq] at hj
        subst hj
        rcases brv_or v0 with h | ⟨z, h⟩ <;> simp [w1, wk, hjt, fits, h]
      | j + 1, hj =>
        rw [List.getElem?_cons_succ, List.getElem?_map] at hj
        cases hxj : xs[j]? with
        | none => rw [hxj] at hj; cases hj
        | some z =>
          rw [hxj] at hj
          cases hj
          have hlt : j < xs.length := (List.getElem?_eq_some_iff.mp hxj).1
          rw [List.getElem?_cons_succ, List.getElem?_replicate, if_pos hlt] at hjt
          simp [w1, wk, hjt, fits])
  rw [hvals] at mk
  obtain ⟨X2, hstep⟩ := mk
  have hsz : (T.pushCell { cls := Γ.2.2.2.1 (100 + k), slots := (brv v0 :: xs.map fun x => Value.int (i32 x)).toArray, vm := .none }).heap.size = H.size + 1 := by
    show (T.heap.push _).size = _
    rw [hT]; simp
  have hH : ∀ z : Nat, z < H.size → (T.pushCell { cls := Γ.2.2.2.1 (100 + k), slots := (brv v0 :: xs.map fun x => Value.int (i32 x)).toArray, vm := .none }).heap[z]? = H[z]? := by
    intro z hz
    show (T.heap.push _)[z]? = _
    rw [hT, Array.getElem?_push, if_neg (by omega)]
  have e0 : st.2.1 = H.size := hR.1.symm
  have hR' : bRep Γ (blm st (500 + k) (v0 :: xs)) (T.pushCell { cls := Γ.2.2.2.1 (100 + k), slots := (brv v0 :: xs.map fun x => Value.int (i32 x)).toArray, vm := .none }).heap := by
    refine hR.pushG (500 + k) (by omega) rfl (fun r b i hb => ?_) ?_ hsz hH ?_
    · show (if b = (st.2.1 : Int) then _ else _) = _
      rw [e0, if_neg hb]
    · show (if (H.size : Int) = (st.2.1 : Int) then _ else _) = _
      rw [e0, if_pos rfl, if_pos rfl]
    · unfold bat
      rw [if_pos (by omega)]
      refine ⟨fun _ => ?_, fun q9 => absurd q9 (by omega)⟩
      show (T.heap.push _)[H.size]? = _
      rw [← hT, Array.getElem?_push, if_pos rfl]
      rw [show 500 + k - 400 = 100 + k by omega, show 500 + k - 500 = k by omega, List.getD_eq_getElem?_getD, hbc, Option.getD_some]
      congr 2
      congr 1
      refine (lam_slots v0 xs (fun r => (blm st (500 + k) (v0 :: xs)).1 r (T.heap.size : Int) 0) fun r hr => ?_).symm
      show (if (T.heap.size : Int) = (st.2.1 : Int) then _ else _) = _
      rw [e0, hT, if_pos rfl, if_neg (by omega), if_pos hr]
  have key := k0 ⟨by show bc s0 ≤ bc st + 1; omega, by show bc st + 1 ≤ bCM; omega, by show bk s0 ≤ bk st + _; omega, by show bk st + (xs.length + 1) ≤ bKM; omega⟩ _ locs ls hR' (hS2.pushed hsz hH) hL
    (T.pushCell { cls := Γ.2.2.2.1 (100 + k), slots := (brv v0 :: xs.map fun x => Value.int (i32 x)).toArray, vm := .none }) rfl (by
      rw [show bc (blm st (500 + k) (v0 :: xs)) - bc s0 = bc st - bc s0 + 1 by show bc st + 1 - bc s0 = _; omega, show bk (blm st (500 + k) (v0 :: xs)) - bk s0 = bk st - bk s0 + (brv v0 :: xs.map fun x => Value.int (i32 x)).toArray.size by show bk st + (xs.length + 1) - bk s0 = _; simp; omega]
      exact X2)
  obtain ⟨t, z1, z2⟩ := key
  refine ⟨t, hstep t ?_, z2⟩
  rw [List.map_cons, show bd (2, (bnx st : Int)) = .ref T.heap.size by rw [hT, hR.1]; exact brv_nat _] at z1
  exact z1
theorem r_indyK (hκ : bOk κ Γ0 l0 cc own nL fr lo) {y : MethodName} (hi : bIn κ y) {k index : Nat} {q : MethodName × Nat × Nat × Lambda.Shape} (hq : blam[k]? = some q) (hy : q.1 = y) (hpc : q.2.1 = pc) (hcap : q.2.2.2.captured = []) (hW : bsz stk ≤ 8) (hlo : 3080 ≤ lo) (hd : decode cc pc = .ok (.invokedynamic index, 5))
    (kk : bJ κ st (pc + 5) L ((2, bg st 1 (-(2 + ((100 + k : Nat) : Int))) 0) :: stk)) : bJ κ st pc L stk := by
  obtain ⟨p, l, e, R, s, m, args, below, meth, c, Q, Γ, s0, n⟩ := κ
  obtain ⟨hx, hb, o3, hown, hts, hK, o7, o8, o9, o10, o11, o12, rfl, rfl⟩ := hκ
  intro hle H locs ls hR hS2 hL T hT X
  obtain ⟨m', kc, cf, i0, p0, lk, hm, hkc, hcf, hsh, hfind, hmade, hcall, hlk⟩ := hK.blam k q hq
  have hnm : s.methodNamed? q.1 = some m := by rw [hy]; exact hi.2
  cases hm.symm.trans hnm
  obtain ⟨h0, rfl⟩ : 0 ≤ Γ.2.2.2.2 (100 + k) ∧ lk = .constant (Γ.2.2.2.2 (100 + k)).toNat := by
    rcases hlk with ⟨-, h⟩ | ⟨h, -⟩
    · exact h
    · exact absurd hcap h
  have hwd : 2 * (F0 m pc ls (stk.map bd)).monitorRoom + ((stk.map bd).map fun v => v.category).sum + e.platform.lambdaLinkWords ≤ R.locals := by
    have h1 : ((stk.map bd).map fun v => v.category).sum ≤ 8 := by rw [bsz_sum]; exact hW
    rw [X.admits.platform, o12]
    show 2 * 0 + ((stk.map bd).map fun v => v.category).sum + 3072 ≤ lo
    omega
  obtain ⟨t, z1, z2⟩ := kk hle H locs ls hR hS2 hL T hT X
  refine ⟨t, X.lambdaConstant hx (g := F0 m pc ls (stk.map bd)) rfl (by show ls.size = c.maxLocals; rw [hL.1, o3]) (index := index) (by rw [hb]; exact hd) hkc (by rw [← hpc]; exact hfind) hwd ?_, z2⟩
  rw [List.map_cons, show bd (2, bg st 1 (-(2 + ((100 + k : Nat) : Int))) 0) = .ref (Γ.2.2.2.2 (100 + k)).toNat by
    rw [show bg st 1 (-(2 + ((100 + k : Nat) : Int))) 0 = Γ.2.2.2.2 (100 + k) from hR.2.2.2.2.1.2 (100 + k)]; exact brv_ref h0] at z1
  exact z1
end BRL
