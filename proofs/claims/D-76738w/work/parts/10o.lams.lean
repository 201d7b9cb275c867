/-! the made classes of the lambda sites: computed facts (printed by gen/lamsp.py) -/
set_option maxRecDepth 100000
def lamChk (q : MethodName × Nat × Nat × Lambda.Shape) (bytes : ByteArray) (ml midx mci mnt cu : Nat) (fs : List (Nat × Nat × Nat × String × String)) : Bool :=
  match q.2.2.2.file q.1.cls with
  | none => false
  | some D =>
    match layoutMethods D, layoutFields D 0 with
    | some ms, some laid =>
      match ms[1]? with
      | none => false
      | some fwd => decide ((fwd.code.map fun c => (c.code.data, c.maxLocals)) = some (bytes.data, ml)) && decide ((fwd.accessFlags, fwd.sig.returnType) = (0x0001, some FieldType.int)) &&
          decide (D.constantPool[midx]? = some (.methodref mci mnt)) && decide (D.constantPool.className? mci = some q.2.2.2.implClass) && decide (D.constantPool.nameAndType? mnt = some (q.2.2.2.implName, q.2.2.2.implDesc.toString)) &&
          decide (D.constantPool[mci]? = some (.class_ cu)) && decide (D.constantPool.string? cu = some q.2.2.2.implClass) && decide (mci ≠ D.thisClass) &&
          (fs.zipIdx.all fun z => decide (D.constantPool[z.1.1]? = some (.fieldref z.1.2.1 z.1.2.2.1)) && decide (D.constantPool.nameAndType? z.1.2.2.1 = some (z.1.2.2.2.1, z.1.2.2.2.2)) && decide (laid.1.findIdx? (·.name == z.1.2.2.2.1) = some z.2) && decide ((laid.1[z.2]?).map (fun f => (f.isStatic, f.slot)) = some (false, z.2))) &&
          decide (laid.2.1.toList = q.2.2.2.captured)
    | _, _ => false
theorem lamChk_ok {q : MethodName × Nat × Nat × Lambda.Shape} {bytes : ByteArray} {ml midx mci mnt cu : Nat} {fs : List (Nat × Nat × Nat × String × String)} (h : lamChk q bytes ml midx mci mnt cu fs = true) : LamS q bytes ml midx (fs.map (·.1)) := by
  unfold lamChk at h
  cases hD : q.2.2.2.file q.1.cls with
  | none => rw [hD] at h; cases h
  | some D =>
    rw [hD] at h
    dsimp only at h
    cases hm : layoutMethods D with
    | none => rw [hm] at h; cases h
    | some ms =>
      cases hl : layoutFields D 0 with
      | none => rw [hm, hl] at h; cases h
      | some laid =>
        rw [hm, hl] at h
        dsimp only at h
        cases hf : ms[1]? with
        | none => rw [hf] at h; cases h
        | some fwd =>
          rw [hf] at h
          simp only [Bool.and_eq_true, decide_eq_true_eq] at h
          obtain ⟨⟨⟨⟨⟨⟨⟨⟨⟨a1, a2⟩, a3⟩, a4⟩, a5⟩, a6⟩, a7⟩, a8⟩, a9⟩, a10⟩ := h
          refine ⟨D, fwd, laid, mci, mnt, cu, hD, fun ms' h' => ?_, hl, a1, a2, ⟨a3, a4, a5⟩, ⟨a6, a7, a8⟩, fun j i hj => ?_, a10⟩
          · rw [hm] at h'
            cases h'
            exact hf
          · rw [List.getElem?_map] at hj
            cases hz : fs[j]? with
            | none => rw [hz] at hj; cases hj
            | some z =>
              rw [hz] at hj
              cases hj
              rw [List.all_eq_true] at a9
              have h9 := a9 (z, j) (List.mem_zipIdx_iff_getElem?.mpr (by simpa using hz))
              simp only [Bool.and_eq_true, decide_eq_true_eq] at h9
              exact ⟨_, _, _, _, h9.1.1.1, h9.1.1.2, h9.1.2, h9.2⟩
def lmb4_0 : ByteArray := ⟨#[0x2a, 0xb4, 0x00, 0x13, 0x2a, 0xb4, 0x00, 0x15, 0x2a, 0xb4, 0x00, 0x17, 0x2a, 0xb4, 0x00, 0x19, 0xb6, 0x00, 0x21, 0xac]⟩
theorem lmd4_0 : ∀ j i, ([19, 21, 23, 25] : List Nat)[j]? = some i → decode lmb4_0 (4 * j) = .ok (.aload_n 0, 1) ∧ decode lmb4_0 (4 * j + 1) = .ok (.getfield i, 3) := by
  intro j i h
  match j, h with
  | 0, h => cases h; exact ⟨by decide +kernel, by decide +kernel⟩
  | 1, h => cases h; exact ⟨by decide +kernel, by decide +kernel⟩
  | 2, h => cases h; exact ⟨by decide +kernel, by decide +kernel⟩
  | 3, h => cases h; exact ⟨by decide +kernel, by decide +kernel⟩
  | j + 4, h => simp at h
theorem lmi4_0 : decode lmb4_0 16 = .ok (.invokevirtual 33, 3) := by decide +kernel
theorem lmr4_0 : decode lmb4_0 19 = .ok (.ireturn, 1) := by decide +kernel
def lmb3_0 : ByteArray := ⟨#[0x2a, 0xb4, 0x00, 0x12, 0x2a, 0xb4, 0x00, 0x14, 0x2a, 0xb4, 0x00, 0x16, 0xb6, 0x00, 0x1e, 0xac]⟩
theorem lmd3_0 : ∀ j i, ([18, 20, 22] : List Nat)[j]? = some i → decode lmb3_0 (4 * j) = .ok (.aload_n 0, 1) ∧ decode lmb3_0 (4 * j + 1) = .ok (.getfield i, 3) := by
  intro j i h
  match j, h with
  | 0, h => cases h; exact ⟨by decide +kernel, by decide +kernel⟩
  | 1, h => cases h; exact ⟨by decide +kernel, by decide +kernel⟩
  | 2, h => cases h; exact ⟨by decide +kernel, by decide +kernel⟩
  | j + 3, h => simp at h
theorem lmi3_0 : decode lmb3_0 12 = .ok (.invokevirtual 30, 3) := by decide +kernel
theorem lmr3_0 : decode lmb3_0 15 = .ok (.ireturn, 1) := by decide +kernel
def lmbS : ByteArray := ⟨#[0x2b, 0xb8, 0x00, 0x11, 0xac]⟩
theorem lmdS_0 : decode lmbS 0 = .ok (.aload_n 1, 1) := by decide +kernel
theorem lmdS_1 : decode lmbS 1 = .ok (.invokestatic 17, 3) := by decide +kernel
theorem lmdS_4 : decode lmbS 4 = .ok (.ireturn, 1) := by decide +kernel
def lmb5_0 : ByteArray := ⟨#[0x2a, 0xb4, 0x00, 0x14, 0x2a, 0xb4, 0x00, 0x16, 0x2a, 0xb4, 0x00, 0x18, 0x2a, 0xb4, 0x00, 0x1a, 0x2a, 0xb4, 0x00, 0x1c, 0xb6, 0x00, 0x24, 0xac]⟩
theorem lmd5_0 : ∀ j i, ([20, 22, 24, 26, 28] : List Nat)[j]? = some i → decode lmb5_0 (4 * j) = .ok (.aload_n 0, 1) ∧ decode lmb5_0 (4 * j + 1) = .ok (.getfield i, 3) := by
  intro j i h
  match j, h with
  | 0, h => cases h; exact ⟨by decide +kernel, by decide +kernel⟩
  | 1, h => cases h; exact ⟨by decide +kernel, by decide +kernel⟩
  | 2, h => cases h; exact ⟨by decide +kernel, by decide +kernel⟩
  | 3, h => cases h; exact ⟨by decide +kernel, by decide +kernel⟩
  | 4, h => cases h; exact ⟨by decide +kernel, by decide +kernel⟩
  | j + 5, h => simp at h
theorem lmi5_0 : decode lmb5_0 20 = .ok (.invokevirtual 36, 3) := by decide +kernel
theorem lmr5_0 : decode lmb5_0 23 = .ok (.ireturn, 1) := by decide +kernel
def lmb6_0 : ByteArray := ⟨#[0x2a, 0xb4, 0x00, 0x15, 0x2a, 0xb4, 0x00, 0x17, 0x2a, 0xb4, 0x00, 0x19, 0x2a, 0xb4, 0x00, 0x1b, 0x2a, 0xb4, 0x00, 0x1d, 0x2a, 0xb4, 0x00, 0x1f, 0xb6, 0x00, 0x27, 0xac]⟩
theorem lmd6_0 : ∀ j i, ([21, 23, 25, 27, 29, 31] : List Nat)[j]? = some i → decode lmb6_0 (4 * j) = .ok (.aload_n 0, 1) ∧ decode lmb6_0 (4 * j + 1) = .ok (.getfield i, 3) := by
  intro j i h
  match j, h with
  | 0, h => cases h; exact ⟨by decide +kernel, by decide +kernel⟩
  | 1, h => cases h; exact ⟨by decide +kernel, by decide +kernel⟩
  | 2, h => cases h; exact ⟨by decide +kernel, by decide +kernel⟩
  | 3, h => cases h; exact ⟨by decide +kernel, by decide +kernel⟩
  | 4, h => cases h; exact ⟨by decide +kernel, by decide +kernel⟩
  | 5, h => cases h; exact ⟨by decide +kernel, by decide +kernel⟩
  | j + 6, h => simp at h
theorem lmi6_0 : decode lmb6_0 24 = .ok (.invokevirtual 39, 3) := by decide +kernel
theorem lmr6_0 : decode lmb6_0 27 = .ok (.ireturn, 1) := by decide +kernel
def lmb2_0 : ByteArray := ⟨#[0x2a, 0xb4, 0x00, 0x11, 0x2a, 0xb4, 0x00, 0x13, 0xb6, 0x00, 0x1b, 0xac]⟩
theorem lmd2_0 : ∀ j i, ([17, 19] : List Nat)[j]? = some i → decode lmb2_0 (4 * j) = .ok (.aload_n 0, 1) ∧ decode lmb2_0 (4 * j + 1) = .ok (.getfield i, 3) := by
  intro j i h
  match j, h with
  | 0, h => cases h; exact ⟨by decide +kernel, by decide +kernel⟩
  | 1, h => cases h; exact ⟨by decide +kernel, by decide +kernel⟩
  | j + 2, h => simp at h
theorem lmi2_0 : decode lmb2_0 8 = .ok (.invokevirtual 27, 3) := by decide +kernel
theorem lmr2_0 : decode lmb2_0 11 = .ok (.ireturn, 1) := by decide +kernel
def lmb1_0 : ByteArray := ⟨#[0x2a, 0xb4, 0x00, 0x0f, 0xb6, 0x00, 0x16, 0xac]⟩
theorem lmd1_0 : ∀ j i, ([15] : List Nat)[j]? = some i → decode lmb1_0 (4 * j) = .ok (.aload_n 0, 1) ∧ decode lmb1_0 (4 * j + 1) = .ok (.getfield i, 3) := by
  intro j i h
  match j, h with
  | 0, h => cases h; exact ⟨by decide +kernel, by decide +kernel⟩
  | j + 1, h => simp at h
theorem lmi1_0 : decode lmb1_0 4 = .ok (.invokevirtual 22, 3) := by decide +kernel
theorem lmr1_0 : decode lmb1_0 7 = .ok (.ireturn, 1) := by decide +kernel
def lmb1_1 : ByteArray := ⟨#[0x2a, 0xb4, 0x00, 0x0f, 0x1b, 0xb6, 0x00, 0x16, 0xac]⟩
theorem lmd1_1 : ∀ j i, ([15] : List Nat)[j]? = some i → decode lmb1_1 (4 * j) = .ok (.aload_n 0, 1) ∧ decode lmb1_1 (4 * j + 1) = .ok (.getfield i, 3) := by
  intro j i h
  match j, h with
  | 0, h => cases h; exact ⟨by decide +kernel, by decide +kernel⟩
  | j + 1, h => simp at h
theorem lmp1_1 : decode lmb1_1 4 = .ok (.iload_n 1, 1) := by decide +kernel
theorem lmi1_1 : decode lmb1_1 5 = .ok (.invokevirtual 22, 3) := by decide +kernel
theorem lmr1_1 : decode lmb1_1 8 = .ok (.ireturn, 1) := by decide +kernel
theorem lams_0 {q : MethodName × Nat × Nat × Lambda.Shape} (h : blam[0]? = some q) : LamS q lmb4_0 1 33 [19, 21, 23, 25] := by
  cases h
  exact lamChk_ok (mci := 29) (mnt := 32) (cu := 28) (fs := [(19, 2, 18, "arg$1", "LEditsMeet;"), (21, 2, 20, "arg$2", "I"), (23, 2, 22, "arg$3", "I"), (25, 2, 24, "arg$4", "I")]) (by decide +kernel)
theorem lams_1 {q : MethodName × Nat × Nat × Lambda.Shape} (h : blam[1]? = some q) : LamS q lmb3_0 1 30 [18, 20, 22] := by
  cases h
  exact lamChk_ok (mci := 26) (mnt := 29) (cu := 25) (fs := [(18, 2, 17, "arg$1", "LEditsMeet;"), (20, 2, 19, "arg$2", "I"), (22, 2, 21, "arg$3", "I")]) (by decide +kernel)
theorem lams_2 {q : MethodName × Nat × Nat × Lambda.Shape} (h : blam[2]? = some q) : LamS q lmbS 2 17 [] := by
  cases h
  exact lamChk_ok (mci := 14) (mnt := 16) (cu := 13) (fs := []) (by decide +kernel)
theorem lams_3 {q : MethodName × Nat × Nat × Lambda.Shape} (h : blam[3]? = some q) : LamS q lmbS 2 17 [] := by
  cases h
  exact lamChk_ok (mci := 14) (mnt := 16) (cu := 13) (fs := []) (by decide +kernel)
theorem lams_4 {q : MethodName × Nat × Nat × Lambda.Shape} (h : blam[4]? = some q) : LamS q lmbS 2 17 [] := by
  cases h
  exact lamChk_ok (mci := 14) (mnt := 16) (cu := 13) (fs := []) (by decide +kernel)
theorem lams_5 {q : MethodName × Nat × Nat × Lambda.Shape} (h : blam[5]? = some q) : LamS q lmbS 2 17 [] := by
  cases h
  exact lamChk_ok (mci := 14) (mnt := 16) (cu := 13) (fs := []) (by decide +kernel)
theorem lams_6 {q : MethodName × Nat × Nat × Lambda.Shape} (h : blam[6]? = some q) : LamS q lmbS 2 17 [] := by
  cases h
  exact lamChk_ok (mci := 14) (mnt := 16) (cu := 13) (fs := []) (by decide +kernel)
theorem lams_7 {q : MethodName × Nat × Nat × Lambda.Shape} (h : blam[7]? = some q) : LamS q lmb4_0 1 33 [19, 21, 23, 25] := by
  cases h
  exact lamChk_ok (mci := 29) (mnt := 32) (cu := 28) (fs := [(19, 2, 18, "arg$1", "LEditsMeet;"), (21, 2, 20, "arg$2", "I"), (23, 2, 22, "arg$3", "I"), (25, 2, 24, "arg$4", "I")]) (by decide +kernel)
theorem lams_8 {q : MethodName × Nat × Nat × Lambda.Shape} (h : blam[8]? = some q) : LamS q lmb4_0 1 33 [19, 21, 23, 25] := by
  cases h
  exact lamChk_ok (mci := 29) (mnt := 32) (cu := 28) (fs := [(19, 2, 18, "arg$1", "LEditsMeet;"), (21, 2, 20, "arg$2", "I"), (23, 2, 22, "arg$3", "I"), (25, 2, 24, "arg$4", "I")]) (by decide +kernel)
theorem lams_9 {q : MethodName × Nat × Nat × Lambda.Shape} (h : blam[9]? = some q) : LamS q lmb3_0 1 30 [18, 20, 22] := by
  cases h
  exact lamChk_ok (mci := 26) (mnt := 29) (cu := 25) (fs := [(18, 2, 17, "arg$1", "LEditsMeet;"), (20, 2, 19, "arg$2", "I"), (22, 2, 21, "arg$3", "I")]) (by decide +kernel)
theorem lams_10 {q : MethodName × Nat × Nat × Lambda.Shape} (h : blam[10]? = some q) : LamS q lmb4_0 1 33 [19, 21, 23, 25] := by
  cases h
  exact lamChk_ok (mci := 29) (mnt := 32) (cu := 28) (fs := [(19, 2, 18, "arg$1", "LEditsMeet;"), (21, 2, 20, "arg$2", "I"), (23, 2, 22, "arg$3", "I"), (25, 2, 24, "arg$4", "I")]) (by decide +kernel)
theorem lams_11 {q : MethodName × Nat × Nat × Lambda.Shape} (h : blam[11]? = some q) : LamS q lmbS 2 17 [] := by
  cases h
  exact lamChk_ok (mci := 14) (mnt := 16) (cu := 13) (fs := []) (by decide +kernel)
theorem lams_12 {q : MethodName × Nat × Nat × Lambda.Shape} (h : blam[12]? = some q) : LamS q lmb5_0 1 36 [20, 22, 24, 26, 28] := by
  cases h
  exact lamChk_ok (mci := 32) (mnt := 35) (cu := 31) (fs := [(20, 2, 19, "arg$1", "LEditsMeet;"), (22, 2, 21, "arg$2", "I"), (24, 2, 23, "arg$3", "I"), (26, 2, 25, "arg$4", "I"), (28, 2, 27, "arg$5", "I")]) (by decide +kernel)
theorem lams_13 {q : MethodName × Nat × Nat × Lambda.Shape} (h : blam[13]? = some q) : LamS q lmb4_0 1 33 [19, 21, 23, 25] := by
  cases h
  exact lamChk_ok (mci := 29) (mnt := 32) (cu := 28) (fs := [(19, 2, 18, "arg$1", "LEditsMeet;"), (21, 2, 20, "arg$2", "I"), (23, 2, 22, "arg$3", "I"), (25, 2, 24, "arg$4", "I")]) (by decide +kernel)
theorem lams_14 {q : MethodName × Nat × Nat × Lambda.Shape} (h : blam[14]? = some q) : LamS q lmb3_0 1 30 [18, 20, 22] := by
  cases h
  exact lamChk_ok (mci := 26) (mnt := 29) (cu := 25) (fs := [(18, 2, 17, "arg$1", "LEditsMeet;"), (20, 2, 19, "arg$2", "I"), (22, 2, 21, "arg$3", "I")]) (by decide +kernel)
theorem lams_15 {q : MethodName × Nat × Nat × Lambda.Shape} (h : blam[15]? = some q) : LamS q lmb3_0 1 30 [18, 20, 22] := by
  cases h
  exact lamChk_ok (mci := 26) (mnt := 29) (cu := 25) (fs := [(18, 2, 17, "arg$1", "LEditsMeet;"), (20, 2, 19, "arg$2", "I"), (22, 2, 21, "arg$3", "I")]) (by decide +kernel)
theorem lams_16 {q : MethodName × Nat × Nat × Lambda.Shape} (h : blam[16]? = some q) : LamS q lmb5_0 1 36 [20, 22, 24, 26, 28] := by
  cases h
  exact lamChk_ok (mci := 32) (mnt := 35) (cu := 31) (fs := [(20, 2, 19, "arg$1", "LEditsMeet;"), (22, 2, 21, "arg$2", "I"), (24, 2, 23, "arg$3", "I"), (26, 2, 25, "arg$4", "I"), (28, 2, 27, "arg$5", "I")]) (by decide +kernel)
theorem lams_17 {q : MethodName × Nat × Nat × Lambda.Shape} (h : blam[17]? = some q) : LamS q lmb4_0 1 33 [19, 21, 23, 25] := by
  cases h
  exact lamChk_ok (mci := 29) (mnt := 32) (cu := 28) (fs := [(19, 2, 18, "arg$1", "LEditsMeet;"), (21, 2, 20, "arg$2", "I"), (23, 2, 22, "arg$3", "I"), (25, 2, 24, "arg$4", "I")]) (by decide +kernel)
theorem lams_18 {q : MethodName × Nat × Nat × Lambda.Shape} (h : blam[18]? = some q) : LamS q lmb6_0 1 39 [21, 23, 25, 27, 29, 31] := by
  cases h
  exact lamChk_ok (mci := 35) (mnt := 38) (cu := 34) (fs := [(21, 2, 20, "arg$1", "LEditsMeet;"), (23, 2, 22, "arg$2", "I"), (25, 2, 24, "arg$3", "I"), (27, 2, 26, "arg$4", "I"), (29, 2, 28, "arg$5", "I"), (31, 2, 30, "arg$6", "I")]) (by decide +kernel)
theorem lams_19 {q : MethodName × Nat × Nat × Lambda.Shape} (h : blam[19]? = some q) : LamS q lmb2_0 1 27 [17, 19] := by
  cases h
  exact lamChk_ok (mci := 23) (mnt := 26) (cu := 22) (fs := [(17, 2, 16, "arg$1", "LEditsMeet;"), (19, 2, 18, "arg$2", "I")]) (by decide +kernel)
theorem lams_20 {q : MethodName × Nat × Nat × Lambda.Shape} (h : blam[20]? = some q) : LamS q lmb2_0 1 27 [17, 19] := by
  cases h
  exact lamChk_ok (mci := 23) (mnt := 26) (cu := 22) (fs := [(17, 2, 16, "arg$1", "LEditsMeet;"), (19, 2, 18, "arg$2", "I")]) (by decide +kernel)
theorem lams_21 {q : MethodName × Nat × Nat × Lambda.Shape} (h : blam[21]? = some q) : LamS q lmb1_0 1 22 [15] := by
  cases h
  exact lamChk_ok (mci := 19) (mnt := 21) (cu := 18) (fs := [(15, 2, 14, "arg$1", "LEditsMeet;")]) (by decide +kernel)
theorem lams_22 {q : MethodName × Nat × Nat × Lambda.Shape} (h : blam[22]? = some q) : LamS q lmb2_0 1 27 [17, 19] := by
  cases h
  exact lamChk_ok (mci := 23) (mnt := 26) (cu := 22) (fs := [(17, 2, 16, "arg$1", "LEditsMeet;"), (19, 2, 18, "arg$2", "I")]) (by decide +kernel)
theorem lams_23 {q : MethodName × Nat × Nat × Lambda.Shape} (h : blam[23]? = some q) : LamS q lmb2_0 1 27 [17, 19] := by
  cases h
  exact lamChk_ok (mci := 23) (mnt := 26) (cu := 22) (fs := [(17, 2, 16, "arg$1", "LEditsMeet;"), (19, 2, 18, "arg$2", "I")]) (by decide +kernel)
theorem lams_24 {q : MethodName × Nat × Nat × Lambda.Shape} (h : blam[24]? = some q) : LamS q lmb4_0 1 33 [19, 21, 23, 25] := by
  cases h
  exact lamChk_ok (mci := 29) (mnt := 32) (cu := 28) (fs := [(19, 2, 18, "arg$1", "LEditsMeet;"), (21, 2, 20, "arg$2", "I"), (23, 2, 22, "arg$3", "I"), (25, 2, 24, "arg$4", "I")]) (by decide +kernel)
theorem lams_25 {q : MethodName × Nat × Nat × Lambda.Shape} (h : blam[25]? = some q) : LamS q lmb4_0 1 33 [19, 21, 23, 25] := by
  cases h
  exact lamChk_ok (mci := 29) (mnt := 32) (cu := 28) (fs := [(19, 2, 18, "arg$1", "LEditsMeet;"), (21, 2, 20, "arg$2", "I"), (23, 2, 22, "arg$3", "I"), (25, 2, 24, "arg$4", "I")]) (by decide +kernel)
theorem lams_26 {q : MethodName × Nat × Nat × Lambda.Shape} (h : blam[26]? = some q) : LamS q lmb3_0 1 30 [18, 20, 22] := by
  cases h
  exact lamChk_ok (mci := 26) (mnt := 29) (cu := 25) (fs := [(18, 2, 17, "arg$1", "LEditsMeet;"), (20, 2, 19, "arg$2", "I"), (22, 2, 21, "arg$3", "I")]) (by decide +kernel)
theorem lams_27 {q : MethodName × Nat × Nat × Lambda.Shape} (h : blam[27]? = some q) : LamS q lmb4_0 1 33 [19, 21, 23, 25] := by
  cases h
  exact lamChk_ok (mci := 29) (mnt := 32) (cu := 28) (fs := [(19, 2, 18, "arg$1", "LEditsMeet;"), (21, 2, 20, "arg$2", "I"), (23, 2, 22, "arg$3", "I"), (25, 2, 24, "arg$4", "I")]) (by decide +kernel)
theorem lams_28 {q : MethodName × Nat × Nat × Lambda.Shape} (h : blam[28]? = some q) : LamS q lmb1_1 2 22 [15] := by
  cases h
  exact lamChk_ok (mci := 19) (mnt := 21) (cu := 18) (fs := [(15, 2, 14, "arg$1", "LEditsMeet;")]) (by decide +kernel)
theorem lams_29 {q : MethodName × Nat × Nat × Lambda.Shape} (h : blam[29]? = some q) : LamS q lmb1_1 2 22 [15] := by
  cases h
  exact lamChk_ok (mci := 19) (mnt := 21) (cu := 18) (fs := [(15, 2, 14, "arg$1", "LEditsMeet;")]) (by decide +kernel)
theorem lams_30 {q : MethodName × Nat × Nat × Lambda.Shape} (h : blam[30]? = some q) : LamS q lmb1_1 2 22 [15] := by
  cases h
  exact lamChk_ok (mci := 19) (mnt := 21) (cu := 18) (fs := [(15, 2, 14, "arg$1", "LEditsMeet;")]) (by decide +kernel)
theorem lams_31 {q : MethodName × Nat × Nat × Lambda.Shape} (h : blam[31]? = some q) : LamS q lmb1_1 2 22 [15] := by
  cases h
  exact lamChk_ok (mci := 19) (mnt := 21) (cu := 18) (fs := [(15, 2, 14, "arg$1", "LEditsMeet;")]) (by decide +kernel)
theorem lams_32 {q : MethodName × Nat × Nat × Lambda.Shape} (h : blam[32]? = some q) : LamS q lmb1_1 2 22 [15] := by
  cases h
  exact lamChk_ok (mci := 19) (mnt := 21) (cu := 18) (fs := [(15, 2, 14, "arg$1", "LEditsMeet;")]) (by decide +kernel)

