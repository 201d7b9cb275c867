/-! walks, printed by dec.py: 11c.w_o1 -/
/-- EditsMeet$Text.<init>()V -/
def F_X2_init (s0 : bS) (a0 : Int) : Option (bS × Int) :=
  bck ((0 : Int) ≤ a0) <|
  bck (bc s0 + 1 ≤ bCM ∧ bk s0 + 4 ≤ bKM) <|
  bst (bnw s0 19 0 4) fun s1 =>
  bck (bg s1 0 (bnx s0 : Int) 0 = 19) <|
  bcl (F_J1_init s1 (bnx s0 : Int)) fun s2 v1 =>
  bck ((bg s2 0 a0 0 = 3)) <|
  bst (bw s2 86 a0 0 (bnx s0 : Int)) fun s3 =>
  bck (bc s3 + 1 ≤ bCM ∧ bk s3 + 4 ≤ bKM) <|
  bst (bnw s3 19 0 4) fun s4 =>
  bck (bg s4 0 (bnx s3 : Int) 0 = 19) <|
  bcl (F_J1_init s4 (bnx s3 : Int)) fun s5 v2 =>
  bck ((bg s5 0 a0 0 = 3)) <|
  bst (bw s5 90 a0 0 (bnx s3 : Int)) fun s6 =>
  some (s6, 0)
set_option maxHeartbeats 4000000 in
set_option maxRecDepth 100000 in
theorem w_X2_init (Γ0 : bG) (l0 : Launch) {s0 st' : bS} {v a0 : Int} (h : F_X2_init s0 a0 = some (st', v)) : bCt Γ0 l0 yX2_init cX2_init 1 none 3 61 [(2, a0)] s0 st' none := by
  refine b_ent (own := RX2) (by decide +kernel) rfl (Nat.le_of_ble_eq_true rfl) (L := [(0, (2, a0))]) rfl ?_
  intro κ hκ hi hf
  unfold F_X2_init at h
  refine r_aload_n hκ 0 rfl rfl dX2_init_0 ?_
  obtain ⟨h1, h⟩ := bck_i h
  refine r_oinit hκ h1 q198 q183 q184 (by decide) (Nat.le_of_ble_eq_true rfl) dX2_init_1 ?_
  refine r_aload_n hκ 0 rfl rfl dX2_init_4 ?_
  obtain ⟨h2, h⟩ := bck_i h
  refine r_new hκ (t := 18) tyJ1 tyJ1_ok dfJ1 rfl in_J1 q199 q200 q125 h2 dX2_init_5 (fun s1 es1 => ?_)
  replace h := bst_i h s1 es1
  refine r_dup hκ (bd_cat2k _) dX2_init_8 ?_
  obtain ⟨h3, h⟩ := bck_i h
  obtain ⟨s2, v1, h4, h⟩ := bcl_i h
  refine r_callI hκ (n' := 0) (index := 11) (w_J1_init Γ0 l0 h4) (lw_meth q203) q125 q201 q202 rfl (by decide +kernel) (t := 18) h3 rfl rfl (by decide) rfl (Nat.le_of_ble_eq_true rfl) dX2_init_9 ?_
  obtain ⟨h5, h⟩ := bck_i h
  refine r_putF hκ (hi.init rfl) (t := 2) (k := 0) (r := 86) (ty := (.object "java/lang/StringBuilder")) tyX2 tyX2_ok nmX2 h5 rfl in_X2 (by decide) rfl q316 rfl rfl rfl rfl rfl trivial (Or.inl (by decide)) dX2_init_12 (fun s3 es3 => ?_)
  replace h := bst_i h s3 es3
  refine r_aload_n hκ 0 rfl rfl dX2_init_15 ?_
  obtain ⟨h6, h⟩ := bck_i h
  refine r_new hκ (t := 18) tyJ1 tyJ1_ok dfJ1 rfl in_J1 q199 q200 q125 h6 dX2_init_16 (fun s4 es4 => ?_)
  replace h := bst_i h s4 es4
  refine r_dup hκ (bd_cat2k _) dX2_init_19 ?_
  obtain ⟨h7, h⟩ := bck_i h
  obtain ⟨s5, v2, h8, h⟩ := bcl_i h
  refine r_callI hκ (n' := 0) (index := 11) (w_J1_init Γ0 l0 h8) (lw_meth q203) q125 q201 q202 rfl (by decide +kernel) (t := 18) h7 rfl rfl (by decide) rfl (Nat.le_of_ble_eq_true rfl) dX2_init_20 ?_
  obtain ⟨h9, h⟩ := bck_i h
  refine r_putF hκ (hi.init rfl) (t := 2) (k := 1) (r := 90) (ty := (.object "java/lang/StringBuilder")) tyX2 tyX2_ok nmX2 h9 rfl in_X2 (by decide) rfl q317 rfl rfl rfl rfl rfl trivial (Or.inl (by decide)) dX2_init_23 (fun s6 es6 => ?_)
  replace h := bst_i h s6 es6
  exact r_vretH hκ hf h dX2_init_26
/-- EditsMeet$Goes.<init>()V -/
def F_X4_init (s0 : bS) (a0 : Int) : Option (bS × Int) :=
  bck ((0 : Int) ≤ a0) <|
  some (s0, 0)
set_option maxHeartbeats 4000000 in
set_option maxRecDepth 100000 in
theorem w_X4_init (Γ0 : bG) (l0 : Launch) {s0 st' : bS} {v a0 : Int} (h : F_X4_init s0 a0 = some (st', v)) : bCt Γ0 l0 yX4_init cX4_init 1 none 1 20 [(2, a0)] s0 st' none := by
  refine b_ent (own := RX4) (by decide +kernel) rfl (Nat.le_of_ble_eq_true rfl) (L := [(0, (2, a0))]) rfl ?_
  intro κ hκ hi hf
  unfold F_X4_init at h
  refine r_aload_n hκ 0 rfl rfl dX4_init_0 ?_
  obtain ⟨h1, h⟩ := bck_i h
  refine r_oinit hκ h1 q367 q183 q184 (by decide) (Nat.le_of_ble_eq_true rfl) dX4_init_1 ?_
  exact r_vretH hκ hf h dX4_init_4
/-- EditsMeet$Over.<init>(I)V -/
def F_X6_init (s0 : bS) (a0 a1 : Int) : Option (bS × Int) :=
  bck ((0 : Int) ≤ a0) <|
  bck ((bg s0 0 a0 0 = 6 ∨ bg s0 0 a0 0 = 15 ∨ bg s0 0 a0 0 = 17)) <|
  bst (bw s0 128 a0 0 a1) fun s1 =>
  some (s1, 0)
set_option maxHeartbeats 4000000 in
set_option maxRecDepth 100000 in
theorem w_X6_init (Γ0 : bG) (l0 : Launch) {s0 st' : bS} {v a0 a1 : Int} (h : F_X6_init s0 a0 a1 = some (st', v)) : bCt Γ0 l0 yX6_init cX6_init 2 none 1 20 [(2, a0), (0, a1)] s0 st' none := by
  refine b_ent (own := RX6) (by decide +kernel) rfl (Nat.le_of_ble_eq_true rfl) (L := [(0, (2, a0)), (1, (0, a1))]) rfl ?_
  intro κ hκ hi hf
  unfold F_X6_init at h
  refine r_aload_n hκ 0 rfl rfl dX6_init_0 ?_
  obtain ⟨h1, h⟩ := bck_i h
  refine r_oinit hκ h1 q389 q183 q184 (by decide) (Nat.le_of_ble_eq_true rfl) dX6_init_1 ?_
  refine r_aload_n hκ 0 rfl rfl dX6_init_4 ?_
  refine r_iload_n hκ 1 rfl rfl dX6_init_5 ?_
  obtain ⟨h2, h⟩ := bck_i h
  refine r_seq (A := ∀ st', st' = bw s0 128 a0 0 a1 → bJ κ st' 9 [(0, (2, a0)), (1, (0, a1))] []) (fun s1 es1 => ?_) (fun k0 => Or.elim h2 (fun h2 => r_putF hκ (hi.init rfl) (t := 5) (k := 0) (r := 128) (ty := .int) tyX7 tyX7_ok nmX7 h2 rfl in_X7 (by decide) rfl q390 rfl rfl rfl rfl rfl trivial (Or.inl (by decide)) dX6_init_6 k0) (fun h2 => Or.elim h2 (fun h2 => r_putF hκ (hi.init rfl) (t := 14) (k := 0) (r := 128) (ty := .int) tyX16 tyX16_ok nmX16 h2 rfl in_X16 (by decide) rfl q390 rfl rfl rfl rfl rfl trivial (Or.inl (by decide)) dX6_init_6 k0) (fun h2 => r_putF hκ (hi.init rfl) (t := 16) (k := 0) (r := 128) (ty := .int) tyX18 tyX18_ok nmX18 h2 rfl in_X18 (by decide) rfl q390 rfl rfl rfl rfl rfl trivial (Or.inl (by decide)) dX6_init_6 k0)))
  replace h := bst_i h s1 es1
  exact r_vretH hκ hf h dX6_init_9
/-- EditsMeet$Keep.<init>(I)V -/
def F_X7_init (s0 : bS) (a0 a1 : Int) : Option (bS × Int) :=
  bcl (bte (bg s0 0 a0 0 = 6) (F_X6_init s0 a0 a1) (bte (bg s0 0 a0 0 = 15) (F_X6_init s0 a0 a1) (bte (bg s0 0 a0 0 = 17) (F_X6_init s0 a0 a1) (none)))) fun s1 v1 =>
  some (s1, 0)
set_option maxHeartbeats 4000000 in
set_option maxRecDepth 100000 in
theorem w_X7_init (Γ0 : bG) (l0 : Launch) {s0 st' : bS} {v a0 a1 : Int} (h : F_X7_init s0 a0 a1 = some (st', v)) : bCt Γ0 l0 yX7_init cX7_init 2 none 2 41 [(2, a0), (0, a1)] s0 st' none := by
  refine b_ent (own := RX7) (by decide +kernel) rfl (Nat.le_of_ble_eq_true rfl) (L := [(0, (2, a0)), (1, (0, a1))]) rfl ?_
  intro κ hκ hi hf
  unfold F_X7_init at h
  refine r_aload_n hκ 0 rfl rfl dX7_init_0 ?_
  refine r_iload_n hκ 1 rfl rfl dX7_init_1 ?_
  obtain ⟨s1, v1, h1, h⟩ := bcl_i h
  refine r_seq (A := bJ κ s1 5 [(0, (2, a0)), (1, (0, a1))] []) ?_ (fun k0 => ?_)
  case refine_2 =>
    by_cases h2 : bg s0 0 a0 0 = 6
    · have hq0 := (bte_i h1).1 h2
      exact r_callI hκ (n' := 1) (index := 1) (w_X6_init Γ0 l0 hq0) (lw_meth q388) q138 q386 q387 rfl (by decide +kernel) (t := 5) h2 rfl rfl (by decide) rfl (Nat.le_of_ble_eq_true rfl) dX7_init_2 k0
    replace h1 := (bte_i h1).2 h2
    by_cases h3 : bg s0 0 a0 0 = 15
    · have hq0 := (bte_i h1).1 h3
      exact r_callI hκ (n' := 1) (index := 1) (w_X6_init Γ0 l0 hq0) (lw_meth q388) q138 q386 q387 rfl (by decide +kernel) (t := 14) h3 rfl rfl (by decide) rfl (Nat.le_of_ble_eq_true rfl) dX7_init_2 k0
    replace h1 := (bte_i h1).2 h3
    by_cases h4 : bg s0 0 a0 0 = 17
    · have hq0 := (bte_i h1).1 h4
      exact r_callI hκ (n' := 1) (index := 1) (w_X6_init Γ0 l0 hq0) (lw_meth q388) q138 q386 q387 rfl (by decide +kernel) (t := 16) h4 rfl rfl (by decide) rfl (Nat.le_of_ble_eq_true rfl) dX7_init_2 k0
    replace h1 := (bte_i h1).2 h4
    cases h1
  exact r_vretH hκ hf h dX7_init_5
/-- EditsMeet$Part.keep(I)LEditsMeet$Part; -/
def F_X5_keep (s0 : bS) (a0 : Int) : Option (bS × Int) :=
  bck (bc s0 + 1 ≤ bCM ∧ bk s0 + 1 ≤ bKM) <|
  bst (bnw s0 6 0 1) fun s1 =>
  bcl (bte (bg s1 0 (bnx s0 : Int) 0 = 6) (F_X7_init s1 (bnx s0 : Int) a0) (bte (bg s1 0 (bnx s0 : Int) 0 = 17) (F_X7_init s1 (bnx s0 : Int) a0) (none))) fun s2 v1 =>
  some (s2, (bnx s0 : Int))
set_option maxHeartbeats 4000000 in
set_option maxRecDepth 100000 in
theorem w_X5_keep (Γ0 : bG) (l0 : Launch) {s0 st' : bS} {v a0 : Int} (h : F_X5_keep s0 a0 = some (st', v)) : bCt Γ0 l0 yX5_keep cX5_keep 1 (some (.object "EditsMeet$Part")) 3 62 [(0, a0)] s0 st' (some (2, v)) := by
  refine b_ent (own := RX5) (by decide +kernel) rfl (Nat.le_of_ble_eq_true rfl) (L := [(0, (0, a0))]) rfl ?_
  intro κ hκ hi hf
  unfold F_X5_keep at h
  obtain ⟨h1, h⟩ := bck_i h
  refine r_new hκ (t := 5) tyX7 tyX7_ok dfX7 rfl in_X7 q381 q382 q139 h1 dX5_keep_0 (fun s1 es1 => ?_)
  replace h := bst_i h s1 es1
  refine r_dup hκ (bd_cat2k _) dX5_keep_3 ?_
  refine r_iload_n hκ 0 rfl rfl dX5_keep_4 ?_
  obtain ⟨s2, v1, h2, h⟩ := bcl_i h
  refine r_seq (A := bJ κ s2 8 [(0, (0, a0))] [(2, (bnx s0 : Int))]) ?_ (fun k0 => ?_)
  case refine_2 =>
    by_cases h3 : bg s1 0 (bnx s0 : Int) 0 = 6
    · have hq0 := (bte_i h2).1 h3
      exact r_callI hκ (n' := 1) (index := 21) (w_X7_init Γ0 l0 hq0) (lw_meth q385) q139 q383 q384 rfl (by decide +kernel) (t := 5) h3 rfl rfl (by decide) rfl (Nat.le_of_ble_eq_true rfl) dX5_keep_5 k0
    replace h2 := (bte_i h2).2 h3
    by_cases h4 : bg s1 0 (bnx s0 : Int) 0 = 17
    · have hq0 := (bte_i h2).1 h4
      exact r_callI hκ (n' := 1) (index := 21) (w_X7_init Γ0 l0 hq0) (lw_meth q385) q139 q383 q384 rfl (by decide +kernel) (t := 16) h4 rfl rfl (by decide) rfl (Nat.le_of_ble_eq_true rfl) dX5_keep_5 k0
    replace h2 := (bte_i h2).2 h4
    cases h2
  exact r_aretH hκ hf h rt_o dX5_keep_8
/-- EditsMeet$Edit.<init>()V -/
def F_X8_init (s0 : bS) (a0 : Int) : Option (bS × Int) :=
  bck ((0 : Int) ≤ a0) <|
  bck (bc s0 + 1 ≤ bCM ∧ bk s0 + 3 ≤ bKM) <|
  bst (bnw s0 21 0 3) fun s1 =>
  bck (bg s1 0 (bnx s0 : Int) 0 = 21) <|
  bcl (F_J10_init_2 s1 (bnx s0 : Int) 4) fun s2 v1 =>
  bck ((bg s2 0 a0 0 = 7)) <|
  bst (bw s2 134 a0 0 (bnx s0 : Int)) fun s3 =>
  some (s3, 0)
set_option maxHeartbeats 4000000 in
set_option maxRecDepth 100000 in
theorem w_X8_init (Γ0 : bG) (l0 : Launch) {s0 st' : bS} {v a0 : Int} (h : F_X8_init s0 a0 = some (st', v)) : bCt Γ0 l0 yX8_init cX8_init 1 none 4 81 [(2, a0)] s0 st' none := by
  refine b_ent (own := RX8) (by decide +kernel) rfl (Nat.le_of_ble_eq_true rfl) (L := [(0, (2, a0))]) rfl ?_
  intro κ hκ hi hf
  unfold F_X8_init at h
  refine r_aload_n hκ 0 rfl rfl dX8_init_0 ?_
  obtain ⟨h1, h⟩ := bck_i h
  refine r_oinit hκ h1 q399 q183 q184 (by decide) (Nat.le_of_ble_eq_true rfl) dX8_init_1 ?_
  refine r_aload_n hκ 0 rfl rfl dX8_init_4 ?_
  obtain ⟨h2, h⟩ := bck_i h
  refine r_new hκ (t := 20) tyJ10 tyJ10_ok dfJ10 rfl in_J10 q400 q324 q134 h2 dX8_init_5 (fun s1 es1 => ?_)
  replace h := bst_i h s1 es1
  refine r_dup hκ (bd_cat2k _) dX8_init_8 ?_
  refine r_iconst hκ dX8_init_9 ?_
  obtain ⟨h3, h⟩ := bck_i h
  obtain ⟨s2, v1, h4, h⟩ := bcl_i h
  refine r_callI hκ (n' := 1) (index := 9) (w_J10_init_2 Γ0 l0 h4) (lw_meth q403) q134 q401 q402 rfl (by decide +kernel) (t := 20) h3 rfl rfl (by decide) rfl (Nat.le_of_ble_eq_true rfl) dX8_init_10 ?_
  obtain ⟨h5, h⟩ := bck_i h
  refine r_put hκ (t := 6) (k := 0) (r := 134) (ty := (.object "java/util/ArrayList")) tyX8 tyX8_ok nmX8 h5 rfl in_X8 (by decide) rfl q408 (Or.inl rfl) rfl rfl rfl trivial (Or.inl (by decide)) dX8_init_13 (fun s3 es3 => ?_)
  replace h := bst_i h s3 es3
  exact r_vretH hκ hf h dX8_init_16
/-- EditsMeet$Weaver.<init>()V -/
def F_X3_init (s0 : bS) (a0 : Int) : Option (bS × Int) :=
  bck ((0 : Int) ≤ a0) <|
  bck (bc s0 + 1 ≤ bCM ∧ bk s0 + 3 ≤ bKM) <|
  bst (bnw s0 5 0 3) fun s1 =>
  bck (bg s1 0 (bnx s0 : Int) 0 = 5) <|
  bcl (F_X4_init s1 (bnx s0 : Int)) fun s2 v1 =>
  bck ((bg s2 0 a0 0 = 4)) <|
  bst (bw s2 94 a0 0 (bnx s0 : Int)) fun s3 =>
  bck (bc s3 + 1 ≤ bCM ∧ bk s3 + 3 ≤ bKM) <|
  bst (bnw s3 5 0 3) fun s4 =>
  bck (bg s4 0 (bnx s3 : Int) 0 = 5) <|
  bcl (F_X4_init s4 (bnx s3 : Int)) fun s5 v2 =>
  bck ((bg s5 0 a0 0 = 4)) <|
  bst (bw s5 98 a0 0 (bnx s3 : Int)) fun s6 =>
  bcl (F_X5_keep s6 1) fun s7 v3 =>
  bck ((bg s7 0 a0 0 = 4)) <|
  bst (bw s7 102 a0 0 v3) fun s8 =>
  bck (bc s8 + 1 ≤ bCM ∧ bk s8 + 3 ≤ bKM) <|
  bst (bnw s8 7 0 3) fun s9 =>
  bck (bg s9 0 (bnx s8 : Int) 0 = 7) <|
  bcl (F_X8_init s9 (bnx s8 : Int)) fun s10 v4 =>
  bck ((bg s10 0 a0 0 = 4)) <|
  bst (bw s10 106 a0 0 (bnx s8 : Int)) fun s11 =>
  bck (bc s11 + 1 ≤ bCM ∧ bk s11 + 3 ≤ bKM) <|
  bst (bnw s11 7 0 3) fun s12 =>
  bck (bg s12 0 (bnx s11 : Int) 0 = 7) <|
  bcl (F_X8_init s12 (bnx s11 : Int)) fun s13 v5 =>
  bck ((bg s13 0 a0 0 = 4)) <|
  bst (bw s13 110 a0 0 (bnx s11 : Int)) fun s14 =>
  bck (bc s14 + 1 ≤ bCM ∧ bk s14 + 3 ≤ bKM) <|
  bst (bnw s14 7 0 3) fun s15 =>
  bck (bg s15 0 (bnx s14 : Int) 0 = 7) <|
  bcl (F_X8_init s15 (bnx s14 : Int)) fun s16 v6 =>
  bck ((bg s16 0 a0 0 = 4)) <|
  bst (bw s16 114 a0 0 (bnx s14 : Int)) fun s17 =>
  some (s17, 0)
set_option maxHeartbeats 4000000 in
set_option maxRecDepth 100000 in
theorem w_X3_init (Γ0 : bG) (l0 : Launch) {s0 st' : bS} {v a0 : Int} (h : F_X3_init s0 a0 = some (st', v)) : bCt Γ0 l0 yX3_init cX3_init 1 none 5 101 [(2, a0)] s0 st' none := by
  refine b_ent (own := RX3) (by decide +kernel) rfl (Nat.le_of_ble_eq_true rfl) (L := [(0, (2, a0))]) rfl ?_
  intro κ hκ hi hf
  unfold F_X3_init at h
  refine r_aload_n hκ 0 rfl rfl dX3_init_0 ?_
  obtain ⟨h1, h⟩ := bck_i h
  refine r_oinit hκ h1 q361 q183 q184 (by decide) (Nat.le_of_ble_eq_true rfl) dX3_init_1 ?_
  refine r_aload_n hκ 0 rfl rfl dX3_init_4 ?_
  obtain ⟨h2, h⟩ := bck_i h
  refine r_new hκ (t := 4) tyX4 tyX4_ok dfX4 rfl in_X4 q362 q363 q136 h2 dX3_init_5 (fun s1 es1 => ?_)
  replace h := bst_i h s1 es1
  refine r_dup hκ (bd_cat2k _) dX3_init_8 ?_
  obtain ⟨h3, h⟩ := bck_i h
  obtain ⟨s2, v1, h4, h⟩ := bcl_i h
  refine r_callIN hκ (n' := 0) (host := "EditsMeet") (index := 9) (w_X4_init Γ0 l0 h4) (lw_meth q366) (by decide +kernel) q136 (by decide +kernel) q365 rfl (t := 4) h3 rfl rfl (by decide) rfl (Nat.le_of_ble_eq_true rfl) dX3_init_9 ?_
  obtain ⟨h5, h⟩ := bck_i h
  refine r_putF hκ (hi.init rfl) (t := 3) (k := 0) (r := 94) (ty := (.object "EditsMeet$Goes")) tyX3 tyX3_ok nmX3 h5 rfl in_X3 (by decide) rfl q418 rfl rfl rfl rfl rfl trivial (Or.inl (by decide)) dX3_init_12 (fun s3 es3 => ?_)
  replace h := bst_i h s3 es3
  refine r_aload_n hκ 0 rfl rfl dX3_init_15 ?_
  obtain ⟨h6, h⟩ := bck_i h
  refine r_new hκ (t := 4) tyX4 tyX4_ok dfX4 rfl in_X4 q362 q363 q136 h6 dX3_init_16 (fun s4 es4 => ?_)
  replace h := bst_i h s4 es4
  refine r_dup hκ (bd_cat2k _) dX3_init_19 ?_
  obtain ⟨h7, h⟩ := bck_i h
  obtain ⟨s5, v2, h8, h⟩ := bcl_i h
  refine r_callIN hκ (n' := 0) (host := "EditsMeet") (index := 9) (w_X4_init Γ0 l0 h8) (lw_meth q366) (by decide +kernel) q136 (by decide +kernel) q365 rfl (t := 4) h7 rfl rfl (by decide) rfl (Nat.le_of_ble_eq_true rfl) dX3_init_20 ?_
  obtain ⟨h9, h⟩ := bck_i h
  refine r_putF hκ (hi.init rfl) (t := 3) (k := 1) (r := 98) (ty := (.object "EditsMeet$Goes")) tyX3 tyX3_ok nmX3 h9 rfl in_X3 (by decide) rfl q419 rfl rfl rfl rfl rfl trivial (Or.inl (by decide)) dX3_init_23 (fun s6 es6 => ?_)
  replace h := bst_i h s6 es6
  refine r_aload_n hκ 0 rfl rfl dX3_init_26 ?_
  refine r_iconst hκ dX3_init_27 ?_
  obtain ⟨s7, v3, h10, h⟩ := bcl_i h
  refine r_callS hκ (n' := 1) (index := 19) (w_X5_keep Γ0 l0 h10) (lw_S q378 q379 q137 q380) (by decide +kernel) rfl (by decide) rfl (Nat.le_of_ble_eq_true rfl) dX3_init_28 ?_
  obtain ⟨h11, h⟩ := bck_i h
  refine r_putF hκ (hi.init rfl) (t := 3) (k := 2) (r := 102) (ty := (.object "EditsMeet$Part")) tyX3 tyX3_ok nmX3 h11 rfl in_X3 (by decide) rfl q420 rfl rfl rfl rfl rfl trivial (Or.inl (by decide)) dX3_init_31 (fun s8 es8 => ?_)
  replace h := bst_i h s8 es8
  refine r_aload_n hκ 0 rfl rfl dX3_init_34 ?_
  obtain ⟨h12, h⟩ := bck_i h
  refine r_new hκ (t := 6) tyX8 tyX8_ok dfX8 rfl in_X8 q394 q395 q140 h12 dX3_init_35 (fun s9 es9 => ?_)
  replace h := bst_i h s9 es9
  refine r_dup hκ (bd_cat2k _) dX3_init_38 ?_
  obtain ⟨h13, h⟩ := bck_i h
  obtain ⟨s10, v4, h14, h⟩ := bcl_i h
  refine r_callIN hκ (n' := 0) (host := "EditsMeet") (index := 31) (w_X8_init Γ0 l0 h14) (lw_meth q398) (by decide +kernel) q140 (by decide +kernel) q397 rfl (t := 6) h13 rfl rfl (by decide) rfl (Nat.le_of_ble_eq_true rfl) dX3_init_39 ?_
  obtain ⟨h15, h⟩ := bck_i h
  refine r_putF hκ (hi.init rfl) (t := 3) (k := 3) (r := 106) (ty := (.object "EditsMeet$Edit")) tyX3 tyX3_ok nmX3 h15 rfl in_X3 (by decide) rfl q421 rfl rfl rfl rfl rfl trivial (Or.inl (by decide)) dX3_init_42 (fun s11 es11 => ?_)
  replace h := bst_i h s11 es11
  refine r_aload_n hκ 0 rfl rfl dX3_init_45 ?_
  obtain ⟨h16, h⟩ := bck_i h
  refine r_new hκ (t := 6) tyX8 tyX8_ok dfX8 rfl in_X8 q394 q395 q140 h16 dX3_init_46 (fun s12 es12 => ?_)
  replace h := bst_i h s12 es12
  refine r_dup hκ (bd_cat2k _) dX3_init_49 ?_
  obtain ⟨h17, h⟩ := bck_i h
  obtain ⟨s13, v5, h18, h⟩ := bcl_i h
  refine r_callIN hκ (n' := 0) (host := "EditsMeet") (index := 31) (w_X8_init Γ0 l0 h18) (lw_meth q398) (by decide +kernel) q140 (by decide +kernel) q397 rfl (t := 6) h17 rfl rfl (by decide) rfl (Nat.le_of_ble_eq_true rfl) dX3_init_50 ?_
  obtain ⟨h19, h⟩ := bck_i h
  refine r_putF hκ (hi.init rfl) (t := 3) (k := 4) (r := 110) (ty := (.object "EditsMeet$Edit")) tyX3 tyX3_ok nmX3 h19 rfl in_X3 (by decide) rfl q422 rfl rfl rfl rfl rfl trivial (Or.inl (by decide)) dX3_init_53 (fun s14 es14 => ?_)
  replace h := bst_i h s14 es14
  refine r_aload_n hκ 0 rfl rfl dX3_init_56 ?_
  obtain ⟨h20, h⟩ := bck_i h
  refine r_new hκ (t := 6) tyX8 tyX8_ok dfX8 rfl in_X8 q394 q395 q140 h20 dX3_init_57 (fun s15 es15 => ?_)
  replace h := bst_i h s15 es15
  refine r_dup hκ (bd_cat2k _) dX3_init_60 ?_
  obtain ⟨h21, h⟩ := bck_i h
  obtain ⟨s16, v6, h22, h⟩ := bcl_i h
  refine r_callIN hκ (n' := 0) (host := "EditsMeet") (index := 31) (w_X8_init Γ0 l0 h22) (lw_meth q398) (by decide +kernel) q140 (by decide +kernel) q397 rfl (t := 6) h21 rfl rfl (by decide) rfl (Nat.le_of_ble_eq_true rfl) dX3_init_61 ?_
  obtain ⟨h23, h⟩ := bck_i h
  refine r_putF hκ (hi.init rfl) (t := 3) (k := 5) (r := 114) (ty := (.object "EditsMeet$Edit")) tyX3 tyX3_ok nmX3 h23 rfl in_X3 (by decide) rfl q423 rfl rfl rfl rfl rfl trivial (Or.inl (by decide)) dX3_init_64 (fun s17 es17 => ?_)
  replace h := bst_i h s17 es17
  exact r_vretH hκ hf h dX3_init_67
/-- EditsMeet$Pile.<init>()V -/
def F_X10_init (s0 : bS) (a0 : Int) : Option (bS × Int) :=
  bck ((0 : Int) ≤ a0) <|
  bck (bc s0 + 1 ≤ bCM ∧ bk s0 + 4 ≤ bKM) <|
  bst (bnw s0 22 0 4) fun s1 =>
  bck (bg s1 0 (bnx s0 : Int) 0 = 22) <|
  bcl (F_J12_init s1 (bnx s0 : Int)) fun s2 v1 =>
  bck ((bg s2 0 a0 0 = 9)) <|
  bst (bw s2 202 a0 0 (bnx s0 : Int)) fun s3 =>
  bck (bc s3 + 1 ≤ bCM ∧ bk s3 + 3 ≤ bKM) <|
  bst (bnw s3 21 0 3) fun s4 =>
  bck (bg s4 0 (bnx s3 : Int) 0 = 21) <|
  bcl (F_J10_init s4 (bnx s3 : Int)) fun s5 v2 =>
  bck ((bg s5 0 a0 0 = 9)) <|
  bst (bw s5 206 a0 0 (bnx s3 : Int)) fun s6 =>
  some (s6, 0)
set_option maxHeartbeats 4000000 in
set_option maxRecDepth 100000 in
theorem w_X10_init (Γ0 : bG) (l0 : Launch) {s0 st' : bS} {v a0 : Int} (h : F_X10_init s0 a0 = some (st', v)) : bCt Γ0 l0 yX10_init cX10_init 1 none 5 100 [(2, a0)] s0 st' none := by
  refine b_ent (own := RX10) (by decide +kernel) rfl (Nat.le_of_ble_eq_true rfl) (L := [(0, (2, a0))]) rfl ?_
  intro κ hκ hi hf
  unfold F_X10_init at h
  refine r_aload_n hκ 0 rfl rfl dX10_init_0 ?_
  obtain ⟨h1, h⟩ := bck_i h
  refine r_oinit hκ h1 q449 q183 q184 (by decide) (Nat.le_of_ble_eq_true rfl) dX10_init_1 ?_
  refine r_aload_n hκ 0 rfl rfl dX10_init_4 ?_
  obtain ⟨h2, h⟩ := bck_i h
  refine r_new hκ (t := 21) tyJ12 tyJ12_ok dfJ12 rfl in_J12 q450 q451 q144 h2 dX10_init_5 (fun s1 es1 => ?_)
  replace h := bst_i h s1 es1
  refine r_dup hκ (bd_cat2k _) dX10_init_8 ?_
  obtain ⟨h3, h⟩ := bck_i h
  obtain ⟨s2, v1, h4, h⟩ := bcl_i h
  refine r_callI hκ (n' := 0) (index := 11) (w_J12_init Γ0 l0 h4) (lw_meth q454) q144 q452 q453 rfl (by decide +kernel) (t := 21) h3 rfl rfl (by decide) rfl (Nat.le_of_ble_eq_true rfl) dX10_init_9 ?_
  obtain ⟨h5, h⟩ := bck_i h
  refine r_putF hκ (hi.init rfl) (t := 8) (k := 0) (r := 202) (ty := (.object "java/util/LinkedList")) tyX10 tyX10_ok nmX10 h5 rfl in_X10 (by decide) rfl q475 rfl rfl rfl rfl rfl trivial (Or.inl (by decide)) dX10_init_12 (fun s3 es3 => ?_)
  replace h := bst_i h s3 es3
  refine r_aload_n hκ 0 rfl rfl dX10_init_15 ?_
  obtain ⟨h6, h⟩ := bck_i h
  refine r_new hκ (t := 20) tyJ10 tyJ10_ok dfJ10 rfl in_J10 q473 q324 q134 h6 dX10_init_16 (fun s4 es4 => ?_)
  replace h := bst_i h s4 es4
  refine r_dup hκ (bd_cat2k _) dX10_init_19 ?_
  obtain ⟨h7, h⟩ := bck_i h
  obtain ⟨s5, v2, h8, h⟩ := bcl_i h
  refine r_callI hκ (n' := 0) (index := 20) (w_J10_init Γ0 l0 h8) (lw_meth q327) q134 q474 q326 rfl (by decide +kernel) (t := 20) h7 rfl rfl (by decide) rfl (Nat.le_of_ble_eq_true rfl) dX10_init_20 ?_
  obtain ⟨h9, h⟩ := bck_i h
  refine r_putF hκ (hi.init rfl) (t := 8) (k := 1) (r := 206) (ty := (.object "java/util/ArrayList")) tyX10 tyX10_ok nmX10 h9 rfl in_X10 (by decide) rfl q476 rfl rfl rfl rfl rfl trivial (Or.inl (by decide)) dX10_init_23 (fun s6 es6 => ?_)
  replace h := bst_i h s6 es6
  exact r_vretH hκ hf h dX10_init_26
/-- EditsMeet$Client.<init>(LEditsMeet$Weaver;)V -/
def F_X9_init (s0 : bS) (a0 a1 : Int) : Option (bS × Int) :=
  bck ((0 : Int) ≤ a0) <|
  bck (bc s0 + 1 ≤ bCM ∧ bk s0 + 2 ≤ bKM) <|
  bst (bnw s0 3 0 2) fun s1 =>
  bck (bg s1 0 (bnx s0 : Int) 0 = 3) <|
  bcl (F_X2_init s1 (bnx s0 : Int)) fun s2 v1 =>
  bck ((bg s2 0 a0 0 = 8)) <|
  bst (bw s2 146 a0 0 (bnx s0 : Int)) fun s3 =>
  bck (((0 : Int) ≤ 2 ∧ (2 : Int) ≤ 67108864) ∧ bc s3 + 1 ≤ bCM ∧ bk s3 + (2 : Int).toNat ≤ bKM) <|
  bst (bnw s3 1003 2 (2 : Int).toNat) fun s4 =>
  bck ((bg s4 0 a0 0 = 8)) <|
  bst (bw s4 150 a0 0 (bnx s3 : Int)) fun s5 =>
  bck (bc s5 + 1 ≤ bCM ∧ bk s5 + 2 ≤ bKM) <|
  bst (bnw s5 9 0 2) fun s6 =>
  bck (bg s6 0 (bnx s5 : Int) 0 = 9) <|
  bcl (F_X10_init s6 (bnx s5 : Int)) fun s7 v2 =>
  bck ((bg s7 0 a0 0 = 8)) <|
  bst (bw s7 154 a0 0 (bnx s5 : Int)) fun s8 =>
  bck (bc s8 + 1 ≤ bCM ∧ bk s8 + 2 ≤ bKM) <|
  bst (bnw s8 9 0 2) fun s9 =>
  bck (bg s9 0 (bnx s8 : Int) 0 = 9) <|
  bcl (F_X10_init s9 (bnx s8 : Int)) fun s10 v3 =>
  bck ((bg s10 0 a0 0 = 8)) <|
  bst (bw s10 158 a0 0 (bnx s8 : Int)) fun s11 =>
  bck (bc s11 + 1 ≤ bCM ∧ bk s11 + 3 ≤ bKM) <|
  bst (bnw s11 7 0 3) fun s12 =>
  bck (bg s12 0 (bnx s11 : Int) 0 = 7) <|
  bcl (F_X8_init s12 (bnx s11 : Int)) fun s13 v4 =>
  bck ((bg s13 0 a0 0 = 8)) <|
  bst (bw s13 170 a0 0 (bnx s11 : Int)) fun s14 =>
  bck (bc s14 + 1 ≤ bCM ∧ bk s14 + 3 ≤ bKM) <|
  bst (bnw s14 7 0 3) fun s15 =>
  bck (bg s15 0 (bnx s14 : Int) 0 = 7) <|
  bcl (F_X8_init s15 (bnx s14 : Int)) fun s16 v5 =>
  bck ((bg s16 0 a0 0 = 8)) <|
  bst (bw s16 190 a0 0 (bnx s14 : Int)) fun s17 =>
  bck (bc s17 + 1 ≤ bCM ∧ bk s17 + 3 ≤ bKM) <|
  bst (bnw s17 7 0 3) fun s18 =>
  bck (bg s18 0 (bnx s17 : Int) 0 = 7) <|
  bcl (F_X8_init s18 (bnx s17 : Int)) fun s19 v6 =>
  bck ((bg s19 0 a0 0 = 8)) <|
  bst (bw s19 194 a0 0 (bnx s17 : Int)) fun s20 =>
  bck ((bg s20 0 a0 0 = 8)) <|
  bst (bw s20 162 a0 0 a1) fun s21 =>
  some (s21, 0)
set_option maxHeartbeats 4000000 in
set_option maxRecDepth 100000 in
theorem w_X9_init (Γ0 : bG) (l0 : Launch) {s0 st' : bS} {v a0 a1 : Int} (h : F_X9_init s0 a0 a1 = some (st', v)) : bCt Γ0 l0 yX9_init cX9_init 2 none 6 120 [(2, a0), (2, a1)] s0 st' none := by
  refine b_ent (own := RX9) (by decide +kernel) rfl (Nat.le_of_ble_eq_true rfl) (L := [(0, (2, a0)), (1, (2, a1))]) rfl ?_
  intro κ hκ hi hf
  unfold F_X9_init at h
  refine r_aload_n hκ 0 rfl rfl dX9_init_0 ?_
  obtain ⟨h1, h⟩ := bck_i h
  refine r_oinit hκ h1 q441 q183 q184 (by decide) (Nat.le_of_ble_eq_true rfl) dX9_init_1 ?_
  refine r_aload_n hκ 0 rfl rfl dX9_init_4 ?_
  obtain ⟨h2, h⟩ := bck_i h
  refine r_new hκ (t := 2) tyX2 tyX2_ok dfX2 rfl in_X2 q442 q194 q123 h2 dX9_init_5 (fun s1 es1 => ?_)
  replace h := bst_i h s1 es1
  refine r_dup hκ (bd_cat2k _) dX9_init_8 ?_
  obtain ⟨h3, h⟩ := bck_i h
  obtain ⟨s2, v1, h4, h⟩ := bcl_i h
  refine r_callIN hκ (n' := 0) (host := "EditsMeet") (index := 9) (w_X2_init Γ0 l0 h4) (lw_meth q197) (by decide +kernel) q123 (by decide +kernel) q196 rfl (t := 2) h3 rfl rfl (by decide) rfl (Nat.le_of_ble_eq_true rfl) dX9_init_9 ?_
  obtain ⟨h5, h⟩ := bck_i h
  refine r_putF hκ (hi.init rfl) (t := 7) (k := 0) (r := 146) (ty := (.object "EditsMeet$Text")) tyX9 tyX9_ok nmX9 h5 rfl in_X9 (by decide) rfl q484 rfl rfl rfl rfl rfl trivial (Or.inl (by decide)) dX9_init_12 (fun s3 es3 => ?_)
  replace h := bst_i h s3 es3
  refine r_aload_n hκ 0 rfl rfl dX9_init_15 ?_
  refine r_iconst hκ dX9_init_16 ?_
  obtain ⟨⟨h6, h7⟩, h⟩ := bck_i h
  refine r_new_int hκ q472 h6 h7 dX9_init_17 (fun s4 es4 => ?_)
  replace h := bst_i h s4 es4
  obtain ⟨h8, h⟩ := bck_i h
  refine r_putF hκ (hi.init rfl) (t := 7) (k := 1) (r := 150) (ty := (.array .int)) tyX9 tyX9_ok nmX9 h8 rfl in_X9 (by decide) rfl q487 rfl rfl rfl rfl rfl trivial (Or.inl (by decide)) dX9_init_19 (fun s5 es5 => ?_)
  replace h := bst_i h s5 es5
  refine r_aload_n hκ 0 rfl rfl dX9_init_22 ?_
  obtain ⟨h9, h⟩ := bck_i h
  refine r_new hκ (t := 8) tyX10 tyX10_ok dfX10 rfl in_X10 q444 q445 q142 h9 dX9_init_23 (fun s6 es6 => ?_)
  replace h := bst_i h s6 es6
  refine r_dup hκ (bd_cat2k _) dX9_init_26 ?_
  obtain ⟨h10, h⟩ := bck_i h
  obtain ⟨s7, v2, h11, h⟩ := bcl_i h
  refine r_callIN hκ (n' := 0) (host := "EditsMeet") (index := 22) (w_X10_init Γ0 l0 h11) (lw_meth q448) (by decide +kernel) q142 (by decide +kernel) q447 rfl (t := 8) h10 rfl rfl (by decide) rfl (Nat.le_of_ble_eq_true rfl) dX9_init_27 ?_
  obtain ⟨h12, h⟩ := bck_i h
  refine r_putF hκ (hi.init rfl) (t := 7) (k := 2) (r := 154) (ty := (.object "EditsMeet$Pile")) tyX9 tyX9_ok nmX9 h12 rfl in_X9 (by decide) rfl q489 rfl rfl rfl rfl rfl trivial (Or.inl (by decide)) dX9_init_30 (fun s8 es8 => ?_)
  replace h := bst_i h s8 es8
  refine r_aload_n hκ 0 rfl rfl dX9_init_33 ?_
  obtain ⟨h13, h⟩ := bck_i h
  refine r_new hκ (t := 8) tyX10 tyX10_ok dfX10 rfl in_X10 q444 q445 q142 h13 dX9_init_34 (fun s9 es9 => ?_)
  replace h := bst_i h s9 es9
  refine r_dup hκ (bd_cat2k _) dX9_init_37 ?_
  obtain ⟨h14, h⟩ := bck_i h
  obtain ⟨s10, v3, h15, h⟩ := bcl_i h
  refine r_callIN hκ (n' := 0) (host := "EditsMeet") (index := 22) (w_X10_init Γ0 l0 h15) (lw_meth q448) (by decide +kernel) q142 (by decide +kernel) q447 rfl (t := 8) h14 rfl rfl (by decide) rfl (Nat.le_of_ble_eq_true rfl) dX9_init_38 ?_
  obtain ⟨h16, h⟩ := bck_i h
  refine r_putF hκ (hi.init rfl) (t := 7) (k := 3) (r := 158) (ty := (.object "EditsMeet$Pile")) tyX9 tyX9_ok nmX9 h16 rfl in_X9 (by decide) rfl q491 rfl rfl rfl rfl rfl trivial (Or.inl (by decide)) dX9_init_41 (fun s11 es11 => ?_)
  replace h := bst_i h s11 es11
  refine r_aload_n hκ 0 rfl rfl dX9_init_44 ?_
  obtain ⟨h17, h⟩ := bck_i h
  refine r_new hκ (t := 6) tyX8 tyX8_ok dfX8 rfl in_X8 q482 q395 q140 h17 dX9_init_45 (fun s12 es12 => ?_)
  replace h := bst_i h s12 es12
  refine r_dup hκ (bd_cat2k _) dX9_init_48 ?_
  obtain ⟨h18, h⟩ := bck_i h
  obtain ⟨s13, v4, h19, h⟩ := bcl_i h
  refine r_callIN hκ (n' := 0) (host := "EditsMeet") (index := 32) (w_X8_init Γ0 l0 h19) (lw_meth q398) (by decide +kernel) q140 (by decide +kernel) q397 rfl (t := 6) h18 rfl rfl (by decide) rfl (Nat.le_of_ble_eq_true rfl) dX9_init_49 ?_
  obtain ⟨h20, h⟩ := bck_i h
  refine r_putF hκ (hi.init rfl) (t := 7) (k := 6) (r := 170) (ty := (.object "EditsMeet$Edit")) tyX9 tyX9_ok nmX9 h20 rfl in_X9 (by decide) rfl q497 rfl rfl rfl rfl rfl trivial (Or.inl (by decide)) dX9_init_52 (fun s14 es14 => ?_)
  replace h := bst_i h s14 es14
  refine r_aload_n hκ 0 rfl rfl dX9_init_55 ?_
  obtain ⟨h21, h⟩ := bck_i h
  refine r_new hκ (t := 6) tyX8 tyX8_ok dfX8 rfl in_X8 q482 q395 q140 h21 dX9_init_56 (fun s15 es15 => ?_)
  replace h := bst_i h s15 es15
  refine r_dup hκ (bd_cat2k _) dX9_init_59 ?_
  obtain ⟨h22, h⟩ := bck_i h
  obtain ⟨s16, v5, h23, h⟩ := bcl_i h
  refine r_callIN hκ (n' := 0) (host := "EditsMeet") (index := 32) (w_X8_init Γ0 l0 h23) (lw_meth q398) (by decide +kernel) q140 (by decide +kernel) q397 rfl (t := 6) h22 rfl rfl (by decide) rfl (Nat.le_of_ble_eq_true rfl) dX9_init_60 ?_
  obtain ⟨h24, h⟩ := bck_i h
  refine r_putF hκ (hi.init rfl) (t := 7) (k := 11) (r := 190) (ty := (.object "EditsMeet$Edit")) tyX9 tyX9_ok nmX9 h24 rfl in_X9 (by decide) rfl q507 rfl rfl rfl rfl rfl trivial (Or.inl (by decide)) dX9_init_63 (fun s17 es17 => ?_)
  replace h := bst_i h s17 es17
  refine r_aload_n hκ 0 rfl rfl dX9_init_66 ?_
  obtain ⟨h25, h⟩ := bck_i h
  refine r_new hκ (t := 6) tyX8 tyX8_ok dfX8 rfl in_X8 q482 q395 q140 h25 dX9_init_67 (fun s18 es18 => ?_)
  replace h := bst_i h s18 es18
  refine r_dup hκ (bd_cat2k _) dX9_init_70 ?_
  obtain ⟨h26, h⟩ := bck_i h
  obtain ⟨s19, v6, h27, h⟩ := bcl_i h
  refine r_callIN hκ (n' := 0) (host := "EditsMeet") (index := 32) (w_X8_init Γ0 l0 h27) (lw_meth q398) (by decide +kernel) q140 (by decide +kernel) q397 rfl (t := 6) h26 rfl rfl (by decide) rfl (Nat.le_of_ble_eq_true rfl) dX9_init_71 ?_
  obtain ⟨h28, h⟩ := bck_i h
  refine r_putF hκ (hi.init rfl) (t := 7) (k := 12) (r := 194) (ty := (.object "EditsMeet$Edit")) tyX9 tyX9_ok nmX9 h28 rfl in_X9 (by decide) rfl q508 rfl rfl rfl rfl rfl trivial (Or.inl (by decide)) dX9_init_74 (fun s20 es20 => ?_)
  replace h := bst_i h s20 es20
  refine r_aload_n hκ 0 rfl rfl dX9_init_77 ?_
  refine r_aload_n hκ 1 rfl rfl dX9_init_78 ?_
  obtain ⟨h29, h⟩ := bck_i h
  refine r_putF hκ (hi.init rfl) (t := 7) (k := 4) (r := 162) (ty := (.object "EditsMeet$Weaver")) tyX9 tyX9_ok nmX9 h29 rfl in_X9 (by decide) rfl q493 rfl rfl rfl rfl rfl trivial (Or.inl (by decide)) dX9_init_79 (fun s21 es21 => ?_)
  replace h := bst_i h s21 es21
  exact r_vretH hκ hf h dX9_init_82
/-- EditsMeet$World.<init>()V -/
def F_X1_init_r (b : Nat) (x0 x1 : Int) (s0 : bS) : Option (bS × Int) :=
  match b with
  | 0 =>
    bte (i32 4 ≤ i32 x1)
    (some (s0, 0))
    (bck (bg s0 0 x0 0 = 2) <|
    bck (bc s0 + 1 ≤ bCM ∧ bk s0 + 14 ≤ bKM) <|
    bst (bnw s0 8 0 14) fun s13 =>
    bck (bg s13 0 x0 0 = 2) <|
    bck (bg s13 0 (bnx s0 : Int) 0 = 8) <|
    bcl (F_X9_init s13 (bnx s0 : Int) (bg s13 78 x0 0)) fun s14 v4 =>
    bck ((bg s14 0 (bg s0 66 x0 0) 0 = 1007 ∧ (0 : Int) ≤ x1 ∧ x1 < bg s14 4 (bg s0 66 x0 0) 0) ∧ ((bnx s0 : Int) < 0 ∨ bg s14 0 (bnx s0 : Int) 0 = 8)) <|
    bst (bw s14 10 (bg s0 66 x0 0) x1 (bnx s0 : Int)) fun s15 =>
    F_X1_init_r 0 x0 (x1 + 1) s15)
  | _ => none
partial_fixpoint
def F_X1_init (s0 : bS) (a0 : Int) : Option (bS × Int) :=
  bck ((0 : Int) ≤ a0) <|
  bck (((0 : Int) ≤ 4 ∧ (4 : Int) ≤ 67108864) ∧ bc s0 + 1 ≤ bCM ∧ bk s0 + (4 : Int).toNat ≤ bKM) <|
  bst (bnw s0 1007 4 (4 : Int).toNat) fun s1 =>
  bck ((bg s1 0 a0 0 = 2)) <|
  bst (bw s1 66 a0 0 (bnx s0 : Int)) fun s2 =>
  bck (bc s2 + 1 ≤ bCM ∧ bk s2 + 2 ≤ bKM) <|
  bst (bnw s2 3 0 2) fun s3 =>
  bck (bg s3 0 (bnx s2 : Int) 0 = 3) <|
  bcl (F_X2_init s3 (bnx s2 : Int)) fun s4 v1 =>
  bck ((bg s4 0 a0 0 = 2)) <|
  bst (bw s4 70 a0 0 (bnx s2 : Int)) fun s5 =>
  bck (bc s5 + 1 ≤ bCM ∧ bk s5 + 3 ≤ bKM) <|
  bst (bnw s5 21 0 3) fun s6 =>
  bck (bg s6 0 (bnx s5 : Int) 0 = 21) <|
  bcl (F_J10_init s6 (bnx s5 : Int)) fun s7 v2 =>
  bck ((bg s7 0 a0 0 = 2)) <|
  bst (bw s7 74 a0 0 (bnx s5 : Int)) fun s8 =>
  bck (bc s8 + 1 ≤ bCM ∧ bk s8 + 6 ≤ bKM) <|
  bst (bnw s8 4 0 6) fun s9 =>
  bck (bg s9 0 (bnx s8 : Int) 0 = 4) <|
  bcl (F_X3_init s9 (bnx s8 : Int)) fun s10 v3 =>
  bck ((bg s10 0 a0 0 = 2)) <|
  bst (bw s10 78 a0 0 (bnx s8 : Int)) fun s11 =>
  bck ((bg s11 0 a0 0 = 2)) <|
  bst (bw s11 80 a0 0 1) fun s12 =>
  F_X1_init_r 0 a0 0 s12
set_option maxHeartbeats 4000000 in
set_option maxRecDepth 100000 in
set_option synthInstance.maxHeartbeats 4000000 in
theorem w_X1_init_r {Γ0 : bG} {l0 : Launch} {κ : bK} {st' : bS} {v : Int} (hκ : bOk κ Γ0 l0 cX1_init RX1 2 7 141) (hi : bIn κ yX1_init) (hf : bFin κ none st' none) (b : Nat) (x0 x1 : Int) (s0 : bS) (h : F_X1_init_r b x0 x1 s0 = some (st', v)) : match (generalizing := false) b with | 0 => bJ κ s0 52 [(0, (2, x0)), (1, (0, x1))] [] | _ => True := by
  refine F_X1_init_r.partial_correctness x0 (fun b x1 s0 r => r = (st', v) → match (generalizing := false) b with | 0 => bJ κ s0 52 [(0, (2, x0)), (1, (0, x1))] [] | _ => True) ?_ b x1 s0 _ h rfl
  intro f' ih b x1 s0 r h hr
  subst hr
  match b, h with
  | 0, h =>
      refine r_iload_n hκ 1 rfl rfl dX1_init_52 ?_
      refine r_iconst hκ dX1_init_53 ?_
      refine r_icmp_ge hκ (tgt := 80) (by decide) dX1_init_54 (fun h18 => ?_) (fun h18 => ?_)
      · replace h := (bte_i h).1 h18
        exact r_vretH hκ hf h dX1_init_80
      · replace h := (bte_i h).2 h18
        refine r_aload_n hκ 0 rfl rfl dX1_init_57 ?_
        obtain ⟨h19, h⟩ := bck_i h
        refine r_get hκ (t := 1) (k := 0) (r := 66) h19 rfl in_X1 (by decide) rfl q539 (Or.inl rfl) dX1_init_58 ?_
        refine r_iload_n hκ 1 rfl rfl dX1_init_61 ?_
        obtain ⟨h20, h⟩ := bck_i h
        refine r_new hκ (t := 7) tyX9 tyX9_ok dfX9 rfl in_X9 q191 q437 q141 h20 dX1_init_62 (fun s13 es13 => ?_)
        replace h := bst_i h s13 es13
        refine r_dup hκ (bd_cat2k _) dX1_init_65 ?_
        refine r_aload_n hκ 0 rfl rfl dX1_init_66 ?_
        obtain ⟨h21, h⟩ := bck_i h
        refine r_get hκ (t := 1) (k := 3) (r := 78) h21 rfl in_X1 (by decide) rfl q545 (Or.inl rfl) dX1_init_67 ?_
        obtain ⟨h22, h⟩ := bck_i h
        obtain ⟨s14, v4, h23, h⟩ := bcl_i h
        refine r_callI hκ (n' := 1) (index := 42) (w_X9_init Γ0 l0 h23) (lw_meth q440) q141 q438 q439 rfl (by decide +kernel) (t := 7) h22 rfl rfl (by decide) rfl (Nat.le_of_ble_eq_true rfl) dX1_init_70 ?_
        obtain ⟨⟨⟨h24, h25⟩, h26⟩, h⟩ := bck_i h
        refine r_aast hκ (t := 7) rfl (by decide) (Or.inl (by decide)) h24 h25 (Or.elim h26 (fun h26 => Or.inl h26) (fun h26 => Or.inr ⟨7, _, h26, rfl, Or.inl rfl⟩)) dX1_init_73 (fun s15 es15 => ?_)
        replace h := bst_i h s15 es15
        refine r_iinc hκ (L2 := [(1, (0, (x1 + 1))), (0, (2, x0))]) 1 rfl (by decide) rfl dX1_init_74 ?_
        refine r_goto hκ (tgt := 52) (by decide) dX1_init_77 ?_
        exact r_sub [1, 0] rfl (ih 0 _ _ _ h rfl)
  | b + 1, h => trivial
set_option maxHeartbeats 4000000 in
set_option maxRecDepth 100000 in
theorem w_X1_init (Γ0 : bG) (l0 : Launch) {s0 st' : bS} {v a0 : Int} (h : F_X1_init s0 a0 = some (st', v)) : bCt Γ0 l0 yX1_init cX1_init 2 none 7 141 [(2, a0)] s0 st' none := by
  refine b_ent (own := RX1) (by decide +kernel) rfl (Nat.le_of_ble_eq_true rfl) (L := [(0, (2, a0))]) rfl ?_
  intro κ hκ hi hf
  unfold F_X1_init at h
  refine r_aload_n hκ 0 rfl rfl dX1_init_0 ?_
  obtain ⟨h1, h⟩ := bck_i h
  refine r_oinit hκ h1 q190 q183 q184 (by decide) (Nat.le_of_ble_eq_true rfl) dX1_init_1 ?_
  refine r_aload_n hκ 0 rfl rfl dX1_init_4 ?_
  refine r_iconst hκ dX1_init_5 ?_
  obtain ⟨⟨h2, h3⟩, h⟩ := bck_i h
  refine r_anew hκ (t := 7) q191 (by decide +kernel) rfl (by decide) h2 h3 dX1_init_6 (fun s1 es1 => ?_)
  replace h := bst_i h s1 es1
  obtain ⟨h4, h⟩ := bck_i h
  refine r_putF hκ (hi.init rfl) (t := 1) (k := 0) (r := 66) (ty := (.array (.object "EditsMeet$Client"))) tyX1 tyX1_ok nmX1 h4 rfl in_X1 (by decide) rfl q539 rfl rfl rfl rfl rfl trivial (Or.inl (by decide)) dX1_init_9 (fun s2 es2 => ?_)
  replace h := bst_i h s2 es2
  refine r_aload_n hκ 0 rfl rfl dX1_init_12 ?_
  obtain ⟨h5, h⟩ := bck_i h
  refine r_new hκ (t := 2) tyX2 tyX2_ok dfX2 rfl in_X2 q193 q194 q123 h5 dX1_init_13 (fun s3 es3 => ?_)
  replace h := bst_i h s3 es3
  refine r_dup hκ (bd_cat2k _) dX1_init_16 ?_
  obtain ⟨h6, h⟩ := bck_i h
  obtain ⟨s4, v1, h7, h⟩ := bcl_i h
  refine r_callIN hκ (n' := 0) (host := "EditsMeet") (index := 19) (w_X2_init Γ0 l0 h7) (lw_meth q197) (by decide +kernel) q123 (by decide +kernel) q196 rfl (t := 2) h6 rfl rfl (by decide) rfl (Nat.le_of_ble_eq_true rfl) dX1_init_17 ?_
  obtain ⟨h8, h⟩ := bck_i h
  refine r_putF hκ (hi.init rfl) (t := 1) (k := 1) (r := 70) (ty := (.object "EditsMeet$Text")) tyX1 tyX1_ok nmX1 h8 rfl in_X1 (by decide) rfl q541 rfl rfl rfl rfl rfl trivial (Or.inl (by decide)) dX1_init_20 (fun s5 es5 => ?_)
  replace h := bst_i h s5 es5
  refine r_aload_n hκ 0 rfl rfl dX1_init_23 ?_
  obtain ⟨h9, h⟩ := bck_i h
  refine r_new hκ (t := 20) tyJ10 tyJ10_ok dfJ10 rfl in_J10 q323 q324 q134 h9 dX1_init_24 (fun s6 es6 => ?_)
  replace h := bst_i h s6 es6
  refine r_dup hκ (bd_cat2k _) dX1_init_27 ?_
  obtain ⟨h10, h⟩ := bck_i h
  obtain ⟨s7, v2, h11, h⟩ := bcl_i h
  refine r_callI hκ (n' := 0) (index := 26) (w_J10_init Γ0 l0 h11) (lw_meth q327) q134 q325 q326 rfl (by decide +kernel) (t := 20) h10 rfl rfl (by decide) rfl (Nat.le_of_ble_eq_true rfl) dX1_init_28 ?_
  obtain ⟨h12, h⟩ := bck_i h
  refine r_putF hκ (hi.init rfl) (t := 1) (k := 2) (r := 74) (ty := (.object "java/util/ArrayList")) tyX1 tyX1_ok nmX1 h12 rfl in_X1 (by decide) rfl q543 rfl rfl rfl rfl rfl trivial (Or.inl (by decide)) dX1_init_31 (fun s8 es8 => ?_)
  replace h := bst_i h s8 es8
  refine r_aload_n hκ 0 rfl rfl dX1_init_34 ?_
  obtain ⟨h13, h⟩ := bck_i h
  refine r_new hκ (t := 3) tyX3 tyX3_ok dfX3 rfl in_X3 q356 q357 q135 h13 dX1_init_35 (fun s9 es9 => ?_)
  replace h := bst_i h s9 es9
  refine r_dup hκ (bd_cat2k _) dX1_init_38 ?_
  obtain ⟨h14, h⟩ := bck_i h
  obtain ⟨s10, v3, h15, h⟩ := bcl_i h
  refine r_callIN hκ (n' := 0) (host := "EditsMeet") (index := 33) (w_X3_init Γ0 l0 h15) (lw_meth q360) (by decide +kernel) q135 (by decide +kernel) q359 rfl (t := 3) h14 rfl rfl (by decide) rfl (Nat.le_of_ble_eq_true rfl) dX1_init_39 ?_
  obtain ⟨h16, h⟩ := bck_i h
  refine r_putF hκ (hi.init rfl) (t := 1) (k := 3) (r := 78) (ty := (.object "EditsMeet$Weaver")) tyX1 tyX1_ok nmX1 h16 rfl in_X1 (by decide) rfl q545 rfl rfl rfl rfl rfl trivial (Or.inl (by decide)) dX1_init_42 (fun s11 es11 => ?_)
  replace h := bst_i h s11 es11
  refine r_aload_n hκ 0 rfl rfl dX1_init_45 ?_
  refine r_iconst hκ dX1_init_46 ?_
  obtain ⟨h17, h⟩ := bck_i h
  refine r_put hκ (t := 1) (k := 4) (r := 80) (ty := .int) tyX1 tyX1_ok nmX1 h17 rfl in_X1 (by decide) rfl q547 (Or.inl rfl) rfl rfl rfl trivial (Or.inl (by decide)) dX1_init_47 (fun s12 es12 => ?_)
  replace h := bst_i h s12 es12
  refine r_iconst hκ dX1_init_50 ?_
  refine r_istore_n hκ (L2 := [(1, (0, 0)), (0, (2, a0))]) (by decide) rfl rfl dX1_init_51 ?_
  exact r_sub [1, 0] rfl (w_X1_init_r hκ hi hf 0 _ _ _ h)
/-- EditsMeet.isIn(III)Z -/
def F_X0_isIn (s0 : bS) (a0 a1 a2 : Int) : Option (bS × Int) :=
  bte (i32 a0 < i32 a1)
  (some (s0, 0))
  (bte (i32 a2 < i32 a0)
  (some (s0, 0))
  (some (s0, 1)))
set_option maxHeartbeats 4000000 in
set_option maxRecDepth 100000 in
theorem w_X0_isIn (Γ0 : bG) (l0 : Launch) {s0 st' : bS} {v a0 a1 a2 : Int} (h : F_X0_isIn s0 a0 a1 a2 = some (st', v)) : bCt Γ0 l0 yX0_isIn cX0_isIn 3 (some .boolean) 0 0 [(0, a0), (0, a1), (0, a2)] s0 st' (some (0, v)) := by
  refine b_ent (own := RX0) (by decide +kernel) rfl (Nat.le_of_ble_eq_true rfl) (L := [(0, (0, a0)), (1, (0, a1)), (2, (0, a2))]) rfl ?_
  intro κ hκ hi hf
  unfold F_X0_isIn at h
  refine r_iload_n hκ 0 rfl rfl dX0_isIn_0 ?_
  refine r_iload_n hκ 1 rfl rfl dX0_isIn_1 ?_
  refine r_icmp_lt hκ (tgt := 14) (by decide) dX0_isIn_2 (fun h1 => ?_) (fun h1 => ?_)
  · replace h := (bte_i h).1 h1
    refine r_iconst hκ dX0_isIn_14 ?_
    exact r_iretH hκ hf h (nar_bool (by decide)) dX0_isIn_15
  · replace h := (bte_i h).2 h1
    refine r_iload_n hκ 0 rfl rfl dX0_isIn_5 ?_
    refine r_iload_n hκ 2 rfl rfl dX0_isIn_6 ?_
    refine r_icmp_gt hκ (tgt := 14) (by decide) dX0_isIn_7 (fun h2 => ?_) (fun h2 => ?_)
    · replace h := (bte_i h).1 h2
      refine r_iconst hκ dX0_isIn_14 ?_
      exact r_iretH hκ hf h (nar_bool (by decide)) dX0_isIn_15
    · replace h := (bte_i h).2 h2
      refine r_iconst hκ dX0_isIn_10 ?_
      refine r_goto hκ (tgt := 15) (by decide) dX0_isIn_11 ?_
      exact r_iretH hκ hf h (nar_bool (by decide)) dX0_isIn_15
/-- EditsMeet$Over.kind()I -/
def F_X6_kind (s0 : bS) (a0 : Int) : Option (bS × Int) :=
  some (s0, 2)
set_option maxHeartbeats 4000000 in
set_option maxRecDepth 100000 in
theorem w_X6_kind (Γ0 : bG) (l0 : Launch) {s0 st' : bS} {v a0 : Int} (h : F_X6_kind s0 a0 = some (st', v)) : bCt Γ0 l0 yX6_kind cX6_kind 1 (some .int) 0 0 [(2, a0)] s0 st' (some (0, v)) := by
  refine b_ent (own := RX6) (by decide +kernel) rfl (Nat.le_of_ble_eq_true rfl) (L := [(0, (2, a0))]) rfl ?_
  intro κ hκ hi hf
  unfold F_X6_kind at h
  refine r_iconst hκ dX6_kind_0 ?_
  exact r_iretH hκ hf h (nar_int _) dX6_kind_1
/-- EditsMeet$Keep.kind()I -/
def F_X7_kind (s0 : bS) (a0 : Int) : Option (bS × Int) :=
  some (s0, 3)
set_option maxHeartbeats 4000000 in
set_option maxRecDepth 100000 in
theorem w_X7_kind (Γ0 : bG) (l0 : Launch) {s0 st' : bS} {v a0 : Int} (h : F_X7_kind s0 a0 = some (st', v)) : bCt Γ0 l0 yX7_kind cX7_kind 1 (some .int) 0 0 [(2, a0)] s0 st' (some (0, v)) := by
  refine b_ent (own := RX7) (by decide +kernel) rfl (Nat.le_of_ble_eq_true rfl) (L := [(0, (2, a0))]) rfl ?_
  intro κ hκ hi hf
  unfold F_X7_kind at h
  refine r_iconst hκ dX7_kind_0 ?_
  exact r_iretH hκ hf h (nar_int _) dX7_kind_1
/-- EditsMeet$Mark.kind()I -/
def F_X18_kind (s0 : bS) (a0 : Int) : Option (bS × Int) :=
  bck (bg s0 0 a0 0 = 17) <|
  bcl (F_X7_kind s0 a0) fun s1 v1 =>
  some (s1, (v1 + 2))
set_option maxHeartbeats 4000000 in
set_option maxRecDepth 100000 in
theorem w_X18_kind (Γ0 : bG) (l0 : Launch) {s0 st' : bS} {v a0 : Int} (h : F_X18_kind s0 a0 = some (st', v)) : bCt Γ0 l0 yX18_kind cX18_kind 1 (some .int) 1 20 [(2, a0)] s0 st' (some (0, v)) := by
  refine b_ent (own := RX18) (by decide +kernel) rfl (Nat.le_of_ble_eq_true rfl) (L := [(0, (2, a0))]) rfl ?_
  intro κ hκ hi hf
  unfold F_X18_kind at h
  refine r_aload_n hκ 0 rfl rfl dX18_kind_0 ?_
  obtain ⟨h1, h⟩ := bck_i h
  obtain ⟨s1, v1, h2, h⟩ := bcl_i h
  refine r_callSU hκ (n' := 0) (index := 16) (w_X7_kind Γ0 l0 h2) (lw_app (lw_l5 q787 q3581 q788 q778 q139) (lw_meth q780)) (by decide +kernel) (t := 16) h1 rfl rfl (by decide) rfl (Nat.le_of_ble_eq_true rfl) dX18_kind_1 ?_
  refine r_iconst hκ dX18_kind_4 ?_
  refine r_iadd hκ dX18_kind_5 ?_
  exact r_iretH hκ hf h (nar_int _) dX18_kind_6
/-- EditsMeet$Delete.kind()I -/
def F_X16_kind (s0 : bS) (a0 : Int) : Option (bS × Int) :=
  bck (bg s0 0 a0 0 = 15) <|
  bcl (F_X6_kind s0 a0) fun s1 v1 =>
  some (s1, (v1 + 2))
set_option maxHeartbeats 4000000 in
set_option maxRecDepth 100000 in
theorem w_X16_kind (Γ0 : bG) (l0 : Launch) {s0 st' : bS} {v a0 : Int} (h : F_X16_kind s0 a0 = some (st', v)) : bCt Γ0 l0 yX16_kind cX16_kind 1 (some .int) 1 20 [(2, a0)] s0 st' (some (0, v)) := by
  refine b_ent (own := RX16) (by decide +kernel) rfl (Nat.le_of_ble_eq_true rfl) (L := [(0, (2, a0))]) rfl ?_
  intro κ hκ hi hf
  unfold F_X16_kind at h
  refine r_aload_n hκ 0 rfl rfl dX16_kind_0 ?_
  obtain ⟨h1, h⟩ := bck_i h
  obtain ⟨s1, v1, h2, h⟩ := bcl_i h
  refine r_callSU hκ (n' := 0) (index := 7) (w_X6_kind Γ0 l0 h2) (lw_app (lw_l5 q765 q3580 q766 q767 q138) (lw_meth q768)) (by decide +kernel) (t := 14) h1 rfl rfl (by decide) rfl (Nat.le_of_ble_eq_true rfl) dX16_kind_1 ?_
  refine r_iconst hκ dX16_kind_4 ?_
  refine r_iadd hκ dX16_kind_5 ?_
  exact r_iretH hκ hf h (nar_int _) dX16_kind_6
/-- EditsMeet$Insert.kind()I -/
def F_X17_kind (s0 : bS) (a0 : Int) : Option (bS × Int) :=
  some (s0, 1)
set_option maxHeartbeats 4000000 in
set_option maxRecDepth 100000 in
theorem w_X17_kind (Γ0 : bG) (l0 : Launch) {s0 st' : bS} {v a0 : Int} (h : F_X17_kind s0 a0 = some (st', v)) : bCt Γ0 l0 yX17_kind cX17_kind 1 (some .int) 0 0 [(2, a0)] s0 st' (some (0, v)) := by
  refine b_ent (own := RX17) (by decide +kernel) rfl (Nat.le_of_ble_eq_true rfl) (L := [(0, (2, a0))]) rfl ?_
  intro κ hκ hi hf
  unfold F_X17_kind at h
  refine r_iconst hκ dX17_kind_0 ?_
  exact r_iretH hκ hf h (nar_int _) dX17_kind_1
/-- EditsMeet$Edit.many()I -/
def F_X8_many (s0 : bS) (a0 : Int) : Option (bS × Int) :=
  bck (bg s0 0 a0 0 = 7) <|
  bck (bg s0 0 (bg s0 134 a0 0) 0 = 21) <|
  bcl (F_J10_size s0 (bg s0 134 a0 0)) fun s1 v1 =>
  some (s1, v1)
set_option maxHeartbeats 4000000 in
set_option maxRecDepth 100000 in
theorem w_X8_many (Γ0 : bG) (l0 : Launch) {s0 st' : bS} {v a0 : Int} (h : F_X8_many s0 a0 = some (st', v)) : bCt Γ0 l0 yX8_many cX8_many 1 (some .int) 1 20 [(2, a0)] s0 st' (some (0, v)) := by
  refine b_ent (own := RX8) (by decide +kernel) rfl (Nat.le_of_ble_eq_true rfl) (L := [(0, (2, a0))]) rfl ?_
  intro κ hκ hi hf
  unfold F_X8_many at h
  refine r_aload_n hκ 0 rfl rfl dX8_many_0 ?_
  obtain ⟨h1, h⟩ := bck_i h
  refine r_get hκ (t := 6) (k := 0) (r := 134) h1 rfl in_X8 (by decide) rfl q408 (Or.inl rfl) dX8_many_1 ?_
  obtain ⟨h2, h⟩ := bck_i h
  obtain ⟨s1, v1, h3, h⟩ := bcl_i h
  refine r_callV hκ (n' := 0) (index := 73) (w_J10_size Γ0 l0 h3) (lw_V q810 q811 q812 q134 q813) (by decide +kernel) (t := 20) h2 rfl rfl (by decide) rfl (Nat.le_of_ble_eq_true rfl) dX8_many_4 ?_
  exact r_iretH hκ hf h (nar_int _) dX8_many_7
/-- EditsMeet$Edit.get(I)LEditsMeet$Part; -/
def F_X8_get (s0 : bS) (a0 a1 : Int) : Option (bS × Int) :=
  bck (bg s0 0 a0 0 = 7) <|
  bck (bg s0 0 (bg s0 134 a0 0) 0 = 21) <|
  bcl (F_J10_get s0 (bg s0 134 a0 0) a1) fun s1 v1 =>
  bck (v1 < 0 ∨ bg s1 0 v1 0 = 6 ∨ bg s1 0 v1 0 = 15 ∨ bg s1 0 v1 0 = 16 ∨ bg s1 0 v1 0 = 17) <|
  some (s1, v1)
set_option maxHeartbeats 4000000 in
set_option maxRecDepth 100000 in
theorem w_X8_get (Γ0 : bG) (l0 : Launch) {s0 st' : bS} {v a0 a1 : Int} (h : F_X8_get s0 a0 a1 = some (st', v)) : bCt Γ0 l0 yX8_get cX8_get 2 (some (.object "EditsMeet$Part")) 3 64 [(2, a0), (0, a1)] s0 st' (some (2, v)) := by
  refine b_ent (own := RX8) (by decide +kernel) rfl (Nat.le_of_ble_eq_true rfl) (L := [(0, (2, a0)), (1, (0, a1))]) rfl ?_
  intro κ hκ hi hf
  unfold F_X8_get at h
  refine r_aload_n hκ 0 rfl rfl dX8_get_0 ?_
  obtain ⟨h1, h⟩ := bck_i h
  refine r_get hκ (t := 6) (k := 0) (r := 134) h1 rfl in_X8 (by decide) rfl q408 (Or.inl rfl) dX8_get_1 ?_
  refine r_iload_n hκ 1 rfl rfl dX8_get_4 ?_
  obtain ⟨h2, h⟩ := bck_i h
  obtain ⟨s1, v1, h3, h⟩ := bcl_i h
  refine r_callV hκ (n' := 1) (index := 76) (w_J10_get Γ0 l0 h3) (lw_V q818 q819 q820 q134 q821) (by decide +kernel) (t := 20) h2 rfl rfl (by decide) rfl (Nat.le_of_ble_eq_true rfl) dX8_get_5 ?_
  obtain ⟨h4, h⟩ := bck_i h
  refine r_cast hκ q832 (Or.elim h4 (fun h4 => Or.inl h4) (fun h4 => Or.elim h4 (fun h4 => Or.inr ⟨5, _, h4, rfl, Or.inr (by decide +kernel)⟩) (fun h4 => Or.elim h4 (fun h4 => Or.inr ⟨14, _, h4, rfl, Or.inr (by decide +kernel)⟩) (fun h4 => Or.elim h4 (fun h4 => Or.inr ⟨15, _, h4, rfl, Or.inr (by decide +kernel)⟩) (fun h4 => Or.inr ⟨16, _, h4, rfl, Or.inr (by decide +kernel)⟩))))) dX8_get_8 ?_
  exact r_aretH hκ hf h rt_o dX8_get_11
/-- EditsMeet$Part.takes()I -/
def F_X5_takes (s0 : bS) (a0 : Int) : Option (bS × Int) :=
  some (s0, 0)
set_option maxHeartbeats 4000000 in
set_option maxRecDepth 100000 in
theorem w_X5_takes (Γ0 : bG) (l0 : Launch) {s0 st' : bS} {v a0 : Int} (h : F_X5_takes s0 a0 = some (st', v)) : bCt Γ0 l0 yX5_takes cX5_takes 1 (some .int) 0 0 [(2, a0)] s0 st' (some (0, v)) := by
  refine b_ent (own := RX5) (by decide +kernel) rfl (Nat.le_of_ble_eq_true rfl) (L := [(0, (2, a0))]) rfl ?_
  intro κ hκ hi hf
  unfold F_X5_takes at h
  refine r_iconst hκ dX5_takes_0 ?_
  exact r_iretH hκ hf h (nar_int _) dX5_takes_1
/-- EditsMeet$Over.takes()I -/
def F_X6_takes (s0 : bS) (a0 : Int) : Option (bS × Int) :=
  bck (bg s0 0 a0 0 = 6 ∨ bg s0 0 a0 0 = 15 ∨ bg s0 0 a0 0 = 17) <|
  some (s0, (bg s0 128 a0 0))
set_option maxHeartbeats 4000000 in
set_option maxRecDepth 100000 in
theorem w_X6_takes (Γ0 : bG) (l0 : Launch) {s0 st' : bS} {v a0 : Int} (h : F_X6_takes s0 a0 = some (st', v)) : bCt Γ0 l0 yX6_takes cX6_takes 1 (some .int) 0 0 [(2, a0)] s0 st' (some (0, v)) := by
  refine b_ent (own := RX6) (by decide +kernel) rfl (Nat.le_of_ble_eq_true rfl) (L := [(0, (2, a0))]) rfl ?_
  intro κ hκ hi hf
  unfold F_X6_takes at h
  refine r_aload_n hκ 0 rfl rfl dX6_takes_0 ?_
  obtain ⟨h1, h⟩ := bck_i h
  refine r_seq (A := bJ κ s0 4 [(0, (2, a0))] [(0, (bg s0 128 a0 0))]) ?_ (fun k0 => Or.elim h1 (fun h1 => r_get hκ (t := 5) (k := 0) (r := 128) h1 rfl in_X7 (by decide) rfl q390 (Or.inl rfl) dX6_takes_1 k0) (fun h1 => Or.elim h1 (fun h1 => r_get hκ (t := 14) (k := 0) (r := 128) h1 rfl in_X16 (by decide) rfl q390 (Or.inl rfl) dX6_takes_1 k0) (fun h1 => r_get hκ (t := 16) (k := 0) (r := 128) h1 rfl in_X18 (by decide) rfl q390 (Or.inl rfl) dX6_takes_1 k0)))
  exact r_iretH hκ hf h (nar_int _) dX6_takes_4
/-- EditsMeet$Edit.lambda$from$0(LEditsMeet$Part;)I -/
def F_X8_lambda_from_0 (s0 : bS) (a0 : Int) : Option (bS × Int × Int) :=
  bcl (bte (bg s0 0 a0 0 = 6) (F_X6_takes s0 a0) (bte (bg s0 0 a0 0 = 15) (F_X6_takes s0 a0) (bte (bg s0 0 a0 0 = 16) (F_X5_takes s0 a0) (bte (bg s0 0 a0 0 = 17) (F_X6_takes s0 a0) (none))))) fun s1 v1 =>
  some (s1, v1, -1)
set_option maxHeartbeats 4000000 in
set_option maxRecDepth 100000 in
theorem w_X8_lambda_from_0 (Γ0 : bG) (l0 : Launch) {s0 st' : bS} {v xx a0 : Int} (h : F_X8_lambda_from_0 s0 a0 = some (st', v, xx)) : bCx Γ0 l0 yX8_lambda_from_0 (ws_ yX8_lambda_from_0 cX8_lambda_from_0 1 (some .int)) 1 20 (some 0) [(2, a0)] s0 (bEq st' v xx) := by
  refine xb_ent (own := RX8) (by decide +kernel) rfl (Nat.le_of_ble_eq_true rfl) (L := [(0, (2, a0))]) rfl ?_
  intro κ hκ hi ht hf
  unfold F_X8_lambda_from_0 at h
  refine r_aload_n hκ 0 rfl rfl dX8_lambda_from_0_0 ?_
  obtain ⟨s1, v1, h1, h⟩ := bcl_i h
  refine r_seq (A := bJ κ s1 6 [(0, (2, a0))] [(0, v1)]) ?_ (fun k0 => ?_)
  case refine_2 =>
    by_cases h2 : bg s0 0 a0 0 = 6
    · have hq0 := (bte_i h1).1 h2
      exact r_callF hκ (n' := 0) (index := 166) (C := "EditsMeet$Keep") (w_X6_takes Γ0 l0 hq0) (lw_app (lw_l4 q1568 q1578 q929 q138) (lw_meth q934)) (by decide +kernel) (by decide +kernel) (t := 5) h2 rfl rfl (by decide) rfl (Nat.le_of_ble_eq_true rfl) dX8_lambda_from_0_1 k0
    replace h1 := (bte_i h1).2 h2
    by_cases h3 : bg s0 0 a0 0 = 15
    · have hq0 := (bte_i h1).1 h3
      exact r_callF hκ (n' := 0) (index := 166) (C := "EditsMeet$Delete") (w_X6_takes Γ0 l0 hq0) (lw_app (lw_l4 q1568 q1571 q929 q138) (lw_meth q934)) (by decide +kernel) (by decide +kernel) (t := 14) h3 rfl rfl (by decide) rfl (Nat.le_of_ble_eq_true rfl) dX8_lambda_from_0_1 k0
    replace h1 := (bte_i h1).2 h3
    by_cases h4 : bg s0 0 a0 0 = 16
    · have hq0 := (bte_i h1).1 h4
      exact r_callFD hκ (n' := 0) (index := 166) (C := "EditsMeet$Insert") (w_X5_takes Γ0 l0 hq0) (lw_meth q1577) q1568 q1575 q137 (by decide +kernel) (by decide +kernel) (t := 15) h4 rfl rfl (by decide) rfl (Nat.le_of_ble_eq_true rfl) dX8_lambda_from_0_1 k0
    replace h1 := (bte_i h1).2 h4
    by_cases h5 : bg s0 0 a0 0 = 17
    · have hq0 := (bte_i h1).1 h5
      exact r_callF hκ (n' := 0) (index := 166) (C := "EditsMeet$Mark") (w_X6_takes Γ0 l0 hq0) (lw_app (lw_l4 q1568 q1580 q929 q138) (lw_meth q934)) (by decide +kernel) (by decide +kernel) (t := 16) h5 rfl rfl (by decide) rfl (Nat.le_of_ble_eq_true rfl) dX8_lambda_from_0_1 k0
    replace h1 := (bte_i h1).2 h5
    cases h1
  exact x_ret hκ hf (x_P h) (fun κ hκ hf => r_iret hκ hf (nar_int _) dX8_lambda_from_0_6)
/-- EditsMeet$Over.n()I -/
def F_X6_n (s0 : bS) (a0 : Int) : Option (bS × Int) :=
  bck (bg s0 0 a0 0 = 6 ∨ bg s0 0 a0 0 = 15 ∨ bg s0 0 a0 0 = 17) <|
  some (s0, (bg s0 128 a0 0))
set_option maxHeartbeats 4000000 in
set_option maxRecDepth 100000 in
theorem w_X6_n (Γ0 : bG) (l0 : Launch) {s0 st' : bS} {v a0 : Int} (h : F_X6_n s0 a0 = some (st', v)) : bCt Γ0 l0 yX6_n cX6_n 1 (some .int) 0 0 [(2, a0)] s0 st' (some (0, v)) := by
  refine b_ent (own := RX6) (by decide +kernel) rfl (Nat.le_of_ble_eq_true rfl) (L := [(0, (2, a0))]) rfl ?_
  intro κ hκ hi hf
  unfold F_X6_n at h
  refine r_aload_n hκ 0 rfl rfl dX6_n_0 ?_
  obtain ⟨h1, h⟩ := bck_i h
  refine r_seq (A := bJ κ s0 4 [(0, (2, a0))] [(0, (bg s0 128 a0 0))]) ?_ (fun k0 => Or.elim h1 (fun h1 => r_get hκ (t := 5) (k := 0) (r := 128) h1 rfl in_X7 (by decide) rfl q390 (Or.inl rfl) dX6_n_1 k0) (fun h1 => Or.elim h1 (fun h1 => r_get hκ (t := 14) (k := 0) (r := 128) h1 rfl in_X16 (by decide) rfl q390 (Or.inl rfl) dX6_n_1 k0) (fun h1 => r_get hκ (t := 16) (k := 0) (r := 128) h1 rfl in_X18 (by decide) rfl q390 (Or.inl rfl) dX6_n_1 k0)))
  exact r_iretH hκ hf h (nar_int _) dX6_n_4
/-- EditsMeet$Insert.n()I -/
def F_X17_n (s0 : bS) (a0 : Int) : Option (bS × Int) :=
  bck (bg s0 0 a0 0 = 16) <|
  bck (bg s0 0 (bg s0 386 a0 0) 0 = 20) <|
  bcl (F_J2_length s0 (bg s0 386 a0 0)) fun s1 v1 =>
  some (s1, v1)
set_option maxHeartbeats 4000000 in
set_option maxRecDepth 100000 in
theorem w_X17_n (Γ0 : bG) (l0 : Launch) {s0 st' : bS} {v a0 : Int} (h : F_X17_n s0 a0 = some (st', v)) : bCt Γ0 l0 yX17_n cX17_n 1 (some .int) 2 40 [(2, a0)] s0 st' (some (0, v)) := by
  refine b_ent (own := RX17) (by decide +kernel) rfl (Nat.le_of_ble_eq_true rfl) (L := [(0, (2, a0))]) rfl ?_
  intro κ hκ hi hf
  unfold F_X17_n at h
  refine r_aload_n hκ 0 rfl rfl dX17_n_0 ?_
  obtain ⟨h1, h⟩ := bck_i h
  refine r_get hκ (t := 15) (k := 0) (r := 386) h1 rfl in_X17 (by decide) rfl q1317 (Or.inl rfl) dX17_n_1 ?_
  obtain ⟨h2, h⟩ := bck_i h
  obtain ⟨s1, v1, h3, h⟩ := bcl_i h
  refine r_callV hκ (n' := 0) (index := 16) (w_J2_length Γ0 l0 h3) (lw_V q873 q874 q875 q126 q876) (by decide +kernel) (t := 19) h2 rfl rfl (by decide) rfl (Nat.le_of_ble_eq_true rfl) dX17_n_4 ?_
  exact r_iretH hκ hf h (nar_int _) dX17_n_7
/-- EditsMeet$Part.gives()I -/
def F_X5_gives (s0 : bS) (a0 : Int) : Option (bS × Int) :=
  bcl (bte (bg s0 0 a0 0 = 6) (F_X6_n s0 a0) (bte (bg s0 0 a0 0 = 15) (F_X6_n s0 a0) (bte (bg s0 0 a0 0 = 16) (F_X17_n s0 a0) (bte (bg s0 0 a0 0 = 17) (F_X6_n s0 a0) (none))))) fun s1 v1 =>
  some (s1, v1)
set_option maxHeartbeats 4000000 in
set_option maxRecDepth 100000 in
theorem w_X5_gives (Γ0 : bG) (l0 : Launch) {s0 st' : bS} {v a0 : Int} (h : F_X5_gives s0 a0 = some (st', v)) : bCt Γ0 l0 yX5_gives cX5_gives 1 (some .int) 3 60 [(2, a0)] s0 st' (some (0, v)) := by
  refine b_ent (own := RX5) (by decide +kernel) rfl (Nat.le_of_ble_eq_true rfl) (L := [(0, (2, a0))]) rfl ?_
  intro κ hκ hi hf
  unfold F_X5_gives at h
  refine r_aload_n hκ 0 rfl rfl dX5_gives_0 ?_
  obtain ⟨s1, v1, h1, h⟩ := bcl_i h
  refine r_seq (A := bJ κ s1 6 [(0, (2, a0))] [(0, v1)]) ?_ (fun k0 => ?_)
  case refine_2 =>
    by_cases h2 : bg s0 0 a0 0 = 6
    · have hq0 := (bte_i h1).1 h2
      exact r_callF hκ (n' := 0) (index := 1) (C := "EditsMeet$Keep") (w_X6_n Γ0 l0 hq0) (lw_app (lw_l4 q1511 q882 q865 q138) (lw_meth q867)) (by decide +kernel) (by decide +kernel) (t := 5) h2 rfl rfl (by decide) rfl (Nat.le_of_ble_eq_true rfl) dX5_gives_1 k0
    replace h1 := (bte_i h1).2 h2
    by_cases h3 : bg s0 0 a0 0 = 15
    · have hq0 := (bte_i h1).1 h3
      exact r_callF hκ (n' := 0) (index := 1) (C := "EditsMeet$Delete") (w_X6_n Γ0 l0 hq0) (lw_app (lw_l4 q1511 q863 q865 q138) (lw_meth q867)) (by decide +kernel) (by decide +kernel) (t := 14) h3 rfl rfl (by decide) rfl (Nat.le_of_ble_eq_true rfl) dX5_gives_1 k0
    replace h1 := (bte_i h1).2 h3
    by_cases h4 : bg s0 0 a0 0 = 16
    · have hq0 := (bte_i h1).1 h4
      exact r_callF hκ (n' := 0) (index := 1) (C := "EditsMeet$Insert") (w_X17_n Γ0 l0 hq0) (lw_app (lw_l4 q1511 q868 q870 q165) (lw_meth q872)) (by decide +kernel) (by decide +kernel) (t := 15) h4 rfl rfl (by decide) rfl (Nat.le_of_ble_eq_true rfl) dX5_gives_1 k0
    replace h1 := (bte_i h1).2 h4
    by_cases h5 : bg s0 0 a0 0 = 17
    · have hq0 := (bte_i h1).1 h5
      exact r_callF hκ (n' := 0) (index := 1) (C := "EditsMeet$Mark") (w_X6_n Γ0 l0 hq0) (lw_app (lw_l4 q1511 q884 q865 q138) (lw_meth q867)) (by decide +kernel) (by decide +kernel) (t := 16) h5 rfl rfl (by decide) rfl (Nat.le_of_ble_eq_true rfl) dX5_gives_1 k0
    replace h1 := (bte_i h1).2 h5
    cases h1
  exact r_iretH hκ hf h (nar_int _) dX5_gives_6
/-- EditsMeet$Delete.gives()I -/
def F_X16_gives (s0 : bS) (a0 : Int) : Option (bS × Int) :=
  some (s0, 0)
set_option maxHeartbeats 4000000 in
set_option maxRecDepth 100000 in
theorem w_X16_gives (Γ0 : bG) (l0 : Launch) {s0 st' : bS} {v a0 : Int} (h : F_X16_gives s0 a0 = some (st', v)) : bCt Γ0 l0 yX16_gives cX16_gives 1 (some .int) 0 0 [(2, a0)] s0 st' (some (0, v)) := by
  refine b_ent (own := RX16) (by decide +kernel) rfl (Nat.le_of_ble_eq_true rfl) (L := [(0, (2, a0))]) rfl ?_
  intro κ hκ hi hf
  unfold F_X16_gives at h
  refine r_iconst hκ dX16_gives_0 ?_
  exact r_iretH hκ hf h (nar_int _) dX16_gives_1
/-- EditsMeet$Edit.lambda$to$1(LEditsMeet$Part;)I -/
def F_X8_lambda_to_1 (s0 : bS) (a0 : Int) : Option (bS × Int × Int) :=
  bcl (bte (bg s0 0 a0 0 = 6) (F_X5_gives s0 a0) (bte (bg s0 0 a0 0 = 15) (F_X16_gives s0 a0) (bte (bg s0 0 a0 0 = 16) (F_X5_gives s0 a0) (bte (bg s0 0 a0 0 = 17) (F_X5_gives s0 a0) (none))))) fun s1 v1 =>
  some (s1, v1, -1)
set_option maxHeartbeats 4000000 in
set_option maxRecDepth 100000 in
theorem w_X8_lambda_to_1 (Γ0 : bG) (l0 : Launch) {s0 st' : bS} {v xx a0 : Int} (h : F_X8_lambda_to_1 s0 a0 = some (st', v, xx)) : bCx Γ0 l0 yX8_lambda_to_1 (ws_ yX8_lambda_to_1 cX8_lambda_to_1 1 (some .int)) 4 80 (some 0) [(2, a0)] s0 (bEq st' v xx) := by
  refine xb_ent (own := RX8) (by decide +kernel) rfl (Nat.le_of_ble_eq_true rfl) (L := [(0, (2, a0))]) rfl ?_
  intro κ hκ hi ht hf
  unfold F_X8_lambda_to_1 at h
  refine r_aload_n hκ 0 rfl rfl dX8_lambda_to_1_0 ?_
  obtain ⟨s1, v1, h1, h⟩ := bcl_i h
  refine r_seq (A := bJ κ s1 6 [(0, (2, a0))] [(0, v1)]) ?_ (fun k0 => ?_)
  case refine_2 =>
    by_cases h2 : bg s0 0 a0 0 = 6
    · have hq0 := (bte_i h1).1 h2
      exact r_callFD hκ (n' := 0) (index := 169) (C := "EditsMeet$Keep") (w_X5_gives Γ0 l0 hq0) (lw_meth q1509) q1597 q1507 q137 (by decide +kernel) (by decide +kernel) (t := 5) h2 rfl rfl (by decide) rfl (Nat.le_of_ble_eq_true rfl) dX8_lambda_to_1_1 k0
    replace h1 := (bte_i h1).2 h2
    by_cases h3 : bg s0 0 a0 0 = 15
    · have hq0 := (bte_i h1).1 h3
      exact r_callF hκ (n' := 0) (index := 169) (C := "EditsMeet$Delete") (w_X16_gives Γ0 l0 hq0) (lw_app (lw_l4 q1597 q1501 q1503 q164) (lw_meth q1505)) (by decide +kernel) (by decide +kernel) (t := 14) h3 rfl rfl (by decide) rfl (Nat.le_of_ble_eq_true rfl) dX8_lambda_to_1_1 k0
    replace h1 := (bte_i h1).2 h3
    by_cases h4 : bg s0 0 a0 0 = 16
    · have hq0 := (bte_i h1).1 h4
      exact r_callFD hκ (n' := 0) (index := 169) (C := "EditsMeet$Insert") (w_X5_gives Γ0 l0 hq0) (lw_meth q1509) q1597 q1507 q137 (by decide +kernel) (by decide +kernel) (t := 15) h4 rfl rfl (by decide) rfl (Nat.le_of_ble_eq_true rfl) dX8_lambda_to_1_1 k0
    replace h1 := (bte_i h1).2 h4
    by_cases h5 : bg s0 0 a0 0 = 17
    · have hq0 := (bte_i h1).1 h5
      exact r_callFD hκ (n' := 0) (index := 169) (C := "EditsMeet$Mark") (w_X5_gives Γ0 l0 hq0) (lw_meth q1509) q1597 q1507 q137 (by decide +kernel) (by decide +kernel) (t := 16) h5 rfl rfl (by decide) rfl (Nat.le_of_ble_eq_true rfl) dX8_lambda_to_1_1 k0
    replace h1 := (bte_i h1).2 h5
    cases h1
  exact x_ret hκ hf (x_P h) (fun κ hκ hf => r_iret hκ hf (nar_int _) dX8_lambda_to_1_6)
/-- EditsMeet$Part.inserts()Z -/
def F_X5_inserts (s0 : bS) (a0 : Int) : Option (bS × Int) :=
  bcl (bte (bg s0 0 a0 0 = 6) (F_X6_takes s0 a0) (bte (bg s0 0 a0 0 = 15) (F_X6_takes s0 a0) (bte (bg s0 0 a0 0 = 16) (F_X5_takes s0 a0) (bte (bg s0 0 a0 0 = 17) (F_X6_takes s0 a0) (none))))) fun s1 v1 =>
  bte (i32 v1 = 0)
  (some (s1, 1))
  (some (s1, 0))
set_option maxHeartbeats 4000000 in
set_option maxRecDepth 100000 in
theorem w_X5_inserts (Γ0 : bG) (l0 : Launch) {s0 st' : bS} {v a0 : Int} (h : F_X5_inserts s0 a0 = some (st', v)) : bCt Γ0 l0 yX5_inserts cX5_inserts 1 (some .boolean) 1 20 [(2, a0)] s0 st' (some (0, v)) := by
  refine b_ent (own := RX5) (by decide +kernel) rfl (Nat.le_of_ble_eq_true rfl) (L := [(0, (2, a0))]) rfl ?_
  intro κ hκ hi hf
  unfold F_X5_inserts at h
  refine r_aload_n hκ 0 rfl rfl dX5_inserts_0 ?_
  obtain ⟨s1, v1, h1, h⟩ := bcl_i h
  refine r_seq (A := bJ κ s1 6 [(0, (2, a0))] [(0, v1)]) ?_ (fun k0 => ?_)
  case refine_2 =>
    by_cases h2 : bg s0 0 a0 0 = 6
    · have hq0 := (bte_i h1).1 h2
      exact r_callF hκ (n' := 0) (index := 7) (C := "EditsMeet$Keep") (w_X6_takes Γ0 l0 hq0) (lw_app (lw_l4 q1609 q1578 q929 q138) (lw_meth q934)) (by decide +kernel) (by decide +kernel) (t := 5) h2 rfl rfl (by decide) rfl (Nat.le_of_ble_eq_true rfl) dX5_inserts_1 k0
    replace h1 := (bte_i h1).2 h2
    by_cases h3 : bg s0 0 a0 0 = 15
    · have hq0 := (bte_i h1).1 h3
      exact r_callF hκ (n' := 0) (index := 7) (C := "EditsMeet$Delete") (w_X6_takes Γ0 l0 hq0) (lw_app (lw_l4 q1609 q1571 q929 q138) (lw_meth q934)) (by decide +kernel) (by decide +kernel) (t := 14) h3 rfl rfl (by decide) rfl (Nat.le_of_ble_eq_true rfl) dX5_inserts_1 k0
    replace h1 := (bte_i h1).2 h3
    by_cases h4 : bg s0 0 a0 0 = 16
    · have hq0 := (bte_i h1).1 h4
      exact r_callFD hκ (n' := 0) (index := 7) (C := "EditsMeet$Insert") (w_X5_takes Γ0 l0 hq0) (lw_meth q1577) q1609 q1575 q137 (by decide +kernel) (by decide +kernel) (t := 15) h4 rfl rfl (by decide) rfl (Nat.le_of_ble_eq_true rfl) dX5_inserts_1 k0
    replace h1 := (bte_i h1).2 h4
    by_cases h5 : bg s0 0 a0 0 = 17
    · have hq0 := (bte_i h1).1 h5
      exact r_callF hκ (n' := 0) (index := 7) (C := "EditsMeet$Mark") (w_X6_takes Γ0 l0 hq0) (lw_app (lw_l4 q1609 q1580 q929 q138) (lw_meth q934)) (by decide +kernel) (by decide +kernel) (t := 16) h5 rfl rfl (by decide) rfl (Nat.le_of_ble_eq_true rfl) dX5_inserts_1 k0
    replace h1 := (bte_i h1).2 h5
    cases h1
  refine r_if_ne hκ (tgt := 13) (by decide) dX5_inserts_6 (fun h6 => ?_) (fun h6 => ?_)
  · replace h := (bte_i h).2 h6
    refine r_iconst hκ dX5_inserts_13 ?_
    exact r_iretH hκ hf h (nar_bool (by decide)) dX5_inserts_14
  · replace h := (bte_i h).1 h6
    refine r_iconst hκ dX5_inserts_9 ?_
    refine r_goto hκ (tgt := 14) (by decide) dX5_inserts_10 ?_
    exact r_iretH hκ hf h (nar_bool (by decide)) dX5_inserts_14
/-- EditsMeet$Part.deletes()Z -/
def F_X5_deletes (s0 : bS) (a0 : Int) : Option (bS × Int) :=
  bcl (bte (bg s0 0 a0 0 = 6) (F_X5_gives s0 a0) (bte (bg s0 0 a0 0 = 15) (F_X16_gives s0 a0) (bte (bg s0 0 a0 0 = 16) (F_X5_gives s0 a0) (bte (bg s0 0 a0 0 = 17) (F_X5_gives s0 a0) (none))))) fun s1 v1 =>
  bte (i32 v1 = 0)
  (some (s1, 1))
  (some (s1, 0))
set_option maxHeartbeats 4000000 in
set_option maxRecDepth 100000 in
theorem w_X5_deletes (Γ0 : bG) (l0 : Launch) {s0 st' : bS} {v a0 : Int} (h : F_X5_deletes s0 a0 = some (st', v)) : bCt Γ0 l0 yX5_deletes cX5_deletes 1 (some .boolean) 4 80 [(2, a0)] s0 st' (some (0, v)) := by
  refine b_ent (own := RX5) (by decide +kernel) rfl (Nat.le_of_ble_eq_true rfl) (L := [(0, (2, a0))]) rfl ?_
  intro κ hκ hi hf
  unfold F_X5_deletes at h
  refine r_aload_n hκ 0 rfl rfl dX5_deletes_0 ?_
  obtain ⟨s1, v1, h1, h⟩ := bcl_i h
  refine r_seq (A := bJ κ s1 6 [(0, (2, a0))] [(0, v1)]) ?_ (fun k0 => ?_)
  case refine_2 =>
    by_cases h2 : bg s0 0 a0 0 = 6
    · have hq0 := (bte_i h1).1 h2
      exact r_callFD hκ (n' := 0) (index := 10) (C := "EditsMeet$Keep") (w_X5_gives Γ0 l0 hq0) (lw_meth q1509) q1498 q1507 q137 (by decide +kernel) (by decide +kernel) (t := 5) h2 rfl rfl (by decide) rfl (Nat.le_of_ble_eq_true rfl) dX5_deletes_1 k0
    replace h1 := (bte_i h1).2 h2
    by_cases h3 : bg s0 0 a0 0 = 15
    · have hq0 := (bte_i h1).1 h3
      exact r_callF hκ (n' := 0) (index := 10) (C := "EditsMeet$Delete") (w_X16_gives Γ0 l0 hq0) (lw_app (lw_l4 q1498 q1501 q1503 q164) (lw_meth q1505)) (by decide +kernel) (by decide +kernel) (t := 14) h3 rfl rfl (by decide) rfl (Nat.le_of_ble_eq_true rfl) dX5_deletes_1 k0
    replace h1 := (bte_i h1).2 h3
    by_cases h4 : bg s0 0 a0 0 = 16
    · have hq0 := (bte_i h1).1 h4
      exact r_callFD hκ (n' := 0) (index := 10) (C := "EditsMeet$Insert") (w_X5_gives Γ0 l0 hq0) (lw_meth q1509) q1498 q1507 q137 (by decide +kernel) (by decide +kernel) (t := 15) h4 rfl rfl (by decide) rfl (Nat.le_of_ble_eq_true rfl) dX5_deletes_1 k0
    replace h1 := (bte_i h1).2 h4
    by_cases h5 : bg s0 0 a0 0 = 17
    · have hq0 := (bte_i h1).1 h5
      exact r_callFD hκ (n' := 0) (index := 10) (C := "EditsMeet$Mark") (w_X5_gives Γ0 l0 hq0) (lw_meth q1509) q1498 q1507 q137 (by decide +kernel) (by decide +kernel) (t := 16) h5 rfl rfl (by decide) rfl (Nat.le_of_ble_eq_true rfl) dX5_deletes_1 k0
    replace h1 := (bte_i h1).2 h5
    cases h1
  refine r_if_ne hκ (tgt := 13) (by decide) dX5_deletes_6 (fun h6 => ?_) (fun h6 => ?_)
  · replace h := (bte_i h).2 h6
    refine r_iconst hκ dX5_deletes_13 ?_
    exact r_iretH hκ hf h (nar_bool (by decide)) dX5_deletes_14
  · replace h := (bte_i h).1 h6
    refine r_iconst hκ dX5_deletes_9 ?_
    refine r_goto hκ (tgt := 14) (by decide) dX5_deletes_10 ?_
    exact r_iretH hκ hf h (nar_bool (by decide)) dX5_deletes_14
/-- EditsMeet$Part.on()I -/
def F_X5_on (s0 : bS) (a0 : Int) : Option (bS × Int) :=
  some (s0, 0)
set_option maxHeartbeats 4000000 in
set_option maxRecDepth 100000 in
theorem w_X5_on (Γ0 : bG) (l0 : Launch) {s0 st' : bS} {v a0 : Int} (h : F_X5_on s0 a0 = some (st', v)) : bCt Γ0 l0 yX5_on cX5_on 1 (some .int) 0 0 [(2, a0)] s0 st' (some (0, v)) := by
  refine b_ent (own := RX5) (by decide +kernel) rfl (Nat.le_of_ble_eq_true rfl) (L := [(0, (2, a0))]) rfl ?_
  intro κ hκ hi hf
  unfold F_X5_on at h
  refine r_iconst hκ dX5_on_0 ?_
  exact r_iretH hκ hf h (nar_int _) dX5_on_1
/-- EditsMeet$Mark.on()I -/
def F_X18_on (s0 : bS) (a0 : Int) : Option (bS × Int) :=
  bck (bg s0 0 a0 0 = 17) <|
  some (s0, (bg s0 392 a0 0))
set_option maxHeartbeats 4000000 in
set_option maxRecDepth 100000 in
theorem w_X18_on (Γ0 : bG) (l0 : Launch) {s0 st' : bS} {v a0 : Int} (h : F_X18_on s0 a0 = some (st', v)) : bCt Γ0 l0 yX18_on cX18_on 1 (some .int) 0 0 [(2, a0)] s0 st' (some (0, v)) := by
  refine b_ent (own := RX18) (by decide +kernel) rfl (Nat.le_of_ble_eq_true rfl) (L := [(0, (2, a0))]) rfl ?_
  intro κ hκ hi hf
  unfold F_X18_on at h
  refine r_aload_n hκ 0 rfl rfl dX18_on_0 ?_
  obtain ⟨h1, h⟩ := bck_i h
  refine r_get hκ (t := 16) (k := 1) (r := 392) h1 rfl in_X18 (by decide) rfl q1346 (Or.inl rfl) dX18_on_1 ?_
  exact r_iretH hκ hf h (nar_int _) dX18_on_4
/-- EditsMeet$Part.off()I -/
def F_X5_off (s0 : bS) (a0 : Int) : Option (bS × Int) :=
  some (s0, 0)
set_option maxHeartbeats 4000000 in
set_option maxRecDepth 100000 in
theorem w_X5_off (Γ0 : bG) (l0 : Launch) {s0 st' : bS} {v a0 : Int} (h : F_X5_off s0 a0 = some (st', v)) : bCt Γ0 l0 yX5_off cX5_off 1 (some .int) 0 0 [(2, a0)] s0 st' (some (0, v)) := by
  refine b_ent (own := RX5) (by decide +kernel) rfl (Nat.le_of_ble_eq_true rfl) (L := [(0, (2, a0))]) rfl ?_
  intro κ hκ hi hf
  unfold F_X5_off at h
  refine r_iconst hκ dX5_off_0 ?_
  exact r_iretH hκ hf h (nar_int _) dX5_off_1
/-- EditsMeet$Mark.off()I -/
def F_X18_off (s0 : bS) (a0 : Int) : Option (bS × Int) :=
  bck (bg s0 0 a0 0 = 17) <|
  some (s0, (bg s0 396 a0 0))
set_option maxHeartbeats 4000000 in
set_option maxRecDepth 100000 in
theorem w_X18_off (Γ0 : bG) (l0 : Launch) {s0 st' : bS} {v a0 : Int} (h : F_X18_off s0 a0 = some (st', v)) : bCt Γ0 l0 yX18_off cX18_off 1 (some .int) 0 0 [(2, a0)] s0 st' (some (0, v)) := by
  refine b_ent (own := RX18) (by decide +kernel) rfl (Nat.le_of_ble_eq_true rfl) (L := [(0, (2, a0))]) rfl ?_
  intro κ hκ hi hf
  unfold F_X18_off at h
  refine r_aload_n hκ 0 rfl rfl dX18_off_0 ?_
  obtain ⟨h1, h⟩ := bck_i h
  refine r_get hκ (t := 16) (k := 2) (r := 396) h1 rfl in_X18 (by decide) rfl q1347 (Or.inl rfl) dX18_off_1 ?_
  exact r_iretH hκ hf h (nar_int _) dX18_off_4
/-- EditsMeet$Insert.letter(I)I -/
def F_X17_letter (s0 : bS) (a0 a1 : Int) : Option (bS × Int) :=
  bck (bg s0 0 a0 0 = 16) <|
  bck (bg s0 0 (bg s0 386 a0 0) 0 = 20) <|
  bcl (F_J2_charAt s0 (bg s0 386 a0 0) a1) fun s1 v1 =>
  some (s1, (v1 - 97))
set_option maxHeartbeats 4000000 in
set_option maxRecDepth 100000 in
theorem w_X17_letter (Γ0 : bG) (l0 : Launch) {s0 st' : bS} {v a0 a1 : Int} (h : F_X17_letter s0 a0 a1 = some (st', v)) : bCt Γ0 l0 yX17_letter cX17_letter 2 (some .int) 4 85 [(2, a0), (0, a1)] s0 st' (some (0, v)) := by
  refine b_ent (own := RX17) (by decide +kernel) rfl (Nat.le_of_ble_eq_true rfl) (L := [(0, (2, a0)), (1, (0, a1))]) rfl ?_
  intro κ hκ hi hf
  unfold F_X17_letter at h
  refine r_aload_n hκ 0 rfl rfl dX17_letter_0 ?_
  obtain ⟨h1, h⟩ := bck_i h
  refine r_get hκ (t := 15) (k := 0) (r := 386) h1 rfl in_X17 (by decide) rfl q1317 (Or.inl rfl) dX17_letter_1 ?_
  refine r_iload_n hκ 1 rfl rfl dX17_letter_4 ?_
  obtain ⟨h2, h⟩ := bck_i h
  obtain ⟨s1, v1, h3, h⟩ := bcl_i h
  refine r_callV hκ (n' := 1) (index := 49) (w_J2_charAt Γ0 l0 h3) (lw_V q891 q892 q893 q126 q894) (by decide +kernel) (t := 19) h2 rfl rfl (by decide) rfl (Nat.le_of_ble_eq_true rfl) dX17_letter_5 ?_
  refine r_bipush hκ (by decide) dX17_letter_8 ?_
  refine r_isub hκ dX17_letter_10 ?_
  exact r_iretH hκ hf h (nar_int _) dX17_letter_11
/-- EditsMeet$Insert.mark(I)I -/
def F_X17_mark (s0 : bS) (a0 a1 : Int) : Option (bS × Int) :=
  bck (bg s0 0 a0 0 = 16) <|
  bck (bg s0 0 (bg s0 390 a0 0) 0 = 20) <|
  bcl (F_J2_charAt s0 (bg s0 390 a0 0) a1) fun s1 v1 =>
  some (s1, v1)
set_option maxHeartbeats 4000000 in
set_option maxRecDepth 100000 in
theorem w_X17_mark (Γ0 : bG) (l0 : Launch) {s0 st' : bS} {v a0 a1 : Int} (h : F_X17_mark s0 a0 a1 = some (st', v)) : bCt Γ0 l0 yX17_mark cX17_mark 2 (some .int) 4 85 [(2, a0), (0, a1)] s0 st' (some (0, v)) := by
  refine b_ent (own := RX17) (by decide +kernel) rfl (Nat.le_of_ble_eq_true rfl) (L := [(0, (2, a0)), (1, (0, a1))]) rfl ?_
  intro κ hκ hi hf
  unfold F_X17_mark at h
  refine r_aload_n hκ 0 rfl rfl dX17_mark_0 ?_
  obtain ⟨h1, h⟩ := bck_i h
  refine r_get hκ (t := 15) (k := 1) (r := 390) h1 rfl in_X17 (by decide) rfl q1320 (Or.inl rfl) dX17_mark_1 ?_
  refine r_iload_n hκ 1 rfl rfl dX17_mark_4 ?_
  obtain ⟨h2, h⟩ := bck_i h
  obtain ⟨s1, v1, h3, h⟩ := bcl_i h
  refine r_callV hκ (n' := 1) (index := 49) (w_J2_charAt Γ0 l0 h3) (lw_V q891 q892 q893 q126 q894) (by decide +kernel) (t := 19) h2 rfl rfl (by decide) rfl (Nat.le_of_ble_eq_true rfl) dX17_mark_5 ?_
  exact r_iretH hκ hf h (nar_int _) dX17_mark_8
/-- EditsMeet$Goes.along(LEditsMeet$Edit;)LEditsMeet$Goes; -/
def F_X4_along (s0 : bS) (a0 a1 : Int) : Option (bS × Int) :=
  bck ((bg s0 0 a0 0 = 5)) <|
  bst (bw s0 118 a0 0 a1) fun s1 =>
  bck ((bg s1 0 a0 0 = 5)) <|
  bst (bw s1 120 a0 0 0) fun s2 =>
  bck ((bg s2 0 a0 0 = 5)) <|
  bst (bw s2 124 a0 0 0) fun s3 =>
  some (s3, a0)
set_option maxHeartbeats 4000000 in
set_option maxRecDepth 100000 in
theorem w_X4_along (Γ0 : bG) (l0 : Launch) {s0 st' : bS} {v a0 a1 : Int} (h : F_X4_along s0 a0 a1 = some (st', v)) : bCt Γ0 l0 yX4_along cX4_along 2 (some (.object "EditsMeet$Goes")) 0 0 [(2, a0), (2, a1)] s0 st' (some (2, v)) := by
  refine b_ent (own := RX4) (by decide +kernel) rfl (Nat.le_of_ble_eq_true rfl) (L := [(0, (2, a0)), (1, (2, a1))]) rfl ?_
  intro κ hκ hi hf
  unfold F_X4_along at h
  refine r_aload_n hκ 0 rfl rfl dX4_along_0 ?_
  refine r_aload_n hκ 1 rfl rfl dX4_along_1 ?_
  obtain ⟨h1, h⟩ := bck_i h
  refine r_put hκ (t := 4) (k := 0) (r := 118) (ty := (.object "EditsMeet$Edit")) tyX4 tyX4_ok nmX4 h1 rfl in_X4 (by decide) rfl q368 (Or.inl rfl) rfl rfl rfl trivial (Or.inl (by decide)) dX4_along_2 (fun s1 es1 => ?_)
  replace h := bst_i h s1 es1
  refine r_aload_n hκ 0 rfl rfl dX4_along_5 ?_
  refine r_iconst hκ dX4_along_6 ?_
  obtain ⟨h2, h⟩ := bck_i h
  refine r_put hκ (t := 4) (k := 1) (r := 120) (ty := .int) tyX4 tyX4_ok nmX4 h2 rfl in_X4 (by decide) rfl q369 (Or.inl rfl) rfl rfl rfl trivial (Or.inl (by decide)) dX4_along_7 (fun s2 es2 => ?_)
  replace h := bst_i h s2 es2
  refine r_aload_n hκ 0 rfl rfl dX4_along_10 ?_
  refine r_iconst hκ dX4_along_11 ?_
  obtain ⟨h3, h⟩ := bck_i h
  refine r_put hκ (t := 4) (k := 2) (r := 124) (ty := .int) tyX4 tyX4_ok nmX4 h3 rfl in_X4 (by decide) rfl q370 (Or.inl rfl) rfl rfl rfl trivial (Or.inl (by decide)) dX4_along_12 (fun s3 es3 => ?_)
  replace h := bst_i h s3 es3
  refine r_aload_n hκ 0 rfl rfl dX4_along_15 ?_
  exact r_aretH hκ hf h rt_o dX4_along_16
/-- EditsMeet$Edit.iterator()Ljava/util/Iterator; -/
def F_X8_iterator (s0 : bS) (a0 : Int) : Option (bS × Int) :=
  bck (bc s0 + 1 ≤ bCM ∧ bk s0 + 3 ≤ bKM) <|
  bst (bnw s0 5 0 3) fun s1 =>
  bck (bg s1 0 (bnx s0 : Int) 0 = 5) <|
  bcl (F_X4_init s1 (bnx s0 : Int)) fun s2 v1 =>
  bck (bg s2 0 (bnx s0 : Int) 0 = 5) <|
  bcl (F_X4_along s2 (bnx s0 : Int) a0) fun s3 v2 =>
  some (s3, v2)
set_option maxHeartbeats 4000000 in
set_option maxRecDepth 100000 in
theorem w_X8_iterator (Γ0 : bG) (l0 : Launch) {s0 st' : bS} {v a0 : Int} (h : F_X8_iterator s0 a0 = some (st', v)) : bCt Γ0 l0 yX8_iterator cX8_iterator 1 (some (.object "java/util/Iterator")) 2 40 [(2, a0)] s0 st' (some (2, v)) := by
  refine b_ent (own := RX8) (by decide +kernel) rfl (Nat.le_of_ble_eq_true rfl) (L := [(0, (2, a0))]) rfl ?_
  intro κ hκ hi hf
  unfold F_X8_iterator at h
  obtain ⟨h1, h⟩ := bck_i h
  refine r_new hκ (t := 4) tyX4 tyX4_ok dfX4 rfl in_X4 q1665 q363 q136 h1 dX8_iterator_0 (fun s1 es1 => ?_)
  replace h := bst_i h s1 es1
  refine r_dup hκ (bd_cat2k _) dX8_iterator_3 ?_
  obtain ⟨h2, h⟩ := bck_i h
  obtain ⟨s2, v1, h3, h⟩ := bcl_i h
  refine r_callIN hκ (n' := 0) (host := "EditsMeet") (index := 20) (w_X4_init Γ0 l0 h3) (lw_meth q366) (by decide +kernel) q136 (by decide +kernel) q365 rfl (t := 4) h2 rfl rfl (by decide) rfl (Nat.le_of_ble_eq_true rfl) dX8_iterator_4 ?_
  refine r_aload_n hκ 0 rfl rfl dX8_iterator_7 ?_
  obtain ⟨h4, h⟩ := bck_i h
  obtain ⟨s3, v2, h5, h⟩ := bcl_i h
  refine r_callV hκ (n' := 1) (index := 21) (w_X4_along Γ0 l0 h5) (lw_V q1667 q1668 q1669 q136 q1670) (by decide +kernel) (t := 4) h4 rfl rfl (by decide) rfl (Nat.le_of_ble_eq_true rfl) dX8_iterator_8 ?_
  exact r_aretH hκ hf h rt_o dX8_iterator_11
/-- EditsMeet$Goes.hasNext()Z -/
def F_X4_hasNext (s0 : bS) (a0 : Int) : Option (bS × Int) :=
  bck (bg s0 0 a0 0 = 5) <|
  bck (bg s0 0 a0 0 = 5) <|
  bck (bg s0 0 (bg s0 118 a0 0) 0 = 7) <|
  bcl (F_X8_many s0 (bg s0 118 a0 0)) fun s1 v1 =>
  bte (i32 v1 ≤ i32 (bg s0 120 a0 0))
  (some (s1, 0))
  (some (s1, 1))
set_option maxHeartbeats 4000000 in
set_option maxRecDepth 100000 in
theorem w_X4_hasNext (Γ0 : bG) (l0 : Launch) {s0 st' : bS} {v a0 : Int} (h : F_X4_hasNext s0 a0 = some (st', v)) : bCt Γ0 l0 yX4_hasNext cX4_hasNext 1 (some .boolean) 2 40 [(2, a0)] s0 st' (some (0, v)) := by
  refine b_ent (own := RX4) (by decide +kernel) rfl (Nat.le_of_ble_eq_true rfl) (L := [(0, (2, a0))]) rfl ?_
  intro κ hκ hi hf
  unfold F_X4_hasNext at h
  refine r_aload_n hκ 0 rfl rfl dX4_hasNext_0 ?_
  obtain ⟨h1, h⟩ := bck_i h
  refine r_get hκ (t := 4) (k := 1) (r := 120) h1 rfl in_X4 (by decide) rfl q369 (Or.inl rfl) dX4_hasNext_1 ?_
  refine r_aload_n hκ 0 rfl rfl dX4_hasNext_4 ?_
  obtain ⟨h2, h⟩ := bck_i h
  refine r_get hκ (t := 4) (k := 0) (r := 118) h2 rfl in_X4 (by decide) rfl q368 (Or.inl rfl) dX4_hasNext_5 ?_
  obtain ⟨h3, h⟩ := bck_i h
  obtain ⟨s1, v1, h4, h⟩ := bcl_i h
  refine r_callV hκ (n' := 0) (index := 20) (w_X8_many Γ0 l0 h4) (lw_V q1681 q807 q808 q140 q809) (by decide +kernel) (t := 6) h3 rfl rfl (by decide) rfl (Nat.le_of_ble_eq_true rfl) dX4_hasNext_8 ?_
  refine r_icmp_ge hκ (tgt := 18) (by decide) dX4_hasNext_11 (fun h5 => ?_) (fun h5 => ?_)
  · replace h := (bte_i h).1 h5
    refine r_iconst hκ dX4_hasNext_18 ?_
    exact r_iretH hκ hf h (nar_bool (by decide)) dX4_hasNext_19
  · replace h := (bte_i h).2 h5
    refine r_iconst hκ dX4_hasNext_14 ?_
    refine r_goto hκ (tgt := 19) (by decide) dX4_hasNext_15 ?_
    exact r_iretH hκ hf h (nar_bool (by decide)) dX4_hasNext_19
/-- EditsMeet$Goes.here()LEditsMeet$Part; -/
def F_X4_here (s0 : bS) (a0 : Int) : Option (bS × Int) :=
  bck (bg s0 0 a0 0 = 5) <|
  bck (bg s0 0 a0 0 = 5) <|
  bck (bg s0 0 (bg s0 118 a0 0) 0 = 7) <|
  bcl (F_X8_get s0 (bg s0 118 a0 0) (bg s0 120 a0 0)) fun s1 v1 =>
  some (s1, v1)
set_option maxHeartbeats 4000000 in
set_option maxRecDepth 100000 in
theorem w_X4_here (Γ0 : bG) (l0 : Launch) {s0 st' : bS} {v a0 : Int} (h : F_X4_here s0 a0 = some (st', v)) : bCt Γ0 l0 yX4_here cX4_here 1 (some (.object "EditsMeet$Part")) 4 85 [(2, a0)] s0 st' (some (2, v)) := by
  refine b_ent (own := RX4) (by decide +kernel) rfl (Nat.le_of_ble_eq_true rfl) (L := [(0, (2, a0))]) rfl ?_
  intro κ hκ hi hf
  unfold F_X4_here at h
  refine r_aload_n hκ 0 rfl rfl dX4_here_0 ?_
  obtain ⟨h1, h⟩ := bck_i h
  refine r_get hκ (t := 4) (k := 0) (r := 118) h1 rfl in_X4 (by decide) rfl q368 (Or.inl rfl) dX4_here_1 ?_
  refine r_aload_n hκ 0 rfl rfl dX4_here_4 ?_
  obtain ⟨h2, h⟩ := bck_i h
  refine r_get hκ (t := 4) (k := 1) (r := 120) h2 rfl in_X4 (by decide) rfl q369 (Or.inl rfl) dX4_here_5 ?_
  obtain ⟨h3, h⟩ := bck_i h
  obtain ⟨s1, v1, h4, h⟩ := bcl_i h
  refine r_callV hκ (n' := 1) (index := 26) (w_X8_get Γ0 l0 h4) (lw_V q1738 q815 q816 q140 q817) (by decide +kernel) (t := 6) h3 rfl rfl (by decide) rfl (Nat.le_of_ble_eq_true rfl) dX4_here_8 ?_
  exact r_aretH hκ hf h rt_o dX4_here_11
/-- EditsMeet$Goes.left()I -/
def F_X4_left (s0 : bS) (a0 : Int) : Option (bS × Int) :=
  bck (bg s0 0 a0 0 = 5) <|
  bcl (F_X4_here s0 a0) fun s1 v1 =>
  bcl (bte (bg s1 0 v1 0 = 6) (F_X6_n s1 v1) (bte (bg s1 0 v1 0 = 15) (F_X6_n s1 v1) (bte (bg s1 0 v1 0 = 16) (F_X17_n s1 v1) (bte (bg s1 0 v1 0 = 17) (F_X6_n s1 v1) (none))))) fun s2 v2 =>
  bck (bg s2 0 a0 0 = 5) <|
  some (s2, (v2 - (bg s2 124 a0 0)))
set_option maxHeartbeats 4000000 in
set_option maxRecDepth 100000 in
theorem w_X4_left (Γ0 : bG) (l0 : Launch) {s0 st' : bS} {v a0 : Int} (h : F_X4_left s0 a0 = some (st', v)) : bCt Γ0 l0 yX4_left cX4_left 1 (some .int) 5 105 [(2, a0)] s0 st' (some (0, v)) := by
  refine b_ent (own := RX4) (by decide +kernel) rfl (Nat.le_of_ble_eq_true rfl) (L := [(0, (2, a0))]) rfl ?_
  intro κ hκ hi hf
  unfold F_X4_left at h
  refine r_aload_n hκ 0 rfl rfl dX4_left_0 ?_
  obtain ⟨h1, h⟩ := bck_i h
  obtain ⟨s1, v1, h2, h⟩ := bcl_i h
  refine r_callV hκ (n' := 0) (index := 34) (w_X4_here Γ0 l0 h2) (lw_V q1734 q1735 q1736 q136 q1737) (by decide +kernel) (t := 4) h1 rfl rfl (by decide) rfl (Nat.le_of_ble_eq_true rfl) dX4_left_1 ?_
  obtain ⟨s2, v2, h3, h⟩ := bcl_i h
  refine r_seq (A := bJ κ s2 9 [(0, (2, a0))] [(0, v2)]) ?_ (fun k0 => ?_)
  case refine_2 =>
    by_cases h4 : bg s1 0 v1 0 = 6
    · have hq0 := (bte_i h3).1 h4
      exact r_callF hκ (n' := 0) (index := 46) (C := "EditsMeet$Keep") (w_X6_n Γ0 l0 hq0) (lw_app (lw_l4 q1740 q882 q865 q138) (lw_meth q867)) (by decide +kernel) (by decide +kernel) (t := 5) h4 rfl rfl (by decide) rfl (Nat.le_of_ble_eq_true rfl) dX4_left_4 k0
    replace h3 := (bte_i h3).2 h4
    by_cases h5 : bg s1 0 v1 0 = 15
    · have hq0 := (bte_i h3).1 h5
      exact r_callF hκ (n' := 0) (index := 46) (C := "EditsMeet$Delete") (w_X6_n Γ0 l0 hq0) (lw_app (lw_l4 q1740 q863 q865 q138) (lw_meth q867)) (by decide +kernel) (by decide +kernel) (t := 14) h5 rfl rfl (by decide) rfl (Nat.le_of_ble_eq_true rfl) dX4_left_4 k0
    replace h3 := (bte_i h3).2 h5
    by_cases h6 : bg s1 0 v1 0 = 16
    · have hq0 := (bte_i h3).1 h6
      exact r_callF hκ (n' := 0) (index := 46) (C := "EditsMeet$Insert") (w_X17_n Γ0 l0 hq0) (lw_app (lw_l4 q1740 q868 q870 q165) (lw_meth q872)) (by decide +kernel) (by decide +kernel) (t := 15) h6 rfl rfl (by decide) rfl (Nat.le_of_ble_eq_true rfl) dX4_left_4 k0
    replace h3 := (bte_i h3).2 h6
    by_cases h7 : bg s1 0 v1 0 = 17
    · have hq0 := (bte_i h3).1 h7
      exact r_callF hκ (n' := 0) (index := 46) (C := "EditsMeet$Mark") (w_X6_n Γ0 l0 hq0) (lw_app (lw_l4 q1740 q884 q865 q138) (lw_meth q867)) (by decide +kernel) (by decide +kernel) (t := 16) h7 rfl rfl (by decide) rfl (Nat.le_of_ble_eq_true rfl) dX4_left_4 k0
    replace h3 := (bte_i h3).2 h7
    cases h3
  refine r_aload_n hκ 0 rfl rfl dX4_left_9 ?_
  obtain ⟨h8, h⟩ := bck_i h
  refine r_get hκ (t := 4) (k := 2) (r := 124) h8 rfl in_X4 (by decide) rfl q370 (Or.inl rfl) dX4_left_10 ?_
  refine r_isub hκ dX4_left_13 ?_
  exact r_iretH hκ hf h (nar_int _) dX4_left_14
/-- EditsMeet$Delete.<init>(I)V -/
def F_X16_init (s0 : bS) (a0 a1 : Int) : Option (bS × Int) :=
  bcl (bte (bg s0 0 a0 0 = 6) (F_X6_init s0 a0 a1) (bte (bg s0 0 a0 0 = 15) (F_X6_init s0 a0 a1) (bte (bg s0 0 a0 0 = 17) (F_X6_init s0 a0 a1) (none)))) fun s1 v1 =>
  some (s1, 0)
set_option maxHeartbeats 4000000 in
set_option maxRecDepth 100000 in
theorem w_X16_init (Γ0 : bG) (l0 : Launch) {s0 st' : bS} {v a0 a1 : Int} (h : F_X16_init s0 a0 a1 = some (st', v)) : bCt Γ0 l0 yX16_init cX16_init 2 none 2 41 [(2, a0), (0, a1)] s0 st' none := by
  refine b_ent (own := RX16) (by decide +kernel) rfl (Nat.le_of_ble_eq_true rfl) (L := [(0, (2, a0)), (1, (0, a1))]) rfl ?_
  intro κ hκ hi hf
  unfold F_X16_init at h
  refine r_aload_n hκ 0 rfl rfl dX16_init_0 ?_
  refine r_iload_n hκ 1 rfl rfl dX16_init_1 ?_
  obtain ⟨s1, v1, h1, h⟩ := bcl_i h
  refine r_seq (A := bJ κ s1 5 [(0, (2, a0)), (1, (0, a1))] []) ?_ (fun k0 => ?_)
  case refine_2 =>
    by_cases h2 : bg s0 0 a0 0 = 6
    · have hq0 := (bte_i h1).1 h2
      exact r_callI hκ (n' := 1) (index := 1) (w_X6_init Γ0 l0 hq0) (lw_meth q388) q138 q1283 q387 rfl (by decide +kernel) (t := 5) h2 rfl rfl (by decide) rfl (Nat.le_of_ble_eq_true rfl) dX16_init_2 k0
    replace h1 := (bte_i h1).2 h2
    by_cases h3 : bg s0 0 a0 0 = 15
    · have hq0 := (bte_i h1).1 h3
      exact r_callI hκ (n' := 1) (index := 1) (w_X6_init Γ0 l0 hq0) (lw_meth q388) q138 q1283 q387 rfl (by decide +kernel) (t := 14) h3 rfl rfl (by decide) rfl (Nat.le_of_ble_eq_true rfl) dX16_init_2 k0
    replace h1 := (bte_i h1).2 h3
    by_cases h4 : bg s0 0 a0 0 = 17
    · have hq0 := (bte_i h1).1 h4
      exact r_callI hκ (n' := 1) (index := 1) (w_X6_init Γ0 l0 hq0) (lw_meth q388) q138 q1283 q387 rfl (by decide +kernel) (t := 16) h4 rfl rfl (by decide) rfl (Nat.le_of_ble_eq_true rfl) dX16_init_2 k0
    replace h1 := (bte_i h1).2 h4
    cases h1
  exact r_vretH hκ hf h dX16_init_5
/-- EditsMeet$Part.delete(I)LEditsMeet$Part; -/
def F_X5_delete (s0 : bS) (a0 : Int) : Option (bS × Int) :=
  bck (bc s0 + 1 ≤ bCM ∧ bk s0 + 1 ≤ bKM) <|
  bst (bnw s0 15 0 1) fun s1 =>
  bck (bg s1 0 (bnx s0 : Int) 0 = 15) <|
  bcl (F_X16_init s1 (bnx s0 : Int) a0) fun s2 v1 =>
  some (s2, (bnx s0 : Int))
set_option maxHeartbeats 4000000 in
set_option maxRecDepth 100000 in
theorem w_X5_delete (Γ0 : bG) (l0 : Launch) {s0 st' : bS} {v a0 : Int} (h : F_X5_delete s0 a0 = some (st', v)) : bCt Γ0 l0 yX5_delete cX5_delete 1 (some (.object "EditsMeet$Part")) 3 62 [(0, a0)] s0 st' (some (2, v)) := by
  refine b_ent (own := RX5) (by decide +kernel) rfl (Nat.le_of_ble_eq_true rfl) (L := [(0, (0, a0))]) rfl ?_
  intro κ hκ hi hf
  unfold F_X5_delete at h
  obtain ⟨h1, h⟩ := bck_i h
  refine r_new hκ (t := 14) tyX16 tyX16_ok dfX16 rfl in_X16 q1278 q1279 q164 h1 dX5_delete_0 (fun s1 es1 => ?_)
  replace h := bst_i h s1 es1
  refine r_dup hκ (bd_cat2k _) dX5_delete_3 ?_
  refine r_iload_n hκ 0 rfl rfl dX5_delete_4 ?_
  obtain ⟨h2, h⟩ := bck_i h
  obtain ⟨s2, v1, h3, h⟩ := bcl_i h
  refine r_callI hκ (n' := 1) (index := 27) (w_X16_init Γ0 l0 h3) (lw_meth q1282) q164 q1280 q1281 rfl (by decide +kernel) (t := 14) h2 rfl rfl (by decide) rfl (Nat.le_of_ble_eq_true rfl) dX5_delete_5 ?_
  exact r_aretH hκ hf h rt_o dX5_delete_8
/-- EditsMeet$Delete.again(I)LEditsMeet$Part; -/
def F_X16_again (s0 : bS) (a0 a1 : Int) : Option (bS × Int) :=
  bcl (F_X5_delete s0 a1) fun s1 v1 =>
  some (s1, v1)
set_option maxHeartbeats 4000000 in
set_option maxRecDepth 100000 in
theorem w_X16_again (Γ0 : bG) (l0 : Launch) {s0 st' : bS} {v a0 a1 : Int} (h : F_X16_again s0 a0 a1 = some (st', v)) : bCt Γ0 l0 yX16_again cX16_again 2 (some (.object "EditsMeet$Part")) 4 82 [(2, a0), (0, a1)] s0 st' (some (2, v)) := by
  refine b_ent (own := RX16) (by decide +kernel) rfl (Nat.le_of_ble_eq_true rfl) (L := [(0, (2, a0)), (1, (0, a1))]) rfl ?_
  intro κ hκ hi hf
  unfold F_X16_again at h
  refine r_iload_n hκ 1 rfl rfl dX16_again_0 ?_
  obtain ⟨s1, v1, h1, h⟩ := bcl_i h
  refine r_callS hκ (n' := 1) (index := 11) (w_X5_delete Γ0 l0 h1) (lw_S q1410 q1276 q137 q1277) (by decide +kernel) rfl (by decide) rfl (Nat.le_of_ble_eq_true rfl) dX16_again_1 ?_
  exact r_aretH hκ hf h rt_o dX16_again_4
/-- EditsMeet$Mark.<init>(III)V -/
def F_X18_init (s0 : bS) (a0 a1 a2 a3 : Int) : Option (bS × Int) :=
  bcl (bte (bg s0 0 a0 0 = 6) (F_X7_init s0 a0 a1) (bte (bg s0 0 a0 0 = 17) (F_X7_init s0 a0 a1) (none))) fun s1 v1 =>
  bck ((bg s1 0 a0 0 = 17)) <|
  bst (bw s1 392 a0 0 a2) fun s2 =>
  bck ((bg s2 0 a0 0 = 17)) <|
  bst (bw s2 396 a0 0 a3) fun s3 =>
  some (s3, 0)
set_option maxHeartbeats 4000000 in
set_option maxRecDepth 100000 in
theorem w_X18_init (Γ0 : bG) (l0 : Launch) {s0 st' : bS} {v a0 a1 a2 a3 : Int} (h : F_X18_init s0 a0 a1 a2 a3 = some (st', v)) : bCt Γ0 l0 yX18_init cX18_init 4 none 3 62 [(2, a0), (0, a1), (0, a2), (0, a3)] s0 st' none := by
  refine b_ent (own := RX18) (by decide +kernel) rfl (Nat.le_of_ble_eq_true rfl) (L := [(0, (2, a0)), (1, (0, a1)), (2, (0, a2)), (3, (0, a3))]) rfl ?_
  intro κ hκ hi hf
  unfold F_X18_init at h
  refine r_aload_n hκ 0 rfl rfl dX18_init_0 ?_
  refine r_iload_n hκ 1 rfl rfl dX18_init_1 ?_
  obtain ⟨s1, v1, h1, h⟩ := bcl_i h
  refine r_seq (A := bJ κ s1 5 [(0, (2, a0)), (1, (0, a1)), (2, (0, a2)), (3, (0, a3))] []) ?_ (fun k0 => ?_)
  case refine_2 =>
    by_cases h2 : bg s0 0 a0 0 = 6
    · have hq0 := (bte_i h1).1 h2
      exact r_callI hκ (n' := 1) (index := 1) (w_X7_init Γ0 l0 hq0) (lw_meth q385) q139 q1345 q384 rfl (by decide +kernel) (t := 5) h2 rfl rfl (by decide) rfl (Nat.le_of_ble_eq_true rfl) dX18_init_2 k0
    replace h1 := (bte_i h1).2 h2
    by_cases h3 : bg s0 0 a0 0 = 17
    · have hq0 := (bte_i h1).1 h3
      exact r_callI hκ (n' := 1) (index := 1) (w_X7_init Γ0 l0 hq0) (lw_meth q385) q139 q1345 q384 rfl (by decide +kernel) (t := 16) h3 rfl rfl (by decide) rfl (Nat.le_of_ble_eq_true rfl) dX18_init_2 k0
    replace h1 := (bte_i h1).2 h3
    cases h1
  refine r_aload_n hκ 0 rfl rfl dX18_init_5 ?_
  refine r_iload_n hκ 2 rfl rfl dX18_init_6 ?_
  obtain ⟨h4, h⟩ := bck_i h
  refine r_putF hκ (hi.init rfl) (t := 16) (k := 1) (r := 392) (ty := .int) tyX18 tyX18_ok nmX18 h4 rfl in_X18 (by decide) rfl q1346 rfl rfl rfl rfl rfl trivial (Or.inl (by decide)) dX18_init_7 (fun s2 es2 => ?_)
  replace h := bst_i h s2 es2
  refine r_aload_n hκ 0 rfl rfl dX18_init_10 ?_
  refine r_iload_n hκ 3 rfl rfl dX18_init_11 ?_
  obtain ⟨h5, h⟩ := bck_i h
  refine r_putF hκ (hi.init rfl) (t := 16) (k := 2) (r := 396) (ty := .int) tyX18 tyX18_ok nmX18 h5 rfl in_X18 (by decide) rfl q1347 rfl rfl rfl rfl rfl trivial (Or.inl (by decide)) dX18_init_12 (fun s3 es3 => ?_)
  replace h := bst_i h s3 es3
  exact r_vretH hκ hf h dX18_init_15
/-- EditsMeet$Part.mark(III)LEditsMeet$Part; -/
def F_X5_mark_r (b : Nat) (x0 x1 x2 : Int) (s0 : bS) : Option (bS × Int) :=
  match b with
  | 0 =>
    bck (bc s0 + 1 ≤ bCM ∧ bk s0 + 3 ≤ bKM) <|
    bst (bnw s0 17 0 3) fun s2 =>
    bck (bg s2 0 (bnx s0 : Int) 0 = 17) <|
    bcl (F_X18_init s2 (bnx s0 : Int) x0 x1 x2) fun s3 v2 =>
    some (s3, (bnx s0 : Int))
  | _ => none
def F_X5_mark (s0 : bS) (a0 a1 a2 : Int) : Option (bS × Int) :=
  bte (i32 a1 = 0)
  (bte (i32 a2 = 0)
  (bcl (F_X5_keep s0 a0) fun s1 v1 =>
  some (s1, v1))
  (F_X5_mark_r 0 a0 a1 a2 s0))
  (F_X5_mark_r 0 a0 a1 a2 s0)
set_option maxHeartbeats 4000000 in
set_option maxRecDepth 100000 in
set_option synthInstance.maxHeartbeats 4000000 in
theorem w_X5_mark_r {Γ0 : bG} {l0 : Launch} {κ : bK} {st' : bS} {v : Int} (hκ : bOk κ Γ0 l0 cX5_mark RX5 3 4 85) (hi : bIn κ yX5_mark) (hf : bFin κ (some (.object "EditsMeet$Part")) st' (some (2, v))) (b : Nat) (x0 x1 x2 : Int) (s0 : bS) (h : F_X5_mark_r b x0 x1 x2 s0 = some (st', v)) : match (generalizing := false) b with | 0 => bJ κ s0 15 [(0, (0, x0)), (1, (0, x1)), (2, (0, x2))] [] | _ => True := by
  unfold F_X5_mark_r at h
  match b, h with
  | 0, h =>
      obtain ⟨h4, h⟩ := bck_i h
      refine r_new hκ (t := 16) tyX18 tyX18_ok dfX18 rfl in_X18 q1340 q1341 q166 h4 dX5_mark_15 (fun s2 es2 => ?_)
      replace h := bst_i h s2 es2
      refine r_dup hκ (bd_cat2k _) dX5_mark_18 ?_
      refine r_iload_n hκ 0 rfl rfl dX5_mark_19 ?_
      refine r_iload_n hκ 1 rfl rfl dX5_mark_20 ?_
      refine r_iload_n hκ 2 rfl rfl dX5_mark_21 ?_
      obtain ⟨h5, h⟩ := bck_i h
      obtain ⟨s3, v2, h6, h⟩ := bcl_i h
      refine r_callI hκ (n' := 3) (index := 34) (w_X18_init Γ0 l0 h6) (lw_meth q1344) q166 q1342 q1343 rfl (by decide +kernel) (t := 16) h5 rfl rfl (by decide) rfl (Nat.le_of_ble_eq_true rfl) dX5_mark_22 ?_
      exact r_aretH hκ hf h rt_o dX5_mark_25
  | b + 1, h => trivial
set_option maxHeartbeats 4000000 in
set_option maxRecDepth 100000 in
theorem w_X5_mark (Γ0 : bG) (l0 : Launch) {s0 st' : bS} {v a0 a1 a2 : Int} (h : F_X5_mark s0 a0 a1 a2 = some (st', v)) : bCt Γ0 l0 yX5_mark cX5_mark 3 (some (.object "EditsMeet$Part")) 4 85 [(0, a0), (0, a1), (0, a2)] s0 st' (some (2, v)) := by
  refine b_ent (own := RX5) (by decide +kernel) rfl (Nat.le_of_ble_eq_true rfl) (L := [(0, (0, a0)), (1, (0, a1)), (2, (0, a2))]) rfl ?_
  intro κ hκ hi hf
  unfold F_X5_mark at h
  refine r_iload_n hκ 1 rfl rfl dX5_mark_0 ?_
  refine r_if_ne hκ (tgt := 15) (by decide) dX5_mark_1 (fun h1 => ?_) (fun h1 => ?_)
  · replace h := (bte_i h).2 h1
    exact r_sub [0, 1, 2] rfl (w_X5_mark_r hκ hi hf 0 _ _ _ _ h)
  · replace h := (bte_i h).1 h1
    refine r_iload_n hκ 2 rfl rfl dX5_mark_4 ?_
    refine r_if_ne hκ (tgt := 15) (by decide) dX5_mark_5 (fun h2 => ?_) (fun h2 => ?_)
    · replace h := (bte_i h).2 h2
      exact r_sub [0, 1, 2] rfl (w_X5_mark_r hκ hi hf 0 _ _ _ _ h)
    · replace h := (bte_i h).1 h2
      refine r_iload_n hκ 0 rfl rfl dX5_mark_8 ?_
      obtain ⟨s1, v1, h3, h⟩ := bcl_i h
      refine r_callS hκ (n' := 1) (index := 28) (w_X5_keep Γ0 l0 h3) (lw_S q1339 q379 q137 q380) (by decide +kernel) rfl (by decide) rfl (Nat.le_of_ble_eq_true rfl) dX5_mark_9 ?_
      refine r_goto hκ (tgt := 25) (by decide) dX5_mark_12 ?_
      exact r_aretH hκ hf h rt_o dX5_mark_25
/-- EditsMeet$Mark.again(I)LEditsMeet$Part; -/
def F_X18_again (s0 : bS) (a0 a1 : Int) : Option (bS × Int) :=
  bck (bg s0 0 a0 0 = 17) <|
  bck (bg s0 0 a0 0 = 17) <|
  bcl (F_X5_mark s0 a1 (bg s0 392 a0 0) (bg s0 396 a0 0)) fun s1 v1 =>
  some (s1, v1)
set_option maxHeartbeats 4000000 in
set_option maxRecDepth 100000 in
theorem w_X18_again (Γ0 : bG) (l0 : Launch) {s0 st' : bS} {v a0 a1 : Int} (h : F_X18_again s0 a0 a1 = some (st', v)) : bCt Γ0 l0 yX18_again cX18_again 2 (some (.object "EditsMeet$Part")) 5 107 [(2, a0), (0, a1)] s0 st' (some (2, v)) := by
  refine b_ent (own := RX18) (by decide +kernel) rfl (Nat.le_of_ble_eq_true rfl) (L := [(0, (2, a0)), (1, (0, a1))]) rfl ?_
  intro κ hκ hi hf
  unfold F_X18_again at h
  refine r_iload_n hκ 1 rfl rfl dX18_again_0 ?_
  refine r_aload_n hκ 0 rfl rfl dX18_again_1 ?_
  obtain ⟨h1, h⟩ := bck_i h
  refine r_get hκ (t := 16) (k := 1) (r := 392) h1 rfl in_X18 (by decide) rfl q1346 (Or.inl rfl) dX18_again_2 ?_
  refine r_aload_n hκ 0 rfl rfl dX18_again_5 ?_
  obtain ⟨h2, h⟩ := bck_i h
  refine r_get hκ (t := 16) (k := 2) (r := 396) h2 rfl in_X18 (by decide) rfl q1347 (Or.inl rfl) dX18_again_6 ?_
  obtain ⟨s1, v1, h3, h⟩ := bcl_i h
  refine r_callS hκ (n' := 3) (index := 20) (w_X5_mark Γ0 l0 h3) (lw_S q1418 q1337 q137 q1338) (by decide +kernel) rfl (by decide) rfl (Nat.le_of_ble_eq_true rfl) dX18_again_9 ?_
  exact r_aretH hκ hf h rt_o dX18_again_12
/-- EditsMeet$Keep.again(I)LEditsMeet$Part; -/
def F_X7_again (s0 : bS) (a0 a1 : Int) : Option (bS × Int) :=
  bcl (F_X5_keep s0 a1) fun s1 v1 =>
  some (s1, v1)
set_option maxHeartbeats 4000000 in
set_option maxRecDepth 100000 in
theorem w_X7_again (Γ0 : bG) (l0 : Launch) {s0 st' : bS} {v a0 a1 : Int} (h : F_X7_again s0 a0 a1 = some (st', v)) : bCt Γ0 l0 yX7_again cX7_again 2 (some (.object "EditsMeet$Part")) 4 82 [(2, a0), (0, a1)] s0 st' (some (2, v)) := by
  refine b_ent (own := RX7) (by decide +kernel) rfl (Nat.le_of_ble_eq_true rfl) (L := [(0, (2, a0)), (1, (0, a1))]) rfl ?_
  intro κ hκ hi hf
  unfold F_X7_again at h
  refine r_iload_n hκ 1 rfl rfl dX7_again_0 ?_
  obtain ⟨s1, v1, h1, h⟩ := bcl_i h
  refine r_callS hκ (n' := 1) (index := 7) (w_X5_keep Γ0 l0 h1) (lw_S q1414 q379 q137 q380) (by decide +kernel) rfl (by decide) rfl (Nat.le_of_ble_eq_true rfl) dX7_again_1 ?_
  exact r_aretH hκ hf h rt_o dX7_again_4
/-- EditsMeet$Over.so(I)LEditsMeet$Part; -/
def F_X6_so (s0 : bS) (a0 a1 : Int) : Option (bS × Int) :=
  bck (bg s0 0 a0 0 = 6 ∨ bg s0 0 a0 0 = 15 ∨ bg s0 0 a0 0 = 17) <|
  bte (i32 a1 = i32 (bg s0 128 a0 0))
  (some (s0, a0))
  (bcl (bte (bg s0 0 a0 0 = 6) (F_X7_again s0 a0 a1) (bte (bg s0 0 a0 0 = 15) (F_X16_again s0 a0 a1) (bte (bg s0 0 a0 0 = 17) (F_X18_again s0 a0 a1) (none)))) fun s1 v1 =>
  some (s1, v1))
set_option maxHeartbeats 4000000 in
set_option maxRecDepth 100000 in
theorem w_X6_so (Γ0 : bG) (l0 : Launch) {s0 st' : bS} {v a0 a1 : Int} (h : F_X6_so s0 a0 a1 = some (st', v)) : bCt Γ0 l0 yX6_so cX6_so 2 (some (.object "EditsMeet$Part")) 6 128 [(2, a0), (0, a1)] s0 st' (some (2, v)) := by
  refine b_ent (own := RX6) (by decide +kernel) rfl (Nat.le_of_ble_eq_true rfl) (L := [(0, (2, a0)), (1, (0, a1))]) rfl ?_
  intro κ hκ hi hf
  unfold F_X6_so at h
  refine r_iload_n hκ 1 rfl rfl dX6_so_0 ?_
  refine r_aload_n hκ 0 rfl rfl dX6_so_1 ?_
  obtain ⟨h1, h⟩ := bck_i h
  refine r_seq (A := bJ κ s0 5 [(0, (2, a0)), (1, (0, a1))] [(0, (bg s0 128 a0 0)), (0, a1)]) ?_ (fun k0 => Or.elim h1 (fun h1 => r_get hκ (t := 5) (k := 0) (r := 128) h1 rfl in_X7 (by decide) rfl q390 (Or.inl rfl) dX6_so_2 k0) (fun h1 => Or.elim h1 (fun h1 => r_get hκ (t := 14) (k := 0) (r := 128) h1 rfl in_X16 (by decide) rfl q390 (Or.inl rfl) dX6_so_2 k0) (fun h1 => r_get hκ (t := 16) (k := 0) (r := 128) h1 rfl in_X18 (by decide) rfl q390 (Or.inl rfl) dX6_so_2 k0)))
  refine r_icmp_ne hκ (tgt := 12) (by decide) dX6_so_5 (fun h2 => ?_) (fun h2 => ?_)
  · replace h := (bte_i h).2 h2
    refine r_aload_n hκ 0 rfl rfl dX6_so_12 ?_
    refine r_iload_n hκ 1 rfl rfl dX6_so_13 ?_
    obtain ⟨s1, v1, h3, h⟩ := bcl_i h
    refine r_seq (A := bJ κ s1 17 [(0, (2, a0)), (1, (0, a1))] [(2, v1)]) ?_ (fun k0 => ?_)
    case refine_2 =>
      by_cases h4 : bg s0 0 a0 0 = 6
      · have hq0 := (bte_i h3).1 h4
        exact r_callUA hκ (n' := 1) (index := 28) (C := "EditsMeet$Keep") (owner := "EditsMeet$Over") (w_X7_again Γ0 l0 hq0) (lw_app (lw_l5 q1404 q1406 q1411 q1412 q139) (lw_meth q1413)) (by decide +kernel) (by decide +kernel) (t := 5) h4 rfl rfl (by decide) rfl (Nat.le_of_ble_eq_true rfl) dX6_so_14 k0
      replace h3 := (bte_i h3).2 h4
      by_cases h5 : bg s0 0 a0 0 = 15
      · have hq0 := (bte_i h3).1 h5
        exact r_callUA hκ (n' := 1) (index := 28) (C := "EditsMeet$Delete") (owner := "EditsMeet$Over") (w_X16_again Γ0 l0 hq0) (lw_app (lw_l5 q1404 q1406 q1407 q1408 q164) (lw_meth q1409)) (by decide +kernel) (by decide +kernel) (t := 14) h5 rfl rfl (by decide) rfl (Nat.le_of_ble_eq_true rfl) dX6_so_14 k0
      replace h3 := (bte_i h3).2 h5
      by_cases h6 : bg s0 0 a0 0 = 17
      · have hq0 := (bte_i h3).1 h6
        exact r_callUA hκ (n' := 1) (index := 28) (C := "EditsMeet$Mark") (owner := "EditsMeet$Over") (w_X18_again Γ0 l0 hq0) (lw_app (lw_l5 q1404 q1406 q1415 q1416 q166) (lw_meth q1417)) (by decide +kernel) (by decide +kernel) (t := 16) h6 rfl rfl (by decide) rfl (Nat.le_of_ble_eq_true rfl) dX6_so_14 k0
      replace h3 := (bte_i h3).2 h6
      cases h3
    exact r_aretH hκ hf h rt_o dX6_so_17
  · replace h := (bte_i h).1 h2
    refine r_aload_n hκ 0 rfl rfl dX6_so_8 ?_
    refine r_goto hκ (tgt := 17) (by decide) dX6_so_9 ?_
    exact r_aretH hκ hf h rt_o dX6_so_17
/-- EditsMeet$Over.piece(II)LEditsMeet$Part; -/
def F_X6_piece (s0 : bS) (a0 a1 a2 : Int) : Option (bS × Int) :=
  bcl (bte (bg s0 0 a0 0 = 6) (F_X6_so s0 a0 (a2 - a1)) (bte (bg s0 0 a0 0 = 15) (F_X6_so s0 a0 (a2 - a1)) (bte (bg s0 0 a0 0 = 17) (F_X6_so s0 a0 (a2 - a1)) (none)))) fun s1 v1 =>
  some (s1, v1)
set_option maxHeartbeats 4000000 in
set_option maxRecDepth 100000 in
theorem w_X6_piece (Γ0 : bG) (l0 : Launch) {s0 st' : bS} {v a0 a1 a2 : Int} (h : F_X6_piece s0 a0 a1 a2 = some (st', v)) : bCt Γ0 l0 yX6_piece cX6_piece 3 (some (.object "EditsMeet$Part")) 7 149 [(2, a0), (0, a1), (0, a2)] s0 st' (some (2, v)) := by
  refine b_ent (own := RX6) (by decide +kernel) rfl (Nat.le_of_ble_eq_true rfl) (L := [(0, (2, a0)), (1, (0, a1)), (2, (0, a2))]) rfl ?_
  intro κ hκ hi hf
  unfold F_X6_piece at h
  refine r_aload_n hκ 0 rfl rfl dX6_piece_0 ?_
  refine r_iload_n hκ 2 rfl rfl dX6_piece_1 ?_
  refine r_iload_n hκ 1 rfl rfl dX6_piece_2 ?_
  refine r_isub hκ dX6_piece_3 ?_
  obtain ⟨s1, v1, h1, h⟩ := bcl_i h
  refine r_seq (A := bJ κ s1 7 [(0, (2, a0)), (1, (0, a1)), (2, (0, a2))] [(2, v1)]) ?_ (fun k0 => ?_)
  case refine_2 =>
    by_cases h2 : bg s0 0 a0 0 = 6
    · have hq0 := (bte_i h1).1 h2
      exact r_callU hκ (index := 32) (C := "EditsMeet$Keep") (owner := "EditsMeet$Over") (n' := 1) (w_X6_so Γ0 l0 hq0) (fun R s args hts hRR => va_cwU 1 hts (lw_app (lw_l5 q1754 q1399 q1401 q1398 q138) (lw_meth q1403)) rfl rfl rfl rfl (by decide +kernel) hRR) (t := 5) h2 rfl rfl (by decide) rfl (Nat.le_of_ble_eq_true rfl) dX6_piece_4 k0
    replace h1 := (bte_i h1).2 h2
    by_cases h3 : bg s0 0 a0 0 = 15
    · have hq0 := (bte_i h1).1 h3
      exact r_callU hκ (index := 32) (C := "EditsMeet$Delete") (owner := "EditsMeet$Over") (n' := 1) (w_X6_so Γ0 l0 hq0) (fun R s args hts hRR => va_cwU 1 hts (lw_app (lw_l5 q1754 q1399 q1400 q1398 q138) (lw_meth q1403)) rfl rfl rfl rfl (by decide +kernel) hRR) (t := 14) h3 rfl rfl (by decide) rfl (Nat.le_of_ble_eq_true rfl) dX6_piece_4 k0
    replace h1 := (bte_i h1).2 h3
    by_cases h4 : bg s0 0 a0 0 = 17
    · have hq0 := (bte_i h1).1 h4
      exact r_callU hκ (index := 32) (C := "EditsMeet$Mark") (owner := "EditsMeet$Over") (n' := 1) (w_X6_so Γ0 l0 hq0) (fun R s args hts hRR => va_cwU 1 hts (lw_app (lw_l5 q1754 q1399 q1402 q1398 q138) (lw_meth q1403)) rfl rfl rfl rfl (by decide +kernel) hRR) (t := 16) h4 rfl rfl (by decide) rfl (Nat.le_of_ble_eq_true rfl) dX6_piece_4 k0
    replace h1 := (bte_i h1).2 h4
    cases h1
  exact r_aretH hκ hf h rt_o dX6_piece_7
/-- EditsMeet$Insert.<init>(Ljava/lang/String;Ljava/lang/String;)V -/
def F_X17_init (s0 : bS) (a0 a1 a2 : Int) : Option (bS × Int) :=
  bck ((0 : Int) ≤ a0) <|
  bck ((bg s0 0 a0 0 = 16)) <|
  bst (bw s0 386 a0 0 a1) fun s1 =>
  bck ((bg s1 0 a0 0 = 16)) <|
  bst (bw s1 390 a0 0 a2) fun s2 =>
  some (s2, 0)
set_option maxHeartbeats 4000000 in
set_option maxRecDepth 100000 in
theorem w_X17_init (Γ0 : bG) (l0 : Launch) {s0 st' : bS} {v a0 a1 a2 : Int} (h : F_X17_init s0 a0 a1 a2 = some (st', v)) : bCt Γ0 l0 yX17_init cX17_init 3 none 1 20 [(2, a0), (2, a1), (2, a2)] s0 st' none := by
  refine b_ent (own := RX17) (by decide +kernel) rfl (Nat.le_of_ble_eq_true rfl) (L := [(0, (2, a0)), (1, (2, a1)), (2, (2, a2))]) rfl ?_
  intro κ hκ hi hf
  unfold F_X17_init at h
  refine r_aload_n hκ 0 rfl rfl dX17_init_0 ?_
  obtain ⟨h1, h⟩ := bck_i h
  refine r_oinit hκ h1 q1316 q183 q184 (by decide) (Nat.le_of_ble_eq_true rfl) dX17_init_1 ?_
  refine r_aload_n hκ 0 rfl rfl dX17_init_4 ?_
  refine r_aload_n hκ 1 rfl rfl dX17_init_5 ?_
  obtain ⟨h2, h⟩ := bck_i h
  refine r_putF hκ (hi.init rfl) (t := 15) (k := 0) (r := 386) (ty := (.object "java/lang/String")) tyX17 tyX17_ok nmX17 h2 rfl in_X17 (by decide) rfl q1317 rfl rfl rfl rfl rfl trivial (Or.inl (by decide)) dX17_init_6 (fun s1 es1 => ?_)
  replace h := bst_i h s1 es1
  refine r_aload_n hκ 0 rfl rfl dX17_init_9 ?_
  refine r_aload_n hκ 2 rfl rfl dX17_init_10 ?_
  obtain ⟨h3, h⟩ := bck_i h
  refine r_putF hκ (hi.init rfl) (t := 15) (k := 1) (r := 390) (ty := (.object "java/lang/String")) tyX17 tyX17_ok nmX17 h3 rfl in_X17 (by decide) rfl q1320 rfl rfl rfl rfl rfl trivial (Or.inl (by decide)) dX17_init_11 (fun s2 es2 => ?_)
  replace h := bst_i h s2 es2
  exact r_vretH hκ hf h dX17_init_14
/-- EditsMeet$Part.insert(Ljava/lang/CharSequence;Ljava/lang/CharSequence;)LEditsMeet$Part; -/
def F_X5_insert (s0 : bS) (a0 a1 : Int) : Option (bS × Int) :=
  bck (bc s0 + 1 ≤ bCM ∧ bk s0 + 2 ≤ bKM) <|
  bst (bnw s0 16 0 2) fun s1 =>
  bcl (bte (bg s1 0 a0 0 = 19) (F_J1_toString s1 a0) (bte (bg s1 0 a0 0 = 20) (F_J2_toString s1 a0) (none))) fun s2 v1 =>
  bcl (bte (bg s2 0 a1 0 = 19) (F_J1_toString s2 a1) (bte (bg s2 0 a1 0 = 20) (F_J2_toString s2 a1) (none))) fun s3 v2 =>
  bck (bg s3 0 (bnx s0 : Int) 0 = 16) <|
  bcl (F_X17_init s3 (bnx s0 : Int) v1 v2) fun s4 v3 =>
  some (s4, (bnx s0 : Int))
set_option maxHeartbeats 4000000 in
set_option maxRecDepth 100000 in
theorem w_X5_insert (Γ0 : bG) (l0 : Launch) {s0 st' : bS} {v a0 a1 : Int} (h : F_X5_insert s0 a0 a1 = some (st', v)) : bCt Γ0 l0 yX5_insert cX5_insert 2 (some (.object "EditsMeet$Part")) 6 151 [(2, a0), (2, a1)] s0 st' (some (2, v)) := by
  refine b_ent (own := RX5) (by decide +kernel) rfl (Nat.le_of_ble_eq_true rfl) (L := [(0, (2, a0)), (1, (2, a1))]) rfl ?_
  intro κ hκ hi hf
  unfold F_X5_insert at h
  obtain ⟨h1, h⟩ := bck_i h
  refine r_new hκ (t := 15) tyX17 tyX17_ok dfX17 rfl in_X17 q1297 q1298 q165 h1 dX5_insert_0 (fun s1 es1 => ?_)
  replace h := bst_i h s1 es1
  refine r_dup hκ (bd_cat2k _) dX5_insert_3 ?_
  refine r_aload_n hκ 0 rfl rfl dX5_insert_4 ?_
  obtain ⟨s2, v1, h2, h⟩ := bcl_i h
  refine r_seq (A := bJ κ s2 10 [(0, (2, a0)), (1, (2, a1))] [(2, v1), (2, (bnx s0 : Int)), (2, (bnx s0 : Int))]) ?_ (fun k0 => ?_)
  case refine_2 =>
    by_cases h3 : bg s1 0 a0 0 = 19
    · have hq0 := (bte_i h2).1 h3
      exact r_callF hκ (n' := 0) (index := 39) (C := "java/lang/StringBuilder") (w_J1_toString Γ0 l0 hq0) (lw_app (lw_l4 q1300 q1310 q1127 q125) (lw_meth q1129)) (by decide +kernel) (by decide +kernel) (t := 18) h3 rfl rfl (by decide) rfl (Nat.le_of_ble_eq_true rfl) dX5_insert_5 k0
    replace h2 := (bte_i h2).2 h3
    by_cases h4 : bg s1 0 a0 0 = 20
    · have hq0 := (bte_i h2).1 h4
      exact r_callF hκ (n' := 0) (index := 39) (C := "java/lang/String") (w_J2_toString Γ0 l0 hq0) (lw_app (lw_l4 q1300 q1304 q1306 q126) (lw_meth q1308)) (by decide +kernel) (by decide +kernel) (t := 19) h4 rfl rfl (by decide) rfl (Nat.le_of_ble_eq_true rfl) dX5_insert_5 k0
    replace h2 := (bte_i h2).2 h4
    cases h2
  refine r_aload_n hκ 1 rfl rfl dX5_insert_10 ?_
  obtain ⟨s3, v2, h5, h⟩ := bcl_i h
  refine r_seq (A := bJ κ s3 16 [(0, (2, a0)), (1, (2, a1))] [(2, v2), (2, v1), (2, (bnx s0 : Int)), (2, (bnx s0 : Int))]) ?_ (fun k0 => ?_)
  case refine_2 =>
    by_cases h6 : bg s2 0 a1 0 = 19
    · have hq0 := (bte_i h5).1 h6
      exact r_callF hκ (n' := 0) (index := 39) (C := "java/lang/StringBuilder") (w_J1_toString Γ0 l0 hq0) (lw_app (lw_l4 q1300 q1310 q1127 q125) (lw_meth q1129)) (by decide +kernel) (by decide +kernel) (t := 18) h6 rfl rfl (by decide) rfl (Nat.le_of_ble_eq_true rfl) dX5_insert_11 k0
    replace h5 := (bte_i h5).2 h6
    by_cases h7 : bg s2 0 a1 0 = 20
    · have hq0 := (bte_i h5).1 h7
      exact r_callF hκ (n' := 0) (index := 39) (C := "java/lang/String") (w_J2_toString Γ0 l0 hq0) (lw_app (lw_l4 q1300 q1304 q1306 q126) (lw_meth q1308)) (by decide +kernel) (by decide +kernel) (t := 19) h7 rfl rfl (by decide) rfl (Nat.le_of_ble_eq_true rfl) dX5_insert_11 k0
    replace h5 := (bte_i h5).2 h7
    cases h5
  obtain ⟨h8, h⟩ := bck_i h
  obtain ⟨s4, v3, h9, h⟩ := bcl_i h
  refine r_callI hκ (n' := 2) (index := 45) (w_X17_init Γ0 l0 h9) (lw_meth q1315) q165 q1313 q1314 rfl (by decide +kernel) (t := 15) h8 rfl rfl (by decide) rfl (Nat.le_of_ble_eq_true rfl) dX5_insert_16 ?_
  exact r_aretH hκ hf h rt_o dX5_insert_19
/-- EditsMeet$Insert.piece(II)LEditsMeet$Part; -/
def F_X17_piece (s0 : bS) (a0 a1 a2 : Int) : Option (bS × Int) :=
  bck (bg s0 0 a0 0 = 16) <|
  bcl (F_X17_n s0 a0) fun s1 v1 =>
  bte (i32 (a2 - a1) = i32 v1)
  (some (s1, a0))
  (bck (bg s1 0 a0 0 = 16) <|
  bck (bg s1 0 (bg s1 386 a0 0) 0 = 20) <|
  bcl (F_J2_substring s1 (bg s1 386 a0 0) a1 a2) fun s2 v2 =>
  bck (bg s2 0 a0 0 = 16) <|
  bck (bg s2 0 (bg s2 390 a0 0) 0 = 20) <|
  bcl (F_J2_substring s2 (bg s2 390 a0 0) a1 a2) fun s3 v3 =>
  bcl (F_X5_insert s3 v2 v3) fun s4 v4 =>
  some (s4, v4))
set_option maxHeartbeats 4000000 in
set_option maxRecDepth 100000 in
theorem w_X17_piece (Γ0 : bG) (l0 : Launch) {s0 st' : bS} {v a0 a1 a2 : Int} (h : F_X17_piece s0 a0 a1 a2 = some (st', v)) : bCt Γ0 l0 yX17_piece cX17_piece 3 (some (.object "EditsMeet$Part")) 7 172 [(2, a0), (0, a1), (0, a2)] s0 st' (some (2, v)) := by
  refine b_ent (own := RX17) (by decide +kernel) rfl (Nat.le_of_ble_eq_true rfl) (L := [(0, (2, a0)), (1, (0, a1)), (2, (0, a2))]) rfl ?_
  intro κ hκ hi hf
  unfold F_X17_piece at h
  refine r_iload_n hκ 2 rfl rfl dX17_piece_0 ?_
  refine r_iload_n hκ 1 rfl rfl dX17_piece_1 ?_
  refine r_isub hκ dX17_piece_2 ?_
  refine r_aload_n hκ 0 rfl rfl dX17_piece_3 ?_
  obtain ⟨h1, h⟩ := bck_i h
  obtain ⟨s1, v1, h2, h⟩ := bcl_i h
  refine r_callV hκ (n' := 0) (index := 22) (w_X17_n Γ0 l0 h2) (lw_V q1760 q870 q3596 q165 q872) (by decide +kernel) (t := 15) h1 rfl rfl (by decide) rfl (Nat.le_of_ble_eq_true rfl) dX17_piece_4 ?_
  refine r_icmp_ne hκ (tgt := 14) (by decide) dX17_piece_7 (fun h3 => ?_) (fun h3 => ?_)
  · replace h := (bte_i h).2 h3
    refine r_aload_n hκ 0 rfl rfl dX17_piece_14 ?_
    obtain ⟨h4, h⟩ := bck_i h
    refine r_get hκ (t := 15) (k := 0) (r := 386) h4 rfl in_X17 (by decide) rfl q1317 (Or.inl rfl) dX17_piece_15 ?_
    refine r_iload_n hκ 1 rfl rfl dX17_piece_18 ?_
    refine r_iload_n hκ 2 rfl rfl dX17_piece_19 ?_
    obtain ⟨h5, h⟩ := bck_i h
    obtain ⟨s2, v2, h6, h⟩ := bcl_i h
    refine r_callV hκ (n' := 2) (index := 25) (w_J2_substring Γ0 l0 h6) (lw_V q1761 q1762 q1763 q126 q1764) (by decide +kernel) (t := 19) h5 rfl rfl (by decide) rfl (Nat.le_of_ble_eq_true rfl) dX17_piece_20 ?_
    refine r_aload_n hκ 0 rfl rfl dX17_piece_23 ?_
    obtain ⟨h7, h⟩ := bck_i h
    refine r_get hκ (t := 15) (k := 1) (r := 390) h7 rfl in_X17 (by decide) rfl q1320 (Or.inl rfl) dX17_piece_24 ?_
    refine r_iload_n hκ 1 rfl rfl dX17_piece_27 ?_
    refine r_iload_n hκ 2 rfl rfl dX17_piece_28 ?_
    obtain ⟨h8, h⟩ := bck_i h
    obtain ⟨s3, v3, h9, h⟩ := bcl_i h
    refine r_callV hκ (n' := 2) (index := 25) (w_J2_substring Γ0 l0 h9) (lw_V q1761 q1762 q1763 q126 q1764) (by decide +kernel) (t := 19) h8 rfl rfl (by decide) rfl (Nat.le_of_ble_eq_true rfl) dX17_piece_29 ?_
    obtain ⟨s4, v4, h10, h⟩ := bcl_i h
    refine r_callS hκ (n' := 2) (index := 29) (w_X5_insert Γ0 l0 h10) (lw_S q1536 q1295 q137 q1296) (by decide +kernel) rfl (by decide) rfl (Nat.le_of_ble_eq_true rfl) dX17_piece_32 ?_
    exact r_aretH hκ hf h rt_o dX17_piece_35
  · replace h := (bte_i h).1 h3
    refine r_aload_n hκ 0 rfl rfl dX17_piece_10 ?_
    refine r_goto hκ (tgt := 35) (by decide) dX17_piece_11 ?_
    exact r_aretH hκ hf h rt_o dX17_piece_35
/-- EditsMeet$Goes.skips(I)V -/
def F_X4_skips (s0 : bS) (a0 a1 : Int) : Option (bS × Int) :=
  bck (bg s0 0 a0 0 = 5) <|
  bck ((bg s0 0 a0 0 = 5)) <|
  bst (bw s0 124 a0 0 ((bg s0 124 a0 0) + a1)) fun s1 =>
  bck (bg s1 0 a0 0 = 5) <|
  bck (bg s1 0 a0 0 = 5) <|
  bcl (F_X4_here s1 a0) fun s2 v1 =>
  bcl (bte (bg s2 0 v1 0 = 6) (F_X6_n s2 v1) (bte (bg s2 0 v1 0 = 15) (F_X6_n s2 v1) (bte (bg s2 0 v1 0 = 16) (F_X17_n s2 v1) (bte (bg s2 0 v1 0 = 17) (F_X6_n s2 v1) (none))))) fun s3 v2 =>
  bte (i32 (bg s1 124 a0 0) = i32 v2)
  (bck ((bg s3 0 a0 0 = 5)) <|
  bst (bw s3 124 a0 0 0) fun s4 =>
  bck (bg s4 0 a0 0 = 5) <|
  bck ((bg s4 0 a0 0 = 5)) <|
  bst (bw s4 120 a0 0 ((bg s4 120 a0 0) + 1)) fun s5 =>
  some (s5, 0))
  (some (s3, 0))
set_option maxHeartbeats 4000000 in
set_option maxRecDepth 100000 in
theorem w_X4_skips (Γ0 : bG) (l0 : Launch) {s0 st' : bS} {v a0 a1 : Int} (h : F_X4_skips s0 a0 a1 = some (st', v)) : bCt Γ0 l0 yX4_skips cX4_skips 2 none 5 105 [(2, a0), (0, a1)] s0 st' none := by
  refine b_ent (own := RX4) (by decide +kernel) rfl (Nat.le_of_ble_eq_true rfl) (L := [(0, (2, a0)), (1, (0, a1))]) rfl ?_
  intro κ hκ hi hf
  unfold F_X4_skips at h
  refine r_aload_n hκ 0 rfl rfl dX4_skips_0 ?_
  refine r_dup hκ (bd_cat2k _) dX4_skips_1 ?_
  obtain ⟨h1, h⟩ := bck_i h
  refine r_get hκ (t := 4) (k := 2) (r := 124) h1 rfl in_X4 (by decide) rfl q370 (Or.inl rfl) dX4_skips_2 ?_
  refine r_iload_n hκ 1 rfl rfl dX4_skips_5 ?_
  refine r_iadd hκ dX4_skips_6 ?_
  obtain ⟨h2, h⟩ := bck_i h
  refine r_put hκ (t := 4) (k := 2) (r := 124) (ty := .int) tyX4 tyX4_ok nmX4 h2 rfl in_X4 (by decide) rfl q370 (Or.inl rfl) rfl rfl rfl trivial (Or.inl (by decide)) dX4_skips_7 (fun s1 es1 => ?_)
  replace h := bst_i h s1 es1
  refine r_aload_n hκ 0 rfl rfl dX4_skips_10 ?_
  obtain ⟨h3, h⟩ := bck_i h
  refine r_get hκ (t := 4) (k := 2) (r := 124) h3 rfl in_X4 (by decide) rfl q370 (Or.inl rfl) dX4_skips_11 ?_
  refine r_aload_n hκ 0 rfl rfl dX4_skips_14 ?_
  obtain ⟨h4, h⟩ := bck_i h
  obtain ⟨s2, v1, h5, h⟩ := bcl_i h
  refine r_callV hκ (n' := 0) (index := 34) (w_X4_here Γ0 l0 h5) (lw_V q1734 q1735 q1736 q136 q1737) (by decide +kernel) (t := 4) h4 rfl rfl (by decide) rfl (Nat.le_of_ble_eq_true rfl) dX4_skips_15 ?_
  obtain ⟨s3, v2, h6, h⟩ := bcl_i h
  refine r_seq (A := bJ κ s3 23 [(0, (2, a0)), (1, (0, a1))] [(0, v2), (0, (bg s1 124 a0 0))]) ?_ (fun k0 => ?_)
  case refine_2 =>
    by_cases h7 : bg s2 0 v1 0 = 6
    · have hq0 := (bte_i h6).1 h7
      exact r_callF hκ (n' := 0) (index := 46) (C := "EditsMeet$Keep") (w_X6_n Γ0 l0 hq0) (lw_app (lw_l4 q1740 q882 q865 q138) (lw_meth q867)) (by decide +kernel) (by decide +kernel) (t := 5) h7 rfl rfl (by decide) rfl (Nat.le_of_ble_eq_true rfl) dX4_skips_18 k0
    replace h6 := (bte_i h6).2 h7
    by_cases h8 : bg s2 0 v1 0 = 15
    · have hq0 := (bte_i h6).1 h8
      exact r_callF hκ (n' := 0) (index := 46) (C := "EditsMeet$Delete") (w_X6_n Γ0 l0 hq0) (lw_app (lw_l4 q1740 q863 q865 q138) (lw_meth q867)) (by decide +kernel) (by decide +kernel) (t := 14) h8 rfl rfl (by decide) rfl (Nat.le_of_ble_eq_true rfl) dX4_skips_18 k0
    replace h6 := (bte_i h6).2 h8
    by_cases h9 : bg s2 0 v1 0 = 16
    · have hq0 := (bte_i h6).1 h9
      exact r_callF hκ (n' := 0) (index := 46) (C := "EditsMeet$Insert") (w_X17_n Γ0 l0 hq0) (lw_app (lw_l4 q1740 q868 q870 q165) (lw_meth q872)) (by decide +kernel) (by decide +kernel) (t := 15) h9 rfl rfl (by decide) rfl (Nat.le_of_ble_eq_true rfl) dX4_skips_18 k0
    replace h6 := (bte_i h6).2 h9
    by_cases h10 : bg s2 0 v1 0 = 17
    · have hq0 := (bte_i h6).1 h10
      exact r_callF hκ (n' := 0) (index := 46) (C := "EditsMeet$Mark") (w_X6_n Γ0 l0 hq0) (lw_app (lw_l4 q1740 q884 q865 q138) (lw_meth q867)) (by decide +kernel) (by decide +kernel) (t := 16) h10 rfl rfl (by decide) rfl (Nat.le_of_ble_eq_true rfl) dX4_skips_18 k0
    replace h6 := (bte_i h6).2 h10
    cases h6
  refine r_icmp_ne hκ (tgt := 41) (by decide) dX4_skips_23 (fun h11 => ?_) (fun h11 => ?_)
  · replace h := (bte_i h).2 h11
    exact r_vretH hκ hf h dX4_skips_41
  · replace h := (bte_i h).1 h11
    refine r_aload_n hκ 0 rfl rfl dX4_skips_26 ?_
    refine r_iconst hκ dX4_skips_27 ?_
    obtain ⟨h12, h⟩ := bck_i h
    refine r_put hκ (t := 4) (k := 2) (r := 124) (ty := .int) tyX4 tyX4_ok nmX4 h12 rfl in_X4 (by decide) rfl q370 (Or.inl rfl) rfl rfl rfl trivial (Or.inl (by decide)) dX4_skips_28 (fun s4 es4 => ?_)
    replace h := bst_i h s4 es4
    refine r_aload_n hκ 0 rfl rfl dX4_skips_31 ?_
    refine r_dup hκ (bd_cat2k _) dX4_skips_32 ?_
    obtain ⟨h13, h⟩ := bck_i h
    refine r_get hκ (t := 4) (k := 1) (r := 120) h13 rfl in_X4 (by decide) rfl q369 (Or.inl rfl) dX4_skips_33 ?_
    refine r_iconst hκ dX4_skips_36 ?_
    refine r_iadd hκ dX4_skips_37 ?_
    obtain ⟨h14, h⟩ := bck_i h
    refine r_put hκ (t := 4) (k := 1) (r := 120) (ty := .int) tyX4 tyX4_ok nmX4 h14 rfl in_X4 (by decide) rfl q369 (Or.inl rfl) rfl rfl rfl trivial (Or.inl (by decide)) dX4_skips_38 (fun s5 es5 => ?_)
    replace h := bst_i h s5 es5
    exact r_vretH hκ hf h dX4_skips_41
/-- EditsMeet$Goes.takes(I)LEditsMeet$Part; -/
def F_X4_takes (s0 : bS) (a0 a1 : Int) : Option (bS × Int) :=
  bck (bg s0 0 a0 0 = 5) <|
  bcl (F_X4_here s0 a0) fun s1 v1 =>
  bck (bg s1 0 a0 0 = 5) <|
  bck (bg s1 0 a0 0 = 5) <|
  bcl (bte (bg s1 0 v1 0 = 6) (F_X6_piece s1 v1 (bg s1 124 a0 0) ((bg s1 124 a0 0) + a1)) (bte (bg s1 0 v1 0 = 15) (F_X6_piece s1 v1 (bg s1 124 a0 0) ((bg s1 124 a0 0) + a1)) (bte (bg s1 0 v1 0 = 16) (F_X17_piece s1 v1 (bg s1 124 a0 0) ((bg s1 124 a0 0) + a1)) (bte (bg s1 0 v1 0 = 17) (F_X6_piece s1 v1 (bg s1 124 a0 0) ((bg s1 124 a0 0) + a1)) (none))))) fun s2 v2 =>
  bck (bg s2 0 a0 0 = 5) <|
  bcl (F_X4_skips s2 a0 a1) fun s3 v3 =>
  some (s3, v2)
set_option maxHeartbeats 4000000 in
set_option maxRecDepth 100000 in
theorem w_X4_takes (Γ0 : bG) (l0 : Launch) {s0 st' : bS} {v a0 a1 : Int} (h : F_X4_takes s0 a0 a1 = some (st', v)) : bCt Γ0 l0 yX4_takes cX4_takes 3 (some (.object "EditsMeet$Part")) 8 194 [(2, a0), (0, a1)] s0 st' (some (2, v)) := by
  refine b_ent (own := RX4) (by decide +kernel) rfl (Nat.le_of_ble_eq_true rfl) (L := [(0, (2, a0)), (1, (0, a1))]) rfl ?_
  intro κ hκ hi hf
  unfold F_X4_takes at h
  refine r_aload_n hκ 0 rfl rfl dX4_takes_0 ?_
  obtain ⟨h1, h⟩ := bck_i h
  obtain ⟨s1, v1, h2, h⟩ := bcl_i h
  refine r_callV hκ (n' := 0) (index := 34) (w_X4_here Γ0 l0 h2) (lw_V q1734 q1735 q1736 q136 q1737) (by decide +kernel) (t := 4) h1 rfl rfl (by decide) rfl (Nat.le_of_ble_eq_true rfl) dX4_takes_1 ?_
  refine r_aload_n hκ 0 rfl rfl dX4_takes_4 ?_
  obtain ⟨h3, h⟩ := bck_i h
  refine r_get hκ (t := 4) (k := 2) (r := 124) h3 rfl in_X4 (by decide) rfl q370 (Or.inl rfl) dX4_takes_5 ?_
  refine r_aload_n hκ 0 rfl rfl dX4_takes_8 ?_
  obtain ⟨h4, h⟩ := bck_i h
  refine r_get hκ (t := 4) (k := 2) (r := 124) h4 rfl in_X4 (by decide) rfl q370 (Or.inl rfl) dX4_takes_9 ?_
  refine r_iload_n hκ 1 rfl rfl dX4_takes_12 ?_
  refine r_iadd hκ dX4_takes_13 ?_
  obtain ⟨s2, v2, h5, h⟩ := bcl_i h
  refine r_seq (A := bJ κ s2 19 [(0, (2, a0)), (1, (0, a1))] [(2, v2)]) ?_ (fun k0 => ?_)
  case refine_2 =>
    by_cases h6 : bg s1 0 v1 0 = 6
    · have hq0 := (bte_i h5).1 h6
      exact r_callF hκ (n' := 2) (index := 49) (C := "EditsMeet$Keep") (w_X6_piece Γ0 l0 hq0) (lw_app (lw_l4 q1746 q1785 q1751 q138) (lw_meth q1753)) (by decide +kernel) (by decide +kernel) (t := 5) h6 rfl rfl (by decide) rfl (Nat.le_of_ble_eq_true rfl) dX4_takes_14 k0
    replace h5 := (bte_i h5).2 h6
    by_cases h7 : bg s1 0 v1 0 = 15
    · have hq0 := (bte_i h5).1 h7
      exact r_callF hκ (n' := 2) (index := 49) (C := "EditsMeet$Delete") (w_X6_piece Γ0 l0 hq0) (lw_app (lw_l4 q1746 q1749 q1751 q138) (lw_meth q1753)) (by decide +kernel) (by decide +kernel) (t := 14) h7 rfl rfl (by decide) rfl (Nat.le_of_ble_eq_true rfl) dX4_takes_14 k0
    replace h5 := (bte_i h5).2 h7
    by_cases h8 : bg s1 0 v1 0 = 16
    · have hq0 := (bte_i h5).1 h8
      exact r_callF hκ (n' := 2) (index := 49) (C := "EditsMeet$Insert") (w_X17_piece Γ0 l0 hq0) (lw_app (lw_l4 q1746 q1755 q1757 q165) (lw_meth q1759)) (by decide +kernel) (by decide +kernel) (t := 15) h8 rfl rfl (by decide) rfl (Nat.le_of_ble_eq_true rfl) dX4_takes_14 k0
    replace h5 := (bte_i h5).2 h8
    by_cases h9 : bg s1 0 v1 0 = 17
    · have hq0 := (bte_i h5).1 h9
      exact r_callF hκ (n' := 2) (index := 49) (C := "EditsMeet$Mark") (w_X6_piece Γ0 l0 hq0) (lw_app (lw_l4 q1746 q1787 q1751 q138) (lw_meth q1753)) (by decide +kernel) (by decide +kernel) (t := 16) h9 rfl rfl (by decide) rfl (Nat.le_of_ble_eq_true rfl) dX4_takes_14 k0
    replace h5 := (bte_i h5).2 h9
    cases h5
  refine r_astore_n hκ (L2 := [(2, (2, v2)), (0, (2, a0)), (1, (0, a1))]) (by decide) rfl rfl dX4_takes_19 ?_
  refine r_aload_n hκ 1 rfl rfl dX4_takes_20 ?_
  refine r_iload_n hκ 2 rfl rfl dX4_takes_21 ?_
  obtain ⟨h10, h⟩ := bck_i h
  obtain ⟨s3, v3, h11, h⟩ := bcl_i h
  refine r_callV hκ (n' := 1) (index := 53) (w_X4_skips Γ0 l0 h11) (lw_V q1789 q1790 q1791 q136 q1792) (by decide +kernel) (t := 4) h10 rfl rfl (by decide) rfl (Nat.le_of_ble_eq_true rfl) dX4_takes_22 ?_
  refine r_aload_n hκ 0 rfl rfl dX4_takes_25 ?_
  exact r_aretH hκ hf h rt_o dX4_takes_26
/-- EditsMeet$Goes.next()LEditsMeet$Part; -/
def F_X4_next_2 (s0 : bS) (a0 : Int) : Option (bS × Int) :=
  bck (bg s0 0 a0 0 = 5) <|
  bcl (F_X4_left s0 a0) fun s1 v1 =>
  bck (bg s1 0 a0 0 = 5) <|
  bcl (F_X4_takes s1 a0 v1) fun s2 v2 =>
  some (s2, v2)
set_option maxHeartbeats 4000000 in
set_option maxRecDepth 100000 in
theorem w_X4_next_2 (Γ0 : bG) (l0 : Launch) {s0 st' : bS} {v a0 : Int} (h : F_X4_next_2 s0 a0 = some (st', v)) : bCt Γ0 l0 yX4_next_2 cX4_next_2 1 (some (.object "EditsMeet$Part")) 9 216 [(2, a0)] s0 st' (some (2, v)) := by
  refine b_ent (own := RX4) (by decide +kernel) rfl (Nat.le_of_ble_eq_true rfl) (L := [(0, (2, a0))]) rfl ?_
  intro κ hκ hi hf
  unfold F_X4_next_2 at h
  refine r_aload_n hκ 0 rfl rfl dX4_next_2_0 ?_
  refine r_aload_n hκ 0 rfl rfl dX4_next_2_1 ?_
  obtain ⟨h1, h⟩ := bck_i h
  obtain ⟨s1, v1, h2, h⟩ := bcl_i h
  refine r_callV hκ (n' := 0) (index := 57) (w_X4_left Γ0 l0 h2) (lw_V q1730 q1731 q1732 q136 q1733) (by decide +kernel) (t := 4) h1 rfl rfl (by decide) rfl (Nat.le_of_ble_eq_true rfl) dX4_next_2_2 ?_
  obtain ⟨h3, h⟩ := bck_i h
  obtain ⟨s2, v2, h4, h⟩ := bcl_i h
  refine r_callV hκ (n' := 1) (index := 60) (w_X4_takes Γ0 l0 h4) (lw_V q1741 q1742 q1743 q136 q1744) (by decide +kernel) (t := 4) h3 rfl rfl (by decide) rfl (Nat.le_of_ble_eq_true rfl) dX4_next_2_5 ?_
  exact r_aretH hκ hf h rt_o dX4_next_2_8
/-- EditsMeet$Goes.next()Ljava/lang/Object; -/
def F_X4_next (s0 : bS) (a0 : Int) : Option (bS × Int) :=
  bck (bg s0 0 a0 0 = 5) <|
  bcl (F_X4_next_2 s0 a0) fun s1 v1 =>
  some (s1, v1)
set_option maxHeartbeats 4000000 in
set_option maxRecDepth 100000 in
theorem w_X4_next (Γ0 : bG) (l0 : Launch) {s0 st' : bS} {v a0 : Int} (h : F_X4_next s0 a0 = some (st', v)) : bCt Γ0 l0 yX4_next cX4_next 1 (some (.object "java/lang/Object")) 10 236 [(2, a0)] s0 st' (some (2, v)) := by
  refine b_ent (own := RX4) (by decide +kernel) rfl (Nat.le_of_ble_eq_true rfl) (L := [(0, (2, a0))]) rfl ?_
  intro κ hκ hi hf
  unfold F_X4_next at h
  refine r_aload_n hκ 0 rfl rfl dX4_next_0 ?_
  obtain ⟨h1, h⟩ := bck_i h
  obtain ⟨s1, v1, h2, h⟩ := bcl_i h
  refine r_callV hκ (n' := 0) (index := 63) (w_X4_next_2 Γ0 l0 h2) (lw_V q1726 q1727 q1728 q136 q1729) (by decide +kernel) (t := 4) h1 rfl rfl (by decide) rfl (Nat.le_of_ble_eq_true rfl) dX4_next_1 ?_
  exact r_aretH hκ hf h rt_o dX4_next_4
/-- EditsMeet$Delete.spells(Ljava/lang/StringBuilder;)V -/
def F_X16_spells (s0 : bS) (a0 a1 : Int) : Option (bS × Int) :=
  bck (bg s0 0 a1 0 = 19) <|
  bcl (F_J1_append_2 s0 a1 45) fun s1 v1 =>
  bck (bg s1 0 a0 0 = 15) <|
  bcl (F_X6_n s1 a0) fun s2 v2 =>
  bck (bg s2 0 v1 0 = 19) <|
  bcl (F_J1_append_3 s2 v1 v2) fun s3 v3 =>
  some (s3, 0)
set_option maxHeartbeats 4000000 in
set_option maxRecDepth 100000 in
theorem w_X16_spells (Γ0 : bG) (l0 : Launch) {s0 st' : bS} {v a0 a1 : Int} (h : F_X16_spells s0 a0 a1 = some (st', v)) : bCt Γ0 l0 yX16_spells cX16_spells 2 none 6 135 [(2, a0), (2, a1)] s0 st' none := by
  refine b_ent (own := RX16) (by decide +kernel) rfl (Nat.le_of_ble_eq_true rfl) (L := [(0, (2, a0)), (1, (2, a1))]) rfl ?_
  intro κ hκ hi hf
  unfold F_X16_spells at h
  refine r_aload_n hκ 1 rfl rfl dX16_spells_0 ?_
  refine r_bipush hκ (by decide) dX16_spells_1 ?_
  obtain ⟨h1, h⟩ := bck_i h
  obtain ⟨s1, v1, h2, h⟩ := bcl_i h
  refine r_callV hκ (n' := 1) (index := 17) (w_J1_append_2 Γ0 l0 h2) (lw_V q1984 q1114 q1115 q125 q1116) (by decide +kernel) (t := 18) h1 rfl rfl (by decide) rfl (Nat.le_of_ble_eq_true rfl) dX16_spells_3 ?_
  refine r_aload_n hκ 0 rfl rfl dX16_spells_6 ?_
  obtain ⟨h3, h⟩ := bck_i h
  obtain ⟨s2, v2, h4, h⟩ := bcl_i h
  refine r_callU hκ (index := 23) (C := "EditsMeet$Delete") (owner := "EditsMeet$Over") (n' := 0) (w_X6_n Γ0 l0 h4) (fun R s args hts hRR => va_cwU 0 hts (lw_app (lw_l5 q1985 q969 q971 q865 q138) (lw_meth q867)) rfl rfl rfl rfl (by decide +kernel) hRR) (t := 14) h3 rfl rfl (by decide) rfl (Nat.le_of_ble_eq_true rfl) dX16_spells_7 ?_
  obtain ⟨h5, h⟩ := bck_i h
  obtain ⟨s3, v3, h6, h⟩ := bcl_i h
  refine r_callV hκ (n' := 1) (index := 28) (w_J1_append_3 Γ0 l0 h6) (lw_V q1986 q1836 q1837 q125 q1838) (by decide +kernel) (t := 18) h5 rfl rfl (by decide) rfl (Nat.le_of_ble_eq_true rfl) dX16_spells_10 ?_
  refine r_pop hκ (bd_cat2k _) dX16_spells_13 ?_
  exact r_vretH hκ hf h dX16_spells_14
/-- EditsMeet$Insert.spells(Ljava/lang/StringBuilder;)V -/
def F_X17_spells (s0 : bS) (a0 a1 : Int) : Option (bS × Int) :=
  bck (bg s0 0 a1 0 = 19) <|
  bcl (F_J1_append_2 s0 a1 43) fun s1 v1 =>
  bck (bg s1 0 a0 0 = 16) <|
  bck (bg s1 0 v1 0 = 19) <|
  bcl (F_J1_append s1 v1 (bg s1 386 a0 0)) fun s2 v2 =>
  some (s2, 0)
set_option maxHeartbeats 4000000 in
set_option maxRecDepth 100000 in
theorem w_X17_spells (Γ0 : bG) (l0 : Launch) {s0 st' : bS} {v a0 a1 : Int} (h : F_X17_spells s0 a0 a1 = some (st', v)) : bCt Γ0 l0 yX17_spells cX17_spells 2 none 7 156 [(2, a0), (2, a1)] s0 st' none := by
  refine b_ent (own := RX17) (by decide +kernel) rfl (Nat.le_of_ble_eq_true rfl) (L := [(0, (2, a0)), (1, (2, a1))]) rfl ?_
  intro κ hκ hi hf
  unfold F_X17_spells at h
  refine r_aload_n hκ 1 rfl rfl dX17_spells_0 ?_
  refine r_bipush hκ (by decide) dX17_spells_1 ?_
  obtain ⟨h1, h⟩ := bck_i h
  obtain ⟨s1, v1, h2, h⟩ := bcl_i h
  refine r_callV hκ (n' := 1) (index := 46) (w_J1_append_2 Γ0 l0 h2) (lw_V q1992 q1114 q1115 q125 q1116) (by decide +kernel) (t := 18) h1 rfl rfl (by decide) rfl (Nat.le_of_ble_eq_true rfl) dX17_spells_3 ?_
  refine r_aload_n hκ 0 rfl rfl dX17_spells_6 ?_
  obtain ⟨h3, h⟩ := bck_i h
  refine r_get hκ (t := 15) (k := 0) (r := 386) h3 rfl in_X17 (by decide) rfl q1317 (Or.inl rfl) dX17_spells_7 ?_
  obtain ⟨h4, h⟩ := bck_i h
  obtain ⟨s2, v2, h5, h⟩ := bcl_i h
  refine r_callV hκ (n' := 1) (index := 38) (w_J1_append Γ0 l0 h5) (lw_V q1534 q1015 q1016 q125 q1017) (by decide +kernel) (t := 18) h4 rfl rfl (by decide) rfl (Nat.le_of_ble_eq_true rfl) dX17_spells_10 ?_
  refine r_pop hκ (bd_cat2k _) dX17_spells_13 ?_
  exact r_vretH hκ hf h dX17_spells_14
/-- EditsMeet$Mark.spells(Ljava/lang/StringBuilder;)V -/
def F_X18_spells_r (b : Nat) (x0 x1 x2 x3 : Int) (s0 : bS) : Option (bS × Int) :=
  match b with
  | 0 =>
    bck (bg s0 0 x3 0 = 19) <|
    bcl (F_J1_append_2 s0 x3 x2) fun s1 v1 =>
    bck (bg s1 0 x0 0 = 17) <|
    bcl (F_X6_n s1 x0) fun s2 v2 =>
    bck (bg s2 0 v1 0 = 19) <|
    bcl (F_J1_append_3 s2 v1 v2) fun s3 v3 =>
    bck (bg s3 0 v3 0 = 19) <|
    bcl (F_J1_append_2 s3 v3 46) fun s4 v4 =>
    bck (bg s4 0 x0 0 = 17) <|
    bte (i32 (bg s4 392 x0 0) = 0)
    (bck (bg s4 0 x0 0 = 17) <|
    F_X18_spells_r 1 x0 x1 (bg s4 396 x0 0) v4 s4)
    (bck (bg s4 0 x0 0 = 17) <|
    F_X18_spells_r 1 x0 x1 (bg s4 392 x0 0) v4 s4)
  | 1 =>
    bck (bg s0 0 x3 0 = 19) <|
    bcl (F_J1_append_3 s0 x3 x2) fun s5 v5 =>
    bck (bg s5 0 x0 0 = 17) <|
    bte (i32 (bg s5 392 x0 0) = 0)
    (some (s5, 0))
    (bck (bg s5 0 x0 0 = 17) <|
    bte (i32 (bg s5 396 x0 0) = 0)
    (some (s5, 0))
    (bck (bg s5 0 x1 0 = 19) <|
    bcl (F_J1_append_2 s5 x1 95) fun s6 v6 =>
    bck (bg s6 0 x0 0 = 17) <|
    bck (bg s6 0 v6 0 = 19) <|
    bcl (F_J1_append_3 s6 v6 (bg s6 396 x0 0)) fun s7 v7 =>
    some (s7, 0)))
  | _ => none
partial_fixpoint
def F_X18_spells (s0 : bS) (a0 a1 : Int) : Option (bS × Int) :=
  bck (bg s0 0 a0 0 = 17) <|
  bte (i32 (bg s0 392 a0 0) = 0)
  (F_X18_spells_r 0 a0 a1 95 a1 s0)
  (F_X18_spells_r 0 a0 a1 94 a1 s0)
set_option maxHeartbeats 4000000 in
set_option maxRecDepth 100000 in
set_option synthInstance.maxHeartbeats 4000000 in
theorem w_X18_spells_r {Γ0 : bG} {l0 : Launch} {κ : bK} {st' : bS} {v : Int} (hκ : bOk κ Γ0 l0 cX18_spells RX18 2 6 135) (hi : bIn κ yX18_spells) (hf : bFin κ none st' none) (b : Nat) (x0 x1 x2 x3 : Int) (s0 : bS) (h : F_X18_spells_r b x0 x1 x2 x3 s0 = some (st', v)) : match (generalizing := false) b with | 0 => bJ κ s0 15 [(0, (2, x0)), (1, (2, x1))] [(0, x2), (2, x3)] | 1 => bJ κ s0 48 [(0, (2, x0)), (1, (2, x1))] [(0, x2), (2, x3)] | _ => True := by
  refine F_X18_spells_r.partial_correctness x0 x1 (fun b x2 x3 s0 r => r = (st', v) → match (generalizing := false) b with | 0 => bJ κ s0 15 [(0, (2, x0)), (1, (2, x1))] [(0, x2), (2, x3)] | 1 => bJ κ s0 48 [(0, (2, x0)), (1, (2, x1))] [(0, x2), (2, x3)] | _ => True) ?_ b x2 x3 s0 _ h rfl
  intro f' ih b x2 x3 s0 r h hr
  subst hr
  match b, h with
  | 0, h =>
      obtain ⟨h3, h⟩ := bck_i h
      obtain ⟨s1, v1, h4, h⟩ := bcl_i h
      refine r_callV hκ (n' := 1) (index := 26) (w_J1_append_2 Γ0 l0 h4) (lw_V q2009 q1114 q1115 q125 q1116) (by decide +kernel) (t := 18) h3 rfl rfl (by decide) rfl (Nat.le_of_ble_eq_true rfl) dX18_spells_15 ?_
      refine r_aload_n hκ 0 rfl rfl dX18_spells_18 ?_
      obtain ⟨h5, h⟩ := bck_i h
      obtain ⟨s2, v2, h6, h⟩ := bcl_i h
      refine r_callU hκ (index := 32) (C := "EditsMeet$Mark") (owner := "EditsMeet$Over") (n' := 0) (w_X6_n Γ0 l0 h6) (fun R s args hts hRR => va_cwU 0 hts (lw_app (lw_l5 q2010 q2011 q2012 q865 q138) (lw_meth q867)) rfl rfl rfl rfl (by decide +kernel) hRR) (t := 16) h5 rfl rfl (by decide) rfl (Nat.le_of_ble_eq_true rfl) dX18_spells_19 ?_
      obtain ⟨h7, h⟩ := bck_i h
      obtain ⟨s3, v3, h8, h⟩ := bcl_i h
      refine r_callV hκ (n' := 1) (index := 35) (w_J1_append_3 Γ0 l0 h8) (lw_V q2013 q1836 q1837 q125 q1838) (by decide +kernel) (t := 18) h7 rfl rfl (by decide) rfl (Nat.le_of_ble_eq_true rfl) dX18_spells_22 ?_
      refine r_bipush hκ (by decide) dX18_spells_25 ?_
      obtain ⟨h9, h⟩ := bck_i h
      obtain ⟨s4, v4, h10, h⟩ := bcl_i h
      refine r_callV hκ (n' := 1) (index := 26) (w_J1_append_2 Γ0 l0 h10) (lw_V q2009 q1114 q1115 q125 q1116) (by decide +kernel) (t := 18) h9 rfl rfl (by decide) rfl (Nat.le_of_ble_eq_true rfl) dX18_spells_27 ?_
      refine r_aload_n hκ 0 rfl rfl dX18_spells_30 ?_
      obtain ⟨h11, h⟩ := bck_i h
      refine r_get hκ (t := 16) (k := 1) (r := 392) h11 rfl in_X18 (by decide) rfl q1346 (Or.inl rfl) dX18_spells_31 ?_
      refine r_if_ne hκ (tgt := 44) (by decide) dX18_spells_34 (fun h12 => ?_) (fun h12 => ?_)
      · replace h := (bte_i h).2 h12
        refine r_aload_n hκ 0 rfl rfl dX18_spells_44 ?_
        obtain ⟨h13, h⟩ := bck_i h
        refine r_get hκ (t := 16) (k := 1) (r := 392) h13 rfl in_X18 (by decide) rfl q1346 (Or.inl rfl) dX18_spells_45 ?_
        exact r_sub [0, 1] rfl (ih 1 _ _ _ _ h rfl)
      · replace h := (bte_i h).1 h12
        refine r_aload_n hκ 0 rfl rfl dX18_spells_37 ?_
        obtain ⟨h14, h⟩ := bck_i h
        refine r_get hκ (t := 16) (k := 2) (r := 396) h14 rfl in_X18 (by decide) rfl q1347 (Or.inl rfl) dX18_spells_38 ?_
        refine r_goto hκ (tgt := 48) (by decide) dX18_spells_41 ?_
        exact r_sub [0, 1] rfl (ih 1 _ _ _ _ h rfl)
  | 1, h =>
      obtain ⟨h15, h⟩ := bck_i h
      obtain ⟨s5, v5, h16, h⟩ := bcl_i h
      refine r_callV hκ (n' := 1) (index := 35) (w_J1_append_3 Γ0 l0 h16) (lw_V q2013 q1836 q1837 q125 q1838) (by decide +kernel) (t := 18) h15 rfl rfl (by decide) rfl (Nat.le_of_ble_eq_true rfl) dX18_spells_48 ?_
      refine r_pop hκ (bd_cat2k _) dX18_spells_51 ?_
      refine r_aload_n hκ 0 rfl rfl dX18_spells_52 ?_
      obtain ⟨h17, h⟩ := bck_i h
      refine r_get hκ (t := 16) (k := 1) (r := 392) h17 rfl in_X18 (by decide) rfl q1346 (Or.inl rfl) dX18_spells_53 ?_
      refine r_if_eq hκ (tgt := 80) (by decide) dX18_spells_56 (fun h18 => ?_) (fun h18 => ?_)
      · replace h := (bte_i h).1 h18
        exact r_vretH hκ hf h dX18_spells_80
      · replace h := (bte_i h).2 h18
        refine r_aload_n hκ 0 rfl rfl dX18_spells_59 ?_
        obtain ⟨h19, h⟩ := bck_i h
        refine r_get hκ (t := 16) (k := 2) (r := 396) h19 rfl in_X18 (by decide) rfl q1347 (Or.inl rfl) dX18_spells_60 ?_
        refine r_if_eq hκ (tgt := 80) (by decide) dX18_spells_63 (fun h20 => ?_) (fun h20 => ?_)
        · replace h := (bte_i h).1 h20
          exact r_vretH hκ hf h dX18_spells_80
        · replace h := (bte_i h).2 h20
          refine r_aload_n hκ 1 rfl rfl dX18_spells_66 ?_
          refine r_bipush hκ (by decide) dX18_spells_67 ?_
          obtain ⟨h21, h⟩ := bck_i h
          obtain ⟨s6, v6, h22, h⟩ := bcl_i h
          refine r_callV hκ (n' := 1) (index := 26) (w_J1_append_2 Γ0 l0 h22) (lw_V q2009 q1114 q1115 q125 q1116) (by decide +kernel) (t := 18) h21 rfl rfl (by decide) rfl (Nat.le_of_ble_eq_true rfl) dX18_spells_69 ?_
          refine r_aload_n hκ 0 rfl rfl dX18_spells_72 ?_
          obtain ⟨h23, h⟩ := bck_i h
          refine r_get hκ (t := 16) (k := 2) (r := 396) h23 rfl in_X18 (by decide) rfl q1347 (Or.inl rfl) dX18_spells_73 ?_
          obtain ⟨h24, h⟩ := bck_i h
          obtain ⟨s7, v7, h25, h⟩ := bcl_i h
          refine r_callV hκ (n' := 1) (index := 35) (w_J1_append_3 Γ0 l0 h25) (lw_V q2013 q1836 q1837 q125 q1838) (by decide +kernel) (t := 18) h24 rfl rfl (by decide) rfl (Nat.le_of_ble_eq_true rfl) dX18_spells_76 ?_
          refine r_pop hκ (bd_cat2k _) dX18_spells_79 ?_
          exact r_vretH hκ hf h dX18_spells_80
  | b + 2, h => trivial
set_option maxHeartbeats 4000000 in
set_option maxRecDepth 100000 in
theorem w_X18_spells (Γ0 : bG) (l0 : Launch) {s0 st' : bS} {v a0 a1 : Int} (h : F_X18_spells s0 a0 a1 = some (st', v)) : bCt Γ0 l0 yX18_spells cX18_spells 2 none 6 135 [(2, a0), (2, a1)] s0 st' none := by
  refine b_ent (own := RX18) (by decide +kernel) rfl (Nat.le_of_ble_eq_true rfl) (L := [(0, (2, a0)), (1, (2, a1))]) rfl ?_
  intro κ hκ hi hf
  unfold F_X18_spells at h
  refine r_aload_n hκ 1 rfl rfl dX18_spells_0 ?_
  refine r_aload_n hκ 0 rfl rfl dX18_spells_1 ?_
  obtain ⟨h1, h⟩ := bck_i h
  refine r_get hκ (t := 16) (k := 1) (r := 392) h1 rfl in_X18 (by decide) rfl q1346 (Or.inl rfl) dX18_spells_2 ?_
  refine r_if_ne hκ (tgt := 13) (by decide) dX18_spells_5 (fun h2 => ?_) (fun h2 => ?_)
  · replace h := (bte_i h).2 h2
    refine r_bipush hκ (by decide) dX18_spells_13 ?_
    exact r_sub [0, 1] rfl (w_X18_spells_r hκ hi hf 0 _ _ _ _ _ h)
  · replace h := (bte_i h).1 h2
    refine r_bipush hκ (by decide) dX18_spells_8 ?_
    refine r_goto hκ (tgt := 15) (by decide) dX18_spells_10 ?_
    exact r_sub [0, 1] rfl (w_X18_spells_r hκ hi hf 0 _ _ _ _ _ h)
/-- EditsMeet$Keep.spells(Ljava/lang/StringBuilder;)V -/
def F_X7_spells (s0 : bS) (a0 a1 : Int) : Option (bS × Int) :=
  bck (bg s0 0 a1 0 = 19) <|
  bcl (F_J1_append_2 s0 a1 61) fun s1 v1 =>
  bcl (bte (bg s1 0 a0 0 = 6) (F_X6_n s1 a0) (bte (bg s1 0 a0 0 = 17) (F_X6_n s1 a0) (none))) fun s2 v2 =>
  bck (bg s2 0 v1 0 = 19) <|
  bcl (F_J1_append_3 s2 v1 v2) fun s3 v3 =>
  some (s3, 0)
set_option maxHeartbeats 4000000 in
set_option maxRecDepth 100000 in
theorem w_X7_spells (Γ0 : bG) (l0 : Launch) {s0 st' : bS} {v a0 a1 : Int} (h : F_X7_spells s0 a0 a1 = some (st', v)) : bCt Γ0 l0 yX7_spells cX7_spells 2 none 6 135 [(2, a0), (2, a1)] s0 st' none := by
  refine b_ent (own := RX7) (by decide +kernel) rfl (Nat.le_of_ble_eq_true rfl) (L := [(0, (2, a0)), (1, (2, a1))]) rfl ?_
  intro κ hκ hi hf
  unfold F_X7_spells at h
  refine r_aload_n hκ 1 rfl rfl dX7_spells_0 ?_
  refine r_bipush hκ (by decide) dX7_spells_1 ?_
  obtain ⟨h1, h⟩ := bck_i h
  obtain ⟨s1, v1, h2, h⟩ := bcl_i h
  refine r_callV hκ (n' := 1) (index := 13) (w_J1_append_2 Γ0 l0 h2) (lw_V q1998 q1114 q1115 q125 q1116) (by decide +kernel) (t := 18) h1 rfl rfl (by decide) rfl (Nat.le_of_ble_eq_true rfl) dX7_spells_3 ?_
  refine r_aload_n hκ 0 rfl rfl dX7_spells_6 ?_
  obtain ⟨s2, v2, h3, h⟩ := bcl_i h
  refine r_seq (A := bJ κ s2 10 [(0, (2, a0)), (1, (2, a1))] [(0, v2), (2, v1)]) ?_ (fun k0 => ?_)
  case refine_2 =>
    by_cases h4 : bg s1 0 a0 0 = 6
    · have hq0 := (bte_i h3).1 h4
      exact r_callU hκ (index := 19) (C := "EditsMeet$Keep") (owner := "EditsMeet$Over") (n' := 0) (w_X6_n Γ0 l0 hq0) (fun R s args hts hRR => va_cwU 0 hts (lw_app (lw_l5 q1999 q2000 q2001 q865 q138) (lw_meth q867)) rfl rfl rfl rfl (by decide +kernel) hRR) (t := 5) h4 rfl rfl (by decide) rfl (Nat.le_of_ble_eq_true rfl) dX7_spells_7 k0
    replace h3 := (bte_i h3).2 h4
    by_cases h5 : bg s1 0 a0 0 = 17
    · have hq0 := (bte_i h3).1 h5
      exact r_callU hκ (index := 19) (C := "EditsMeet$Mark") (owner := "EditsMeet$Over") (n' := 0) (w_X6_n Γ0 l0 hq0) (fun R s args hts hRR => va_cwU 0 hts (lw_app (lw_l5 q1999 q2000 q2002 q865 q138) (lw_meth q867)) rfl rfl rfl rfl (by decide +kernel) hRR) (t := 16) h5 rfl rfl (by decide) rfl (Nat.le_of_ble_eq_true rfl) dX7_spells_7 k0
    replace h3 := (bte_i h3).2 h5
    cases h3
  obtain ⟨h6, h⟩ := bck_i h
  obtain ⟨s3, v3, h7, h⟩ := bcl_i h
  refine r_callV hκ (n' := 1) (index := 25) (w_J1_append_3 Γ0 l0 h7) (lw_V q2003 q1836 q1837 q125 q1838) (by decide +kernel) (t := 18) h6 rfl rfl (by decide) rfl (Nat.le_of_ble_eq_true rfl) dX7_spells_10 ?_
  refine r_pop hκ (bd_cat2k _) dX7_spells_13 ?_
  exact r_vretH hκ hf h dX7_spells_14
/-- EditsMeet$Edit.spelled()Ljava/lang/String; -/
def F_X8_spelled_r (b : Nat) (x0 x1 : Int) (s0 : bS) : Option (bS × Int) :=
  match b with
  | 0 =>
    bcl (bte (bg s0 0 x1 0 = 5) (F_X4_hasNext s0 x1) (bte (bg s0 0 x1 0 = 24) (F_J27_hasNext s0 x1) (bte (bg s0 0 x1 0 = 25) (F_J28_hasNext s0 x1) (none)))) fun s4 v3 =>
    bte (i32 v3 = 0)
    (bck (bg s4 0 x0 0 = 19) <|
    bcl (F_J1_toString s4 x0) fun s5 v4 =>
    some (s5, v4))
    (bcl (bte (bg s4 0 x1 0 = 5) (F_X4_next s4 x1) (bte (bg s4 0 x1 0 = 24) (F_J27_next s4 x1) (bte (bg s4 0 x1 0 = 25) (F_J28_next s4 x1) (none)))) fun s6 v5 =>
    bck (v5 < 0 ∨ bg s6 0 v5 0 = 6 ∨ bg s6 0 v5 0 = 15 ∨ bg s6 0 v5 0 = 16 ∨ bg s6 0 v5 0 = 17) <|
    bcl (bte (bg s6 0 v5 0 = 6) (F_X7_spells s6 v5 x0) (bte (bg s6 0 v5 0 = 15) (F_X16_spells s6 v5 x0) (bte (bg s6 0 v5 0 = 16) (F_X17_spells s6 v5 x0) (bte (bg s6 0 v5 0 = 17) (F_X18_spells s6 v5 x0) (none))))) fun s7 v6 =>
    F_X8_spelled_r 0 x0 x1 s7)
  | _ => none
partial_fixpoint
def F_X8_spelled (s0 : bS) (a0 : Int) : Option (bS × Int) :=
  bck (bc s0 + 1 ≤ bCM ∧ bk s0 + 4 ≤ bKM) <|
  bst (bnw s0 19 0 4) fun s1 =>
  bck (bg s1 0 (bnx s0 : Int) 0 = 19) <|
  bcl (F_J1_init s1 (bnx s0 : Int)) fun s2 v1 =>
  bck (bg s2 0 a0 0 = 7) <|
  bcl (F_X8_iterator s2 a0) fun s3 v2 =>
  F_X8_spelled_r 0 (bnx s0 : Int) v2 s3
set_option maxHeartbeats 4000000 in
set_option maxRecDepth 100000 in
set_option synthInstance.maxHeartbeats 4000000 in
theorem w_X8_spelled_r {Γ0 : bG} {l0 : Launch} {κ : bK} {st' : bS} {v : Int} (hκ : bOk κ Γ0 l0 cX8_spelled RX8 4 11 256) (hi : bIn κ yX8_spelled) (hf : bFin κ (some (.object "java/lang/String")) st' (some (2, v))) (b : Nat) (x0 x1 : Int) (s0 : bS) (h : F_X8_spelled_r b x0 x1 s0 = some (st', v)) : match (generalizing := false) b with | 0 => bJ κ s0 13 [(1, (2, x0)), (2, (2, x1))] [] | _ => True := by
  refine F_X8_spelled_r.partial_correctness x0 x1 (fun b s0 r => r = (st', v) → match (generalizing := false) b with | 0 => bJ κ s0 13 [(1, (2, x0)), (2, (2, x1))] [] | _ => True) ?_ b s0 _ h rfl
  intro f' ih b s0 r h hr
  subst hr
  match b, h with
  | 0, h =>
      refine r_aload_n hκ 1 rfl rfl dX8_spelled_13 ?_
      obtain ⟨s4, v3, h6, h⟩ := bcl_i h
      refine r_seq (A := bJ κ s4 19 [(1, (2, x0)), (2, (2, x1))] [(0, v3)]) ?_ (fun k0 => ?_)
      case refine_2 =>
        by_cases h7 : bg s0 0 x1 0 = 5
        · have hq0 := (bte_i h6).1 h7
          exact r_callF hκ (n' := 0) (index := 137) (C := "EditsMeet$Goes") (w_X4_hasNext Γ0 l0 hq0) (lw_app (lw_l4 q1672 q1676 q1678 q136) (lw_meth q1680)) (by decide +kernel) (by decide +kernel) (t := 4) h7 rfl rfl (by decide) rfl (Nat.le_of_ble_eq_true rfl) dX8_spelled_14 k0
        replace h6 := (bte_i h6).2 h7
        by_cases h8 : bg s0 0 x1 0 = 24
        · have hq0 := (bte_i h6).1 h8
          exact r_callF hκ (n' := 0) (index := 137) (C := "java/util/LinkedList$DescendingIterator") (w_J27_hasNext Γ0 l0 hq0) (lw_app (lw_l4 q1672 q1702 q1704 q170) (lw_meth q1706)) (by decide +kernel) (by decide +kernel) (t := 23) h8 rfl rfl (by decide) rfl (Nat.le_of_ble_eq_true rfl) dX8_spelled_14 k0
        replace h6 := (bte_i h6).2 h8
        by_cases h9 : bg s0 0 x1 0 = 25
        · have hq0 := (bte_i h6).1 h9
          exact r_callF hκ (n' := 0) (index := 137) (C := "java/util/LinkedList$ListItr") (w_J28_hasNext Γ0 l0 hq0) (lw_app (lw_l4 q1672 q1712 q1714 q171) (lw_meth q1716)) (by decide +kernel) (by decide +kernel) (t := 24) h9 rfl rfl (by decide) rfl (Nat.le_of_ble_eq_true rfl) dX8_spelled_14 k0
        replace h6 := (bte_i h6).2 h9
        cases h6
      refine r_if_eq hκ (tgt := 42) (by decide) dX8_spelled_19 (fun h10 => ?_) (fun h10 => ?_)
      · replace h := (bte_i h).1 h10
        refine r_aload_n hκ 0 rfl rfl dX8_spelled_42 ?_
        obtain ⟨h11, h⟩ := bck_i h
        obtain ⟨s5, v4, h12, h⟩ := bcl_i h
        refine r_callV hκ (n' := 0) (index := 150) (w_J1_toString Γ0 l0 h12) (lw_V q2014 q1127 q1128 q125 q1129) (by decide +kernel) (t := 18) h11 rfl rfl (by decide) rfl (Nat.le_of_ble_eq_true rfl) dX8_spelled_43 ?_
        exact r_aretH hκ hf h rt_o dX8_spelled_46
      · replace h := (bte_i h).2 h10
        refine r_aload_n hκ 1 rfl rfl dX8_spelled_22 ?_
        obtain ⟨s6, v5, h13, h⟩ := bcl_i h
        refine r_seq (A := bJ κ s6 28 [(1, (2, x0)), (2, (2, x1))] [(2, v5)]) ?_ (fun k0 => ?_)
        case refine_2 =>
          by_cases h14 : bg s4 0 x1 0 = 5
          · have hq0 := (bte_i h13).1 h14
            exact r_callF hκ (n' := 0) (index := 142) (C := "EditsMeet$Goes") (w_X4_next Γ0 l0 hq0) (lw_app (lw_l4 q1718 q1721 q1723 q136) (lw_meth q1725)) (by decide +kernel) (by decide +kernel) (t := 4) h14 rfl rfl (by decide) rfl (Nat.le_of_ble_eq_true rfl) dX8_spelled_23 k0
          replace h13 := (bte_i h13).2 h14
          by_cases h15 : bg s4 0 x1 0 = 24
          · have hq0 := (bte_i h13).1 h15
            exact r_callF hκ (n' := 0) (index := 142) (C := "java/util/LinkedList$DescendingIterator") (w_J27_next Γ0 l0 hq0) (lw_app (lw_l4 q1718 q1955 q1957 q170) (lw_meth q1959)) (by decide +kernel) (by decide +kernel) (t := 23) h15 rfl rfl (by decide) rfl (Nat.le_of_ble_eq_true rfl) dX8_spelled_23 k0
          replace h13 := (bte_i h13).2 h15
          by_cases h16 : bg s4 0 x1 0 = 25
          · have hq0 := (bte_i h13).1 h16
            exact r_callF hκ (n' := 0) (index := 142) (C := "java/util/LinkedList$ListItr") (w_J28_next Γ0 l0 hq0) (lw_app (lw_l4 q1718 q1969 q1971 q171) (lw_meth q1973)) (by decide +kernel) (by decide +kernel) (t := 24) h16 rfl rfl (by decide) rfl (Nat.le_of_ble_eq_true rfl) dX8_spelled_23 k0
          replace h13 := (bte_i h13).2 h16
          cases h13
        obtain ⟨h17, h⟩ := bck_i h
        refine r_cast hκ q832 (Or.elim h17 (fun h17 => Or.inl h17) (fun h17 => Or.elim h17 (fun h17 => Or.inr ⟨5, _, h17, rfl, Or.inr (by decide +kernel)⟩) (fun h17 => Or.elim h17 (fun h17 => Or.inr ⟨14, _, h17, rfl, Or.inr (by decide +kernel)⟩) (fun h17 => Or.elim h17 (fun h17 => Or.inr ⟨15, _, h17, rfl, Or.inr (by decide +kernel)⟩) (fun h17 => Or.inr ⟨16, _, h17, rfl, Or.inr (by decide +kernel)⟩))))) dX8_spelled_28 ?_
        refine r_astore_n hκ (L2 := [(3, (2, v5)), (1, (2, x0)), (2, (2, x1))]) (by decide) rfl rfl dX8_spelled_31 ?_
        refine r_aload_n hκ 0 rfl rfl dX8_spelled_32 ?_
        refine r_aload_n hκ 1 rfl rfl dX8_spelled_33 ?_
        obtain ⟨s7, v6, h18, h⟩ := bcl_i h
        refine r_seq (A := bJ κ s7 39 [(3, (2, v5)), (1, (2, x0)), (2, (2, x1))] []) ?_ (fun k0 => ?_)
        case refine_2 =>
          by_cases h19 : bg s6 0 v5 0 = 6
          · have hq0 := (bte_i h18).1 h19
            exact r_callF hκ (n' := 1) (index := 146) (C := "EditsMeet$Keep") (w_X7_spells Γ0 l0 hq0) (lw_app (lw_l4 q1976 q1993 q1995 q139) (lw_meth q1997)) (by decide +kernel) (by decide +kernel) (t := 5) h19 rfl rfl (by decide) rfl (Nat.le_of_ble_eq_true rfl) dX8_spelled_34 k0
          replace h18 := (bte_i h18).2 h19
          by_cases h20 : bg s6 0 v5 0 = 15
          · have hq0 := (bte_i h18).1 h20
            exact r_callF hκ (n' := 1) (index := 146) (C := "EditsMeet$Delete") (w_X16_spells Γ0 l0 hq0) (lw_app (lw_l4 q1976 q1979 q1981 q164) (lw_meth q1983)) (by decide +kernel) (by decide +kernel) (t := 14) h20 rfl rfl (by decide) rfl (Nat.le_of_ble_eq_true rfl) dX8_spelled_34 k0
          replace h18 := (bte_i h18).2 h20
          by_cases h21 : bg s6 0 v5 0 = 16
          · have hq0 := (bte_i h18).1 h21
            exact r_callF hκ (n' := 1) (index := 146) (C := "EditsMeet$Insert") (w_X17_spells Γ0 l0 hq0) (lw_app (lw_l4 q1976 q1987 q1989 q165) (lw_meth q1991)) (by decide +kernel) (by decide +kernel) (t := 15) h21 rfl rfl (by decide) rfl (Nat.le_of_ble_eq_true rfl) dX8_spelled_34 k0
          replace h18 := (bte_i h18).2 h21
          by_cases h22 : bg s6 0 v5 0 = 17
          · have hq0 := (bte_i h18).1 h22
            exact r_callF hκ (n' := 1) (index := 146) (C := "EditsMeet$Mark") (w_X18_spells Γ0 l0 hq0) (lw_app (lw_l4 q1976 q2004 q2006 q166) (lw_meth q2008)) (by decide +kernel) (by decide +kernel) (t := 16) h22 rfl rfl (by decide) rfl (Nat.le_of_ble_eq_true rfl) dX8_spelled_34 k0
          replace h18 := (bte_i h18).2 h22
          cases h18
        refine r_goto hκ (tgt := 13) (by decide) dX8_spelled_39 ?_
        exact r_sub [1, 2] rfl (ih 0  _ _ h rfl)
  | b + 1, h => trivial
set_option maxHeartbeats 4000000 in
set_option maxRecDepth 100000 in
theorem w_X8_spelled (Γ0 : bG) (l0 : Launch) {s0 st' : bS} {v a0 : Int} (h : F_X8_spelled s0 a0 = some (st', v)) : bCt Γ0 l0 yX8_spelled cX8_spelled 4 (some (.object "java/lang/String")) 11 256 [(2, a0)] s0 st' (some (2, v)) := by
  refine b_ent (own := RX8) (by decide +kernel) rfl (Nat.le_of_ble_eq_true rfl) (L := [(0, (2, a0))]) rfl ?_
  intro κ hκ hi hf
  unfold F_X8_spelled at h
  obtain ⟨h1, h⟩ := bck_i h
  refine r_new hκ (t := 18) tyJ1 tyJ1_ok dfJ1 rfl in_J1 q1659 q200 q125 h1 dX8_spelled_0 (fun s1 es1 => ?_)
  replace h := bst_i h s1 es1
  refine r_dup hκ (bd_cat2k _) dX8_spelled_3 ?_
  obtain ⟨h2, h⟩ := bck_i h
  obtain ⟨s2, v1, h3, h⟩ := bcl_i h
  refine r_callI hκ (n' := 0) (index := 132) (w_J1_init Γ0 l0 h3) (lw_meth q203) q125 q1660 q202 rfl (by decide +kernel) (t := 18) h2 rfl rfl (by decide) rfl (Nat.le_of_ble_eq_true rfl) dX8_spelled_4 ?_
  refine r_astore_n hκ (L2 := [(1, (2, (bnx s0 : Int))), (0, (2, a0))]) (by decide) rfl rfl dX8_spelled_7 ?_
  refine r_aload_n hκ 1 rfl rfl dX8_spelled_8 ?_
  obtain ⟨h4, h⟩ := bck_i h
  obtain ⟨s3, v2, h5, h⟩ := bcl_i h
  refine r_callV hκ (n' := 0) (index := 133) (w_X8_iterator Γ0 l0 h5) (lw_V q1661 q1662 q1663 q140 q1664) (by decide +kernel) (t := 6) h4 rfl rfl (by decide) rfl (Nat.le_of_ble_eq_true rfl) dX8_spelled_9 ?_
  refine r_astore_n hκ (L2 := [(2, (2, v2)), (1, (2, (bnx s0 : Int))), (0, (2, a0))]) (by decide) rfl rfl dX8_spelled_12 ?_
  exact r_sub [1, 0] rfl (w_X8_spelled_r hκ hi hf 0 _ _ _ h)
/-- EditsMeet$Edit.empties()V -/
def F_X8_empties (s0 : bS) (a0 : Int) : Option (bS × Int) :=
  bck (bg s0 0 a0 0 = 7) <|
  bck (bg s0 0 (bg s0 134 a0 0) 0 = 21) <|
  bcl (F_J10_clear s0 (bg s0 134 a0 0)) fun s1 v1 =>
  bck ((bg s1 0 a0 0 = 7)) <|
  bst (bw s1 138 a0 0 (-1)) fun s2 =>
  bck ((bg s2 0 a0 0 = 7)) <|
  bst (bw s2 140 a0 0 0) fun s3 =>
  some (s3, 0)
set_option maxHeartbeats 4000000 in
set_option maxRecDepth 100000 in
theorem w_X8_empties (Γ0 : bG) (l0 : Launch) {s0 st' : bS} {v a0 : Int} (h : F_X8_empties s0 a0 = some (st', v)) : bCt Γ0 l0 yX8_empties cX8_empties 1 none 1 23 [(2, a0)] s0 st' none := by
  refine b_ent (own := RX8) (by decide +kernel) rfl (Nat.le_of_ble_eq_true rfl) (L := [(0, (2, a0))]) rfl ?_
  intro κ hκ hi hf
  unfold F_X8_empties at h
  refine r_aload_n hκ 0 rfl rfl dX8_empties_0 ?_
  obtain ⟨h1, h⟩ := bck_i h
  refine r_get hκ (t := 6) (k := 0) (r := 134) h1 rfl in_X8 (by decide) rfl q408 (Or.inl rfl) dX8_empties_1 ?_
  obtain ⟨h2, h⟩ := bck_i h
  obtain ⟨s1, v1, h3, h⟩ := bcl_i h
  refine r_callV hκ (n' := 0) (index := 25) (w_J10_clear Γ0 l0 h3) (lw_V q2059 q2060 q2061 q134 q2062) (by decide +kernel) (t := 20) h2 rfl rfl (by decide) rfl (Nat.le_of_ble_eq_true rfl) dX8_empties_4 ?_
  refine r_aload_n hκ 0 rfl rfl dX8_empties_7 ?_
  refine r_null hκ dX8_empties_8 ?_
  obtain ⟨h4, h⟩ := bck_i h
  refine r_put hκ (t := 6) (k := 1) (r := 138) (ty := (.object "EditsMeet$Over")) tyX8 tyX8_ok nmX8 h4 rfl in_X8 (by decide) rfl q409 (Or.inl rfl) rfl rfl rfl trivial (Or.inl (by decide)) dX8_empties_9 (fun s2 es2 => ?_)
  replace h := bst_i h s2 es2
  refine r_aload_n hκ 0 rfl rfl dX8_empties_12 ?_
  refine r_iconst hκ dX8_empties_13 ?_
  obtain ⟨h5, h⟩ := bck_i h
  refine r_put hκ (t := 6) (k := 2) (r := 140) (ty := .int) tyX8 tyX8_ok nmX8 h5 rfl in_X8 (by decide) rfl q410 (Or.inl rfl) rfl rfl rfl trivial (Or.inl (by decide)) dX8_empties_14 (fun s3 es3 => ?_)
  replace h := bst_i h s3 es3
  exact r_vretH hκ hf h dX8_empties_17
/-- EditsMeet$Goes.isDelete()Z -/
def F_X4_isDelete (s0 : bS) (a0 : Int) : Option (bS × Int) :=
  bck (bg s0 0 a0 0 = 5) <|
  bcl (F_X4_hasNext s0 a0) fun s1 v1 =>
  bte (i32 v1 = 0)
  (some (s1, 0))
  (bck (bg s1 0 a0 0 = 5) <|
  bcl (F_X4_here s1 a0) fun s2 v2 =>
  bcl (bte (bg s2 0 v2 0 = 6) (F_X5_deletes s2 v2) (bte (bg s2 0 v2 0 = 15) (F_X5_deletes s2 v2) (bte (bg s2 0 v2 0 = 16) (F_X5_deletes s2 v2) (bte (bg s2 0 v2 0 = 17) (F_X5_deletes s2 v2) (none))))) fun s3 v3 =>
  bte (i32 v3 = 0)
  (some (s3, 0))
  (some (s3, 1)))
set_option maxHeartbeats 4000000 in
set_option maxRecDepth 100000 in
theorem w_X4_isDelete (Γ0 : bG) (l0 : Launch) {s0 st' : bS} {v a0 : Int} (h : F_X4_isDelete s0 a0 = some (st', v)) : bCt Γ0 l0 yX4_isDelete cX4_isDelete 1 (some .boolean) 5 105 [(2, a0)] s0 st' (some (0, v)) := by
  refine b_ent (own := RX4) (by decide +kernel) rfl (Nat.le_of_ble_eq_true rfl) (L := [(0, (2, a0))]) rfl ?_
  intro κ hκ hi hf
  unfold F_X4_isDelete at h
  refine r_aload_n hκ 0 rfl rfl dX4_isDelete_0 ?_
  obtain ⟨h1, h⟩ := bck_i h
  obtain ⟨s1, v1, h2, h⟩ := bcl_i h
  refine r_callV hκ (n' := 0) (index := 30) (w_X4_hasNext Γ0 l0 h2) (lw_V q2069 q1678 q3600 q136 q1680) (by decide +kernel) (t := 4) h1 rfl rfl (by decide) rfl (Nat.le_of_ble_eq_true rfl) dX4_isDelete_1 ?_
  refine r_if_eq hκ (tgt := 23) (by decide) dX4_isDelete_4 (fun h3 => ?_) (fun h3 => ?_)
  · replace h := (bte_i h).1 h3
    refine r_iconst hκ dX4_isDelete_23 ?_
    exact r_iretH hκ hf h (nar_bool (by decide)) dX4_isDelete_24
  · replace h := (bte_i h).2 h3
    refine r_aload_n hκ 0 rfl rfl dX4_isDelete_7 ?_
    obtain ⟨h4, h⟩ := bck_i h
    obtain ⟨s2, v2, h5, h⟩ := bcl_i h
    refine r_callV hκ (n' := 0) (index := 34) (w_X4_here Γ0 l0 h5) (lw_V q1734 q1735 q1736 q136 q1737) (by decide +kernel) (t := 4) h4 rfl rfl (by decide) rfl (Nat.le_of_ble_eq_true rfl) dX4_isDelete_8 ?_
    obtain ⟨s3, v3, h6, h⟩ := bcl_i h
    refine r_seq (A := bJ κ s3 16 [(0, (2, a0))] [(0, v3)]) ?_ (fun k0 => ?_)
    case refine_2 =>
      by_cases h7 : bg s2 0 v2 0 = 6
      · have hq0 := (bte_i h6).1 h7
        exact r_callFD hκ (n' := 0) (index := 43) (C := "EditsMeet$Keep") (w_X5_deletes Γ0 l0 hq0) (lw_meth q1496) q2071 q1494 q137 (by decide +kernel) (by decide +kernel) (t := 5) h7 rfl rfl (by decide) rfl (Nat.le_of_ble_eq_true rfl) dX4_isDelete_11 k0
      replace h6 := (bte_i h6).2 h7
      by_cases h8 : bg s2 0 v2 0 = 15
      · have hq0 := (bte_i h6).1 h8
        exact r_callFD hκ (n' := 0) (index := 43) (C := "EditsMeet$Delete") (w_X5_deletes Γ0 l0 hq0) (lw_meth q1496) q2071 q1494 q137 (by decide +kernel) (by decide +kernel) (t := 14) h8 rfl rfl (by decide) rfl (Nat.le_of_ble_eq_true rfl) dX4_isDelete_11 k0
      replace h6 := (bte_i h6).2 h8
      by_cases h9 : bg s2 0 v2 0 = 16
      · have hq0 := (bte_i h6).1 h9
        exact r_callFD hκ (n' := 0) (index := 43) (C := "EditsMeet$Insert") (w_X5_deletes Γ0 l0 hq0) (lw_meth q1496) q2071 q1494 q137 (by decide +kernel) (by decide +kernel) (t := 15) h9 rfl rfl (by decide) rfl (Nat.le_of_ble_eq_true rfl) dX4_isDelete_11 k0
      replace h6 := (bte_i h6).2 h9
      by_cases h10 : bg s2 0 v2 0 = 17
      · have hq0 := (bte_i h6).1 h10
        exact r_callFD hκ (n' := 0) (index := 43) (C := "EditsMeet$Mark") (w_X5_deletes Γ0 l0 hq0) (lw_meth q1496) q2071 q1494 q137 (by decide +kernel) (by decide +kernel) (t := 16) h10 rfl rfl (by decide) rfl (Nat.le_of_ble_eq_true rfl) dX4_isDelete_11 k0
      replace h6 := (bte_i h6).2 h10
      cases h6
    refine r_if_eq hκ (tgt := 23) (by decide) dX4_isDelete_16 (fun h11 => ?_) (fun h11 => ?_)
    · replace h := (bte_i h).1 h11
      refine r_iconst hκ dX4_isDelete_23 ?_
      exact r_iretH hκ hf h (nar_bool (by decide)) dX4_isDelete_24
    · replace h := (bte_i h).2 h11
      refine r_iconst hκ dX4_isDelete_19 ?_
      refine r_goto hκ (tgt := 24) (by decide) dX4_isDelete_20 ?_
      exact r_iretH hκ hf h (nar_bool (by decide)) dX4_isDelete_24
