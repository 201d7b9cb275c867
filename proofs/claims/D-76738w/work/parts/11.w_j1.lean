/-! walks, printed by dec.py: 11.w_j1 -/
/-! fields at their start -/
theorem dfX0 : ∀ k, k < 8 → defaultValue (tyX0 k) = bval (bfr 0 k) (bdf (bfr 0 k)) := by
  intro k hk
  match k, hk with
  | 0, _ => rfl
  | 1, _ => rfl
  | 2, _ => rfl
  | 3, _ => rfl
  | 4, _ => rfl
  | 5, _ => rfl
  | 6, _ => rfl
  | 7, _ => rfl
  | k + 8, hk => exact absurd hk (by omega)
theorem dfX1 : ∀ k, k < 5 → defaultValue (tyX1 k) = bval (bfr 1 k) (bdf (bfr 1 k)) := by
  intro k hk
  match k, hk with
  | 0, _ => rfl
  | 1, _ => rfl
  | 2, _ => rfl
  | 3, _ => rfl
  | 4, _ => rfl
  | k + 5, hk => exact absurd hk (by omega)
theorem dfX2 : ∀ k, k < 2 → defaultValue (tyX2 k) = bval (bfr 2 k) (bdf (bfr 2 k)) := by
  intro k hk
  match k, hk with
  | 0, _ => rfl
  | 1, _ => rfl
  | k + 2, hk => exact absurd hk (by omega)
theorem dfX3 : ∀ k, k < 6 → defaultValue (tyX3 k) = bval (bfr 3 k) (bdf (bfr 3 k)) := by
  intro k hk
  match k, hk with
  | 0, _ => rfl
  | 1, _ => rfl
  | 2, _ => rfl
  | 3, _ => rfl
  | 4, _ => rfl
  | 5, _ => rfl
  | k + 6, hk => exact absurd hk (by omega)
theorem dfX4 : ∀ k, k < 3 → defaultValue (tyX4 k) = bval (bfr 4 k) (bdf (bfr 4 k)) := by
  intro k hk
  match k, hk with
  | 0, _ => rfl
  | 1, _ => rfl
  | 2, _ => rfl
  | k + 3, hk => exact absurd hk (by omega)
theorem dfX7 : ∀ k, k < 1 → defaultValue (tyX7 k) = bval (bfr 5 k) (bdf (bfr 5 k)) := by
  intro k hk
  match k, hk with
  | 0, _ => rfl
  | k + 1, hk => exact absurd hk (by omega)
theorem dfX8 : ∀ k, k < 3 → defaultValue (tyX8 k) = bval (bfr 6 k) (bdf (bfr 6 k)) := by
  intro k hk
  match k, hk with
  | 0, _ => rfl
  | 1, _ => rfl
  | 2, _ => rfl
  | k + 3, hk => exact absurd hk (by omega)
theorem dfX9 : ∀ k, k < 14 → defaultValue (tyX9 k) = bval (bfr 7 k) (bdf (bfr 7 k)) := by
  intro k hk
  match k, hk with
  | 0, _ => rfl
  | 1, _ => rfl
  | 2, _ => rfl
  | 3, _ => rfl
  | 4, _ => rfl
  | 5, _ => rfl
  | 6, _ => rfl
  | 7, _ => rfl
  | 8, _ => rfl
  | 9, _ => rfl
  | 10, _ => rfl
  | 11, _ => rfl
  | 12, _ => rfl
  | 13, _ => rfl
  | k + 14, hk => exact absurd hk (by omega)
theorem dfX10 : ∀ k, k < 2 → defaultValue (tyX10 k) = bval (bfr 8 k) (bdf (bfr 8 k)) := by
  intro k hk
  match k, hk with
  | 0, _ => rfl
  | 1, _ => rfl
  | k + 2, hk => exact absurd hk (by omega)
theorem dfX11 : ∀ k, k < 1 → defaultValue (tyX11 k) = bval (bfr 9 k) (bdf (bfr 9 k)) := by
  intro k hk
  match k, hk with
  | 0, _ => rfl
  | k + 1, hk => exact absurd hk (by omega)
theorem dfX12 : ∀ k, k < 33 → defaultValue (tyX12 k) = bval (bfr 10 k) (bdf (bfr 10 k)) := by
  intro k hk
  match k, hk with
  | 0, _ => rfl
  | 1, _ => rfl
  | 2, _ => rfl
  | 3, _ => rfl
  | 4, _ => rfl
  | 5, _ => rfl
  | 6, _ => rfl
  | 7, _ => rfl
  | 8, _ => rfl
  | 9, _ => rfl
  | 10, _ => rfl
  | 11, _ => rfl
  | 12, _ => rfl
  | 13, _ => rfl
  | 14, _ => rfl
  | 15, _ => rfl
  | 16, _ => rfl
  | 17, _ => rfl
  | 18, _ => rfl
  | 19, _ => rfl
  | 20, _ => rfl
  | 21, _ => rfl
  | 22, _ => rfl
  | 23, _ => rfl
  | 24, _ => rfl
  | 25, _ => rfl
  | 26, _ => rfl
  | 27, _ => rfl
  | 28, _ => rfl
  | 29, _ => rfl
  | 30, _ => rfl
  | 31, _ => rfl
  | 32, _ => rfl
  | k + 33, hk => exact absurd hk (by omega)
theorem dfX13 : ∀ k, k < 7 → defaultValue (tyX13 k) = bval (bfr 11 k) (bdf (bfr 11 k)) := by
  intro k hk
  match k, hk with
  | 0, _ => rfl
  | 1, _ => rfl
  | 2, _ => rfl
  | 3, _ => rfl
  | 4, _ => rfl
  | 5, _ => rfl
  | 6, _ => rfl
  | k + 7, hk => exact absurd hk (by omega)
theorem dfX14 : ∀ k, k < 2 → defaultValue (tyX14 k) = bval (bfr 12 k) (bdf (bfr 12 k)) := by
  intro k hk
  match k, hk with
  | 0, _ => rfl
  | 1, _ => rfl
  | k + 2, hk => exact absurd hk (by omega)
theorem dfX15 : ∀ k, k < 7 → defaultValue (tyX15 k) = bval (bfr 13 k) (bdf (bfr 13 k)) := by
  intro k hk
  match k, hk with
  | 0, _ => rfl
  | 1, _ => rfl
  | 2, _ => rfl
  | 3, _ => rfl
  | 4, _ => rfl
  | 5, _ => rfl
  | 6, _ => rfl
  | k + 7, hk => exact absurd hk (by omega)
theorem dfX16 : ∀ k, k < 1 → defaultValue (tyX16 k) = bval (bfr 14 k) (bdf (bfr 14 k)) := by
  intro k hk
  match k, hk with
  | 0, _ => rfl
  | k + 1, hk => exact absurd hk (by omega)
theorem dfX17 : ∀ k, k < 2 → defaultValue (tyX17 k) = bval (bfr 15 k) (bdf (bfr 15 k)) := by
  intro k hk
  match k, hk with
  | 0, _ => rfl
  | 1, _ => rfl
  | k + 2, hk => exact absurd hk (by omega)
theorem dfX18 : ∀ k, k < 3 → defaultValue (tyX18 k) = bval (bfr 16 k) (bdf (bfr 16 k)) := by
  intro k hk
  match k, hk with
  | 0, _ => rfl
  | 1, _ => rfl
  | 2, _ => rfl
  | k + 3, hk => exact absurd hk (by omega)
theorem dfX19 : ∀ k, k < 2 → defaultValue (tyX19 k) = bval (bfr 17 k) (bdf (bfr 17 k)) := by
  intro k hk
  match k, hk with
  | 0, _ => rfl
  | 1, _ => rfl
  | k + 2, hk => exact absurd hk (by omega)
theorem dfJ1 : ∀ k, k < 4 → defaultValue (tyJ1 k) = bval (bfr 18 k) (bdf (bfr 18 k)) := by
  intro k hk
  match k, hk with
  | 0, _ => rfl
  | 1, _ => rfl
  | 2, _ => rfl
  | 3, _ => rfl
  | k + 4, hk => exact absurd hk (by omega)
theorem dfJ2 : ∀ k, k < 4 → defaultValue (tyJ2 k) = bval (bfr 19 k) (bdf (bfr 19 k)) := by
  intro k hk
  match k, hk with
  | 0, _ => rfl
  | 1, _ => rfl
  | 2, _ => rfl
  | 3, _ => rfl
  | k + 4, hk => exact absurd hk (by omega)
theorem dfJ10 : ∀ k, k < 3 → defaultValue (tyJ10 k) = bval (bfr 20 k) (bdf (bfr 20 k)) := by
  intro k hk
  match k, hk with
  | 0, _ => rfl
  | 1, _ => rfl
  | 2, _ => rfl
  | k + 3, hk => exact absurd hk (by omega)
theorem dfJ12 : ∀ k, k < 4 → defaultValue (tyJ12 k) = bval (bfr 21 k) (bdf (bfr 21 k)) := by
  intro k hk
  match k, hk with
  | 0, _ => rfl
  | 1, _ => rfl
  | 2, _ => rfl
  | 3, _ => rfl
  | k + 4, hk => exact absurd hk (by omega)
theorem dfJ26 : ∀ k, k < 3 → defaultValue (tyJ26 k) = bval (bfr 22 k) (bdf (bfr 22 k)) := by
  intro k hk
  match k, hk with
  | 0, _ => rfl
  | 1, _ => rfl
  | 2, _ => rfl
  | k + 3, hk => exact absurd hk (by omega)
theorem dfJ27 : ∀ k, k < 2 → defaultValue (tyJ27 k) = bval (bfr 23 k) (bdf (bfr 23 k)) := by
  intro k hk
  match k, hk with
  | 0, _ => rfl
  | 1, _ => rfl
  | k + 2, hk => exact absurd hk (by omega)
theorem dfJ28 : ∀ k, k < 5 → defaultValue (tyJ28 k) = bval (bfr 24 k) (bdf (bfr 24 k)) := by
  intro k hk
  match k, hk with
  | 0, _ => rfl
  | 1, _ => rfl
  | 2, _ => rfl
  | 3, _ => rfl
  | 4, _ => rfl
  | k + 5, hk => exact absurd hk (by omega)
/-- java/lang/AbstractStringBuilder.<init>(I)V -/
def F_J0_init (s0 : bS) (a0 a1 : Int) : Option (bS × Int) :=
  bck ((0 : Int) ≤ a0) <|
  bck (((0 : Int) ≤ a1 ∧ (a1 : Int) ≤ 67108864) ∧ bc s0 + 1 ≤ bCM ∧ bk s0 + (a1 : Int).toNat ≤ bKM) <|
  bst (bnw s0 1000 a1 (a1 : Int).toNat) fun s1 =>
  bck ((bg s1 0 a0 0 = 19)) <|
  bst (bw s1 410 a0 0 (bnx s0 : Int)) fun s2 =>
  bck ((bg s2 0 a0 0 = 19) ∧ (-128 ≤ (0 : Int) ∧ (0 : Int) < 128)) <|
  bst (bw s2 412 a0 0 0) fun s3 =>
  some (s3, 0)
set_option maxHeartbeats 4000000 in
set_option maxRecDepth 100000 in
theorem w_J0_init (Γ0 : bG) (l0 : Launch) {s0 st' : bS} {v a0 a1 : Int} (h : F_J0_init s0 a0 a1 = some (st', v)) : bCt Γ0 l0 yJ0_init cJ0_init 2 none 1 20 [(2, a0), (0, a1)] s0 st' none := by
  refine b_ent (own := RJ0) (by decide +kernel) rfl (Nat.le_of_ble_eq_true rfl) (L := [(0, (2, a0)), (1, (0, a1))]) rfl ?_
  intro κ hκ hi hf
  unfold F_J0_init at h
  refine r_aload_n hκ 0 rfl rfl dJ0_init_0 ?_
  obtain ⟨h1, h⟩ := bck_i h
  refine r_oinit hκ h1 q207 q183 q184 (by decide) (Nat.le_of_ble_eq_true rfl) dJ0_init_1 ?_
  refine r_getsI hκ (x := 1) (by decide +kernel) q208 dJ0_init_4 ?_
  refine r_if_eq hκ (tgt := 25) (by decide) dJ0_init_7 (fun hc => absurd hc (by decide)) (fun _ => ?_)
  refine r_aload_n hκ 0 rfl rfl dJ0_init_10 ?_
  refine r_iload_n hκ 1 rfl rfl dJ0_init_11 ?_
  obtain ⟨⟨h2, h3⟩, h⟩ := bck_i h
  refine r_new_byte hκ q300 h2 h3 dJ0_init_12 (fun s1 es1 => ?_)
  replace h := bst_i h s1 es1
  obtain ⟨h4, h⟩ := bck_i h
  refine r_put hκ (t := 18) (k := 0) (r := 410) (ty := (.array .byte)) tyJ1 tyJ1_ok nmJ1 h4 rfl in_J1 (by decide) rfl q302 (Or.inl rfl) rfl rfl rfl trivial (Or.inl (by decide)) dJ0_init_14 (fun s2 es2 => ?_)
  replace h := bst_i h s2 es2
  refine r_aload_n hκ 0 rfl rfl dJ0_init_17 ?_
  refine r_iconst hκ dJ0_init_18 ?_
  obtain ⟨⟨h5, h6⟩, h⟩ := bck_i h
  refine r_put hκ (t := 18) (k := 1) (r := 412) (ty := .byte) tyJ1 tyJ1_ok nmJ1 h5 rfl in_J1 (by decide) rfl q303 (Or.inl rfl) rfl rfl rfl h6 (Or.inl (by decide)) dJ0_init_19 (fun s3 es3 => ?_)
  replace h := bst_i h s3 es3
  refine r_goto hκ (tgt := 38) (by decide) dJ0_init_22 ?_
  exact r_vretH hκ hf h dJ0_init_38
/-- java/lang/StringBuilder.<init>()V -/
def F_J1_init (s0 : bS) (a0 : Int) : Option (bS × Int) :=
  bck (bg s0 0 a0 0 = 19) <|
  bcl (F_J0_init s0 a0 16) fun s1 v1 =>
  some (s1, 0)
set_option maxHeartbeats 4000000 in
set_option maxRecDepth 100000 in
theorem w_J1_init (Γ0 : bG) (l0 : Launch) {s0 st' : bS} {v a0 : Int} (h : F_J1_init s0 a0 = some (st', v)) : bCt Γ0 l0 yJ1_init cJ1_init 1 none 2 41 [(2, a0)] s0 st' none := by
  refine b_ent (own := RJ1) (by decide +kernel) rfl (Nat.le_of_ble_eq_true rfl) (L := [(0, (2, a0))]) rfl ?_
  intro κ hκ hi hf
  unfold F_J1_init at h
  refine r_aload_n hκ 0 rfl rfl dJ1_init_0 ?_
  refine r_bipush hκ (by decide) dJ1_init_1 ?_
  obtain ⟨h1, h⟩ := bck_i h
  obtain ⟨s1, v1, h2, h⟩ := bcl_i h
  refine r_callI hκ (n' := 1) (index := 1) (w_J0_init Γ0 l0 h2) (lw_meth q206) q124 q204 q205 rfl (by decide +kernel) (t := 18) h1 rfl rfl (by decide) rfl (Nat.le_of_ble_eq_true rfl) dJ1_init_3 ?_
  exact r_vretH hκ hf h dJ1_init_6
/-- java/util/AbstractCollection.<init>()V -/
def F_J8_init (s0 : bS) (a0 : Int) : Option (bS × Int) :=
  bck ((0 : Int) ≤ a0) <|
  some (s0, 0)
set_option maxHeartbeats 4000000 in
set_option maxRecDepth 100000 in
theorem w_J8_init (Γ0 : bG) (l0 : Launch) {s0 st' : bS} {v a0 : Int} (h : F_J8_init s0 a0 = some (st', v)) : bCt Γ0 l0 yJ8_init cJ8_init 1 none 1 20 [(2, a0)] s0 st' none := by
  refine b_ent (own := RJ8) (by decide +kernel) rfl (Nat.le_of_ble_eq_true rfl) (L := [(0, (2, a0))]) rfl ?_
  intro κ hκ hi hf
  unfold F_J8_init at h
  refine r_aload_n hκ 0 rfl rfl dJ8_init_0 ?_
  obtain ⟨h1, h⟩ := bck_i h
  refine r_oinit hκ h1 q334 q183 q184 (by decide) (Nat.le_of_ble_eq_true rfl) dJ8_init_1 ?_
  exact r_vretH hκ hf h dJ8_init_4
/-- java/util/AbstractList.<init>()V -/
def F_J9_init (s0 : bS) (a0 : Int) : Option (bS × Int) :=
  bcl (bte (bg s0 0 a0 0 = 21) (F_J8_init s0 a0) (bte (bg s0 0 a0 0 = 22) (F_J8_init s0 a0) (none))) fun s1 v1 =>
  bck ((bg s1 0 a0 0 = 21 ∨ bg s1 0 a0 0 = 22)) <|
  bst (bw s1 440 a0 0 0) fun s2 =>
  some (s2, 0)
set_option maxHeartbeats 4000000 in
set_option maxRecDepth 100000 in
theorem w_J9_init (Γ0 : bG) (l0 : Launch) {s0 st' : bS} {v a0 : Int} (h : F_J9_init s0 a0 = some (st', v)) : bCt Γ0 l0 yJ9_init cJ9_init 1 none 2 40 [(2, a0)] s0 st' none := by
  refine b_ent (own := RJ9) (by decide +kernel) rfl (Nat.le_of_ble_eq_true rfl) (L := [(0, (2, a0))]) rfl ?_
  intro κ hκ hi hf
  unfold F_J9_init at h
  refine r_aload_n hκ 0 rfl rfl dJ9_init_0 ?_
  obtain ⟨s1, v1, h1, h⟩ := bcl_i h
  refine r_seq (A := bJ κ s1 4 [(0, (2, a0))] []) ?_ (fun k0 => ?_)
  case refine_2 =>
    by_cases h2 : bg s0 0 a0 0 = 21
    · have hq0 := (bte_i h1).1 h2
      exact r_callI hκ (n' := 0) (index := 1) (w_J8_init Γ0 l0 hq0) (lw_meth q333) q132 q331 q332 rfl (by decide +kernel) (t := 20) h2 rfl rfl (by decide) rfl (Nat.le_of_ble_eq_true rfl) dJ9_init_1 k0
    replace h1 := (bte_i h1).2 h2
    by_cases h3 : bg s0 0 a0 0 = 22
    · have hq0 := (bte_i h1).1 h3
      exact r_callI hκ (n' := 0) (index := 1) (w_J8_init Γ0 l0 hq0) (lw_meth q333) q132 q331 q332 rfl (by decide +kernel) (t := 21) h3 rfl rfl (by decide) rfl (Nat.le_of_ble_eq_true rfl) dJ9_init_1 k0
    replace h1 := (bte_i h1).2 h3
    cases h1
  refine r_aload_n hκ 0 rfl rfl dJ9_init_4 ?_
  refine r_iconst hκ dJ9_init_5 ?_
  obtain ⟨h4, h⟩ := bck_i h
  refine r_seq (A := ∀ st', st' = bw s1 440 a0 0 0 → bJ κ st' 9 [(0, (2, a0))] []) (fun s2 es2 => ?_) (fun k0 => Or.elim h4 (fun h4 => r_put hκ (t := 20) (k := 0) (r := 440) (ty := .int) tyJ10 tyJ10_ok nmJ10 h4 rfl in_J10 (by decide) rfl q341 (Or.inl rfl) rfl rfl rfl trivial (Or.inl (by decide)) dJ9_init_6 k0) (fun h4 => r_put hκ (t := 21) (k := 0) (r := 440) (ty := .int) tyJ12 tyJ12_ok nmJ12 h4 rfl in_J12 (by decide) rfl q341 (Or.inl rfl) rfl rfl rfl trivial (Or.inl (by decide)) dJ9_init_6 k0))
  replace h := bst_i h s2 es2
  exact r_vretH hκ hf h dJ9_init_9
/-- java/util/ArrayList.<init>()V -/
def F_J10_init (s0 : bS) (a0 : Int) : Option (bS × Int) :=
  bcl (bte (bg s0 0 a0 0 = 21) (F_J9_init s0 a0) (bte (bg s0 0 a0 0 = 22) (F_J9_init s0 a0) (none))) fun s1 v1 =>
  bck ((bg s1 0 a0 0 = 21)) <|
  bst (bw s1 446 a0 0 (bg s1 1 (-(2 + 6)) 0)) fun s2 =>
  some (s2, 0)
set_option maxHeartbeats 4000000 in
set_option maxRecDepth 100000 in
theorem w_J10_init (Γ0 : bG) (l0 : Launch) {s0 st' : bS} {v a0 : Int} (h : F_J10_init s0 a0 = some (st', v)) : bCt Γ0 l0 yJ10_init cJ10_init 1 none 3 60 [(2, a0)] s0 st' none := by
  refine b_ent (own := RJ10) (by decide +kernel) rfl (Nat.le_of_ble_eq_true rfl) (L := [(0, (2, a0))]) rfl ?_
  intro κ hκ hi hf
  unfold F_J10_init at h
  refine r_aload_n hκ 0 rfl rfl dJ10_init_0 ?_
  obtain ⟨s1, v1, h1, h⟩ := bcl_i h
  refine r_seq (A := bJ κ s1 4 [(0, (2, a0))] []) ?_ (fun k0 => ?_)
  case refine_2 =>
    by_cases h2 : bg s0 0 a0 0 = 21
    · have hq0 := (bte_i h1).1 h2
      exact r_callI hκ (n' := 0) (index := 1) (w_J9_init Γ0 l0 hq0) (lw_meth q330) q133 q328 q329 rfl (by decide +kernel) (t := 20) h2 rfl rfl (by decide) rfl (Nat.le_of_ble_eq_true rfl) dJ10_init_1 k0
    replace h1 := (bte_i h1).2 h2
    by_cases h3 : bg s0 0 a0 0 = 22
    · have hq0 := (bte_i h1).1 h3
      exact r_callI hκ (n' := 0) (index := 1) (w_J9_init Γ0 l0 hq0) (lw_meth q330) q133 q328 q329 rfl (by decide +kernel) (t := 21) h3 rfl rfl (by decide) rfl (Nat.le_of_ble_eq_true rfl) dJ10_init_1 k0
    replace h1 := (bte_i h1).2 h3
    cases h1
  refine r_aload_n hκ 0 rfl rfl dJ10_init_4 ?_
  refine r_getsR hκ (j := 6) (by decide +kernel) q335 dJ10_init_5 ?_
  obtain ⟨h4, h⟩ := bck_i h
  refine r_put hκ (t := 20) (k := 1) (r := 446) (ty := (.array (.object "java/lang/Object"))) tyJ10 tyJ10_ok nmJ10 h4 rfl in_J10 (by decide) rfl q337 (Or.inl rfl) rfl rfl rfl trivial (Or.inl (by decide)) dJ10_init_8 (fun s2 es2 => ?_)
  replace h := bst_i h s2 es2
  exact r_vretH hκ hf h dJ10_init_11
/-- jdk/internal/util/ArraysSupport.newLength(III)I -/
def F_J22_newLength_r (b : Nat) (x0 x1 : Int) (s0 : bS) : Option (bS × Int) :=
  match b with
  | 0 =>
    none
  | _ => none
def F_J22_newLength (s0 : bS) (a0 a1 a2 : Int) : Option (bS × Int) :=
  bte (i32 (a0 + (b_max a1 a2)) ≤ i32 0)
  (F_J22_newLength_r 0 a0 a1 s0)
  (bte (i32 2147483639 < i32 (a0 + (b_max a1 a2)))
  (F_J22_newLength_r 0 a0 a1 s0)
  (some (s0, (a0 + (b_max a1 a2)))))
set_option maxHeartbeats 4000000 in
set_option maxRecDepth 100000 in
set_option synthInstance.maxHeartbeats 4000000 in
theorem w_J22_newLength_r {Γ0 : bG} {l0 : Launch} {κ : bK} {st' : bS} {v : Int} (hκ : bOk κ Γ0 l0 cJ22_newLength RJ22 4 1 21) (hi : bIn κ yJ22_newLength) (hf : bFin κ (some .int) st' (some (0, v))) (b : Nat) (x0 x1 : Int) (s0 : bS) (h : F_J22_newLength_r b x0 x1 s0 = some (st', v)) : match (generalizing := false) b with | 0 => bJ κ s0 21 [(0, (0, x0)), (1, (0, x1))] [] | _ => True := by
  unfold F_J22_newLength_r at h
  match b, h with
  | 0, h =>
      refine r_iload_n hκ 0 rfl rfl dJ22_newLength_21 ?_
      refine r_iload_n hκ 1 rfl rfl dJ22_newLength_22 ?_
      cases h
  | b + 1, h => trivial
set_option maxHeartbeats 4000000 in
set_option maxRecDepth 100000 in
theorem w_J22_newLength (Γ0 : bG) (l0 : Launch) {s0 st' : bS} {v a0 a1 a2 : Int} (h : F_J22_newLength s0 a0 a1 a2 = some (st', v)) : bCt Γ0 l0 yJ22_newLength cJ22_newLength 4 (some .int) 1 21 [(0, a0), (0, a1), (0, a2)] s0 st' (some (0, v)) := by
  refine b_ent (own := RJ22) (by decide +kernel) rfl (Nat.le_of_ble_eq_true rfl) (L := [(0, (0, a0)), (1, (0, a1)), (2, (0, a2))]) rfl ?_
  intro κ hκ hi hf
  unfold F_J22_newLength at h
  refine r_iload_n hκ 0 rfl rfl dJ22_newLength_0 ?_
  refine r_iload_n hκ 1 rfl rfl dJ22_newLength_1 ?_
  refine r_iload_n hκ 2 rfl rfl dJ22_newLength_2 ?_
  refine r_mmax hκ q1036 q1037 q161 q1038 (by decide) (Nat.le_of_ble_eq_true rfl) dJ22_newLength_3 ?_
  refine r_iadd hκ dJ22_newLength_6 ?_
  refine r_istore_n hκ (L2 := [(3, (0, (a0 + (b_max a1 a2)))), (0, (0, a0)), (1, (0, a1)), (2, (0, a2))]) (by decide) rfl rfl dJ22_newLength_7 ?_
  refine r_iconst hκ dJ22_newLength_8 ?_
  refine r_iload_n hκ 0 rfl rfl dJ22_newLength_9 ?_
  refine r_icmp_ge hκ (tgt := 21) (by decide) dJ22_newLength_10 (fun h1 => ?_) (fun h1 => ?_)
  · replace h := (bte_i h).1 h1
    exact r_sub [1, 2] rfl (w_J22_newLength_r hκ hi hf 0 _ _ _ h)
  · replace h := (bte_i h).2 h1
    refine r_iload_n hκ 0 rfl rfl dJ22_newLength_13 ?_
    refine r_ldci hκ (x := 2147483639) q1039 (by decide) dJ22_newLength_14 ?_
    refine r_icmp_gt hκ (tgt := 21) (by decide) dJ22_newLength_16 (fun h2 => ?_) (fun h2 => ?_)
    · replace h := (bte_i h).1 h2
      exact r_sub [1, 2] rfl (w_J22_newLength_r hκ hi hf 0 _ _ _ h)
    · replace h := (bte_i h).2 h2
      refine r_iload_n hκ 0 rfl rfl dJ22_newLength_19 ?_
      exact r_iretH hκ hf h (nar_int _) dJ22_newLength_20
/-- java/lang/AbstractStringBuilder.newCapacity(I)I -/
def F_J0_newCapacity (s0 : bS) (a0 a1 : Int) : Option (bS × Int) :=
  bck (bg s0 0 a0 0 = 19) <|
  bck (bg s0 0 (bg s0 410 a0 0) 0 = 1000) <|
  bvl ((bg s0 4 (bg s0 410 a0 0) 0)) fun t1 =>
  bck (bg s0 0 a0 0 = 19) <|
  bvl ((b_ishl a1 (bg s0 412 a0 0))) fun t2 =>
  bck (bg s0 0 a0 0 = 19) <|
  bcl (F_J22_newLength s0 t1 (t2 - t1) (t1 + (b_ishl 2 (bg s0 412 a0 0)))) fun s1 v1 =>
  bte (i32 v1 = i32 2147483647)
  (none)
  (bck (bg s1 0 a0 0 = 19) <|
  some (s1, (b_ishr v1 (bg s1 412 a0 0))))
set_option maxHeartbeats 4000000 in
set_option maxRecDepth 100000 in
theorem w_J0_newCapacity (Γ0 : bG) (l0 : Launch) {s0 st' : bS} {v a0 a1 : Int} (h : F_J0_newCapacity s0 a0 a1 = some (st', v)) : bCt Γ0 l0 yJ0_newCapacity cJ0_newCapacity 6 (some .int) 2 44 [(2, a0), (0, a1)] s0 st' (some (0, v)) := by
  refine b_ent (own := RJ0) (by decide +kernel) rfl (Nat.le_of_ble_eq_true rfl) (L := [(0, (2, a0)), (1, (0, a1))]) rfl ?_
  intro κ hκ hi hf
  unfold F_J0_newCapacity at h
  refine r_aload_n hκ 0 rfl rfl dJ0_newCapacity_0 ?_
  obtain ⟨h1, h⟩ := bck_i h
  refine r_get hκ (t := 18) (k := 0) (r := 410) h1 rfl in_J1 (by decide) rfl q302 (Or.inl rfl) dJ0_newCapacity_1 ?_
  obtain ⟨h2, h⟩ := bck_i h
  refine r_alen hκ (t := 0) h2 rfl dJ0_newCapacity_4 ?_
  refine r_nm (fun t1 et1 => ?_)
  replace h := bvl_i h t1 et1
  refine r_istore_n hκ (L2 := [(2, (0, t1)), (0, (2, a0)), (1, (0, a1))]) (by decide) rfl rfl dJ0_newCapacity_5 ?_
  refine r_iload_n hκ 2 rfl rfl dJ0_newCapacity_6 ?_
  refine r_aload_n hκ 1 rfl rfl dJ0_newCapacity_7 ?_
  obtain ⟨h3, h⟩ := bck_i h
  refine r_get hκ (t := 18) (k := 1) (r := 412) h3 rfl in_J1 (by decide) rfl q303 (Or.inl rfl) dJ0_newCapacity_8 ?_
  refine r_ishl hκ dJ0_newCapacity_11 ?_
  refine r_nm (fun t2 et2 => ?_)
  replace h := bvl_i h t2 et2
  refine r_istore_n hκ (L2 := [(3, (0, t2)), (2, (0, t1)), (0, (2, a0)), (1, (0, a1))]) (by decide) rfl rfl dJ0_newCapacity_12 ?_
  refine r_iload_n hκ 0 rfl rfl dJ0_newCapacity_13 ?_
  refine r_iload_n hκ 1 rfl rfl dJ0_newCapacity_14 ?_
  refine r_isub hκ dJ0_newCapacity_15 ?_
  refine r_istore hκ (L2 := [(4, (0, (t2 - t1))), (3, (0, t2)), (2, (0, t1)), (0, (2, a0)), (1, (0, a1))]) (by decide) rfl dJ0_newCapacity_16 ?_
  refine r_iload_n hκ 2 rfl rfl dJ0_newCapacity_18 ?_
  refine r_iload hκ 0 rfl dJ0_newCapacity_19 ?_
  refine r_iload_n hκ 2 rfl rfl dJ0_newCapacity_21 ?_
  refine r_iconst hκ dJ0_newCapacity_22 ?_
  refine r_aload_n hκ 3 rfl rfl dJ0_newCapacity_23 ?_
  obtain ⟨h4, h⟩ := bck_i h
  refine r_get hκ (t := 18) (k := 1) (r := 412) h4 rfl in_J1 (by decide) rfl q303 (Or.inl rfl) dJ0_newCapacity_24 ?_
  refine r_ishl hκ dJ0_newCapacity_27 ?_
  refine r_iadd hκ dJ0_newCapacity_28 ?_
  obtain ⟨s1, v1, h5, h⟩ := bcl_i h
  refine r_callS hκ (n' := 3) (index := 114) (w_J22_newLength Γ0 l0 h5) (lw_S q1033 q1034 q160 q1035) (by decide +kernel) rfl (by decide) rfl (Nat.le_of_ble_eq_true rfl) dJ0_newCapacity_29 ?_
  refine r_istore hκ (L2 := [(5, (0, v1)), (4, (0, (t2 - t1))), (3, (0, t2)), (2, (0, t1)), (0, (2, a0)), (1, (0, a1))]) (by decide) rfl dJ0_newCapacity_32 ?_
  refine r_iload hκ 0 rfl dJ0_newCapacity_34 ?_
  refine r_ldci hκ (x := 2147483647) q1043 (by decide) dJ0_newCapacity_36 ?_
  refine r_icmp_ne hκ (tgt := 51) (by decide) dJ0_newCapacity_38 (fun h6 => ?_) (fun h6 => ?_)
  · replace h := (bte_i h).2 h6
    refine r_iload hκ 0 rfl dJ0_newCapacity_51 ?_
    refine r_aload_n hκ 4 rfl rfl dJ0_newCapacity_53 ?_
    obtain ⟨h7, h⟩ := bck_i h
    refine r_get hκ (t := 18) (k := 1) (r := 412) h7 rfl in_J1 (by decide) rfl q303 (Or.inl rfl) dJ0_newCapacity_54 ?_
    refine r_ishr hκ dJ0_newCapacity_57 ?_
    exact r_iretH hκ hf h (nar_int _) dJ0_newCapacity_58
  · replace h := (bte_i h).1 h6
    cases h
/-- java/util/Arrays.copyOf([BI)[B -/
def F_J24_copyOf (s0 : bS) (a0 a1 : Int) : Option (bS × Int) :=
  bck (bg s0 0 a0 0 = 1000) <|
  bte (i32 a1 = i32 (bg s0 4 a0 0))
  (bck (bg s0 0 a0 0 = 1000 ∧ bc s0 + 1 ≤ bCM ∧ bk s0 + (bg s0 4 a0 0).toNat ≤ bKM) <|
  bst (bcln s0 a0) fun s3 =>
  bck ((bnx s0 : Int) < 0 ∨ bg s3 0 (bnx s0 : Int) 0 = 1000) <|
  some (s3, (bnx s0 : Int)))
  (bck (((0 : Int) ≤ a1 ∧ (a1 : Int) ≤ 67108864) ∧ bc s0 + 1 ≤ bCM ∧ bk s0 + (a1 : Int).toNat ≤ bKM) <|
  bst (bnw s0 1000 a1 (a1 : Int).toNat) fun s1 =>
  bck (bg s1 0 a0 0 = 1000) <|
  bck ((bg s1 0 a0 0 = 1000 ∧ bg s1 0 (bnx s0 : Int) 0 = 1000) ∧ ((0 : Int) ≤ 0 ∧ (0 : Int) ≤ 0 ∧ (0 : Int) ≤ (b_min (bg s1 4 a0 0) a1)) ∧ (0 + (b_min (bg s1 4 a0 0) a1) ≤ bg s1 4 a0 0 ∧ 0 + (b_min (bg s1 4 a0 0) a1) ≤ bg s1 4 (bnx s0 : Int) 0) ∧ bg s1 1 (-1) 0 ≤ (bnx s0 : Int)) <|
  bst (bcp s1 8 a0 0 (bnx s0 : Int) 0 (b_min (bg s1 4 a0 0) a1)) fun s2 =>
  some (s2, (bnx s0 : Int)))
set_option maxHeartbeats 4000000 in
set_option maxRecDepth 100000 in
theorem w_J24_copyOf (Γ0 : bG) (l0 : Launch) {s0 st' : bS} {v a0 a1 : Int} (h : F_J24_copyOf s0 a0 a1 = some (st', v)) : bCt Γ0 l0 yJ24_copyOf cJ24_copyOf 3 (some (.array .byte)) 1 40 [(2, a0), (0, a1)] s0 st' (some (2, v)) := by
  refine b_ent (own := RJ24) (by decide +kernel) rfl (Nat.le_of_ble_eq_true rfl) (L := [(0, (2, a0)), (1, (0, a1))]) rfl ?_
  intro κ hκ hi hf
  unfold F_J24_copyOf at h
  refine r_iload_n hκ 1 rfl rfl dJ24_copyOf_0 ?_
  refine r_aload_n hκ 0 rfl rfl dJ24_copyOf_1 ?_
  obtain ⟨h1, h⟩ := bck_i h
  refine r_alen hκ (t := 0) h1 rfl dJ24_copyOf_2 ?_
  refine r_icmp_ne hκ (tgt := 14) (by decide) dJ24_copyOf_3 (fun h2 => ?_) (fun h2 => ?_)
  · replace h := (bte_i h).2 h2
    refine r_iload_n hκ 1 rfl rfl dJ24_copyOf_14 ?_
    obtain ⟨⟨h3, h4⟩, h⟩ := bck_i h
    refine r_new_byte hκ q300 h3 h4 dJ24_copyOf_15 (fun s1 es1 => ?_)
    replace h := bst_i h s1 es1
    refine r_astore_n hκ (L2 := [(2, (2, (bnx s0 : Int))), (0, (2, a0)), (1, (0, a1))]) (by decide) rfl rfl dJ24_copyOf_17 ?_
    refine r_aload_n hκ 1 rfl rfl dJ24_copyOf_18 ?_
    refine r_iconst hκ dJ24_copyOf_19 ?_
    refine r_aload_n hκ 0 rfl rfl dJ24_copyOf_20 ?_
    refine r_iconst hκ dJ24_copyOf_21 ?_
    refine r_aload_n hκ 1 rfl rfl dJ24_copyOf_22 ?_
    obtain ⟨h5, h⟩ := bck_i h
    refine r_alen hκ (t := 0) h5 rfl dJ24_copyOf_23 ?_
    refine r_iload_n hκ 2 rfl rfl dJ24_copyOf_24 ?_
    refine r_mmin hκ q1054 q1055 q161 q1056 (by decide) (Nat.le_of_ble_eq_true rfl) dJ24_copyOf_25 ?_
    obtain ⟨⟨⟨h6, h7⟩, ⟨h8, h9, h10⟩, ⟨h11, h12⟩, h13⟩, h⟩ := bck_i h
    refine r_acopy hκ (t := 0) (er := 8) h6 h7 (Or.inl (by decide)) rfl h8 h9 h10 h11 h12 h13 (fun h9 => absurd h9 (by decide)) q1057 q743 q742 q152 (by decide) (Nat.le_of_ble_eq_true rfl) dJ24_copyOf_28 (fun s2 es2 => ?_)
    replace h := bst_i h s2 es2
    refine r_aload_n hκ 0 rfl rfl dJ24_copyOf_31 ?_
    exact r_aretH hκ hf h rt_a dJ24_copyOf_32
  · replace h := (bte_i h).1 h2
    refine r_aload_n hκ 0 rfl rfl dJ24_copyOf_6 ?_
    obtain ⟨⟨h15, h16⟩, h⟩ := bck_i h
    refine r_clone hκ h15 h16 q1047 q1048 q1049 q1050 q1051 (by decide) (Nat.le_of_ble_eq_true rfl) dJ24_copyOf_7 (fun s3 es3 => ?_)
    replace h := bst_i h s3 es3
    obtain ⟨h17, h⟩ := bck_i h
    refine r_castG hκ q1053 (Or.elim h17 (fun h17 => Or.inl h17) (fun h17 => Or.inr ⟨1000, _, h17, by decide, rfl, Or.inl (by decide +kernel)⟩)) dJ24_copyOf_10 ?_
    exact r_aretH hκ hf h rt_a dJ24_copyOf_13
/-- java/lang/AbstractStringBuilder.ensureCapacityInternal(I)V -/
def F_J0_ensureCapacityInternal (s0 : bS) (a0 a1 : Int) : Option (bS × Int) :=
  bck (bg s0 0 a0 0 = 19) <|
  bck (bg s0 0 (bg s0 410 a0 0) 0 = 1000) <|
  bck (bg s0 0 a0 0 = 19) <|
  bvl ((b_ishr (bg s0 4 (bg s0 410 a0 0) 0) (bg s0 412 a0 0))) fun t1 =>
  bte (i32 (a1 - t1) ≤ 0)
  (some (s0, 0))
  (bck (bg s0 0 a0 0 = 19) <|
  bck (bg s0 0 a0 0 = 19) <|
  bcl (F_J0_newCapacity s0 a0 a1) fun s1 v1 =>
  bck (bg s1 0 a0 0 = 19) <|
  bcl (F_J24_copyOf s1 (bg s0 410 a0 0) (b_ishl v1 (bg s1 412 a0 0))) fun s2 v2 =>
  bck ((bg s2 0 a0 0 = 19)) <|
  bst (bw s2 410 a0 0 v2) fun s3 =>
  some (s3, 0))
set_option maxHeartbeats 4000000 in
set_option maxRecDepth 100000 in
theorem w_J0_ensureCapacityInternal (Γ0 : bG) (l0 : Launch) {s0 st' : bS} {v a0 a1 : Int} (h : F_J0_ensureCapacityInternal s0 a0 a1 = some (st', v)) : bCt Γ0 l0 yJ0_ensureCapacityInternal cJ0_ensureCapacityInternal 3 none 3 69 [(2, a0), (0, a1)] s0 st' none := by
  refine b_ent (own := RJ0) (by decide +kernel) rfl (Nat.le_of_ble_eq_true rfl) (L := [(0, (2, a0)), (1, (0, a1))]) rfl ?_
  intro κ hκ hi hf
  unfold F_J0_ensureCapacityInternal at h
  refine r_aload_n hκ 0 rfl rfl dJ0_ensureCapacityInternal_0 ?_
  obtain ⟨h1, h⟩ := bck_i h
  refine r_get hκ (t := 18) (k := 0) (r := 410) h1 rfl in_J1 (by decide) rfl q302 (Or.inl rfl) dJ0_ensureCapacityInternal_1 ?_
  obtain ⟨h2, h⟩ := bck_i h
  refine r_alen hκ (t := 0) h2 rfl dJ0_ensureCapacityInternal_4 ?_
  refine r_aload_n hκ 0 rfl rfl dJ0_ensureCapacityInternal_5 ?_
  obtain ⟨h3, h⟩ := bck_i h
  refine r_get hκ (t := 18) (k := 1) (r := 412) h3 rfl in_J1 (by decide) rfl q303 (Or.inl rfl) dJ0_ensureCapacityInternal_6 ?_
  refine r_ishr hκ dJ0_ensureCapacityInternal_9 ?_
  refine r_nm (fun t1 et1 => ?_)
  replace h := bvl_i h t1 et1
  refine r_istore_n hκ (L2 := [(2, (0, t1)), (0, (2, a0)), (1, (0, a1))]) (by decide) rfl rfl dJ0_ensureCapacityInternal_10 ?_
  refine r_iload_n hκ 2 rfl rfl dJ0_ensureCapacityInternal_11 ?_
  refine r_iload_n hκ 0 rfl rfl dJ0_ensureCapacityInternal_12 ?_
  refine r_isub hκ dJ0_ensureCapacityInternal_13 ?_
  refine r_if_le hκ (tgt := 38) (by decide) dJ0_ensureCapacityInternal_14 (fun h4 => ?_) (fun h4 => ?_)
  · replace h := (bte_i h).1 h4
    exact r_vretH hκ hf h dJ0_ensureCapacityInternal_38
  · replace h := (bte_i h).2 h4
    refine r_aload_n hκ 1 rfl rfl dJ0_ensureCapacityInternal_17 ?_
    refine r_aload_n hκ 1 rfl rfl dJ0_ensureCapacityInternal_18 ?_
    obtain ⟨h5, h⟩ := bck_i h
    refine r_get hκ (t := 18) (k := 0) (r := 410) h5 rfl in_J1 (by decide) rfl q302 (Or.inl rfl) dJ0_ensureCapacityInternal_19 ?_
    refine r_aload_n hκ 1 rfl rfl dJ0_ensureCapacityInternal_22 ?_
    refine r_iload_n hκ 2 rfl rfl dJ0_ensureCapacityInternal_23 ?_
    obtain ⟨h6, h⟩ := bck_i h
    obtain ⟨s1, v1, h7, h⟩ := bcl_i h
    refine r_callP hκ (index := 104) (C := "java/lang/StringBuilder") (owner := "java/lang/AbstractStringBuilder") (n' := 1) (w_J0_newCapacity Γ0 l0 h7) (fun R s args hts hsl hRR => va_cwU 1 (List.forall_mem_cons.mpr ⟨hsl ("java/lang/StringBuilder", ⟨"java/lang/AbstractStringBuilder", "newCapacity", "(I)I"⟩) (by decide +kernel), hts⟩) (b_gP rfl q1029 q3587 q1031 q124 (lw_meth q1032)) rfl rfl rfl rfl (by decide +kernel) hRR) (t := 18) h6 rfl rfl (by decide) rfl (Nat.le_of_ble_eq_true rfl) dJ0_ensureCapacityInternal_24 ?_
    refine r_aload_n hκ 1 rfl rfl dJ0_ensureCapacityInternal_27 ?_
    obtain ⟨h8, h⟩ := bck_i h
    refine r_get hκ (t := 18) (k := 1) (r := 412) h8 rfl in_J1 (by decide) rfl q303 (Or.inl rfl) dJ0_ensureCapacityInternal_28 ?_
    refine r_ishl hκ dJ0_ensureCapacityInternal_31 ?_
    obtain ⟨s2, v2, h9, h⟩ := bcl_i h
    refine r_callS hκ (n' := 2) (index := 108) (w_J24_copyOf Γ0 l0 h9) (lw_S q1044 q1045 q162 q1046) (by decide +kernel) rfl (by decide) rfl (Nat.le_of_ble_eq_true rfl) dJ0_ensureCapacityInternal_32 ?_
    obtain ⟨h10, h⟩ := bck_i h
    refine r_put hκ (t := 18) (k := 0) (r := 410) (ty := (.array .byte)) tyJ1 tyJ1_ok nmJ1 h10 rfl in_J1 (by decide) rfl q302 (Or.inl rfl) rfl rfl rfl trivial (Or.inl (by decide)) dJ0_ensureCapacityInternal_35 (fun s3 es3 => ?_)
    replace h := bst_i h s3 es3
    exact r_vretH hκ hf h dJ0_ensureCapacityInternal_38
/-- java/lang/AbstractStringBuilder.isLatin1()Z -/
def F_J0_isLatin1 (s0 : bS) (a0 : Int) : Option (bS × Int) :=
  bck (bg s0 0 a0 0 = 19) <|
  bte (i32 (bg s0 412 a0 0) = 0)
  (some (s0, 1))
  (some (s0, 0))
set_option maxHeartbeats 4000000 in
set_option maxRecDepth 100000 in
theorem w_J0_isLatin1 (Γ0 : bG) (l0 : Launch) {s0 st' : bS} {v a0 : Int} (h : F_J0_isLatin1 s0 a0 = some (st', v)) : bCt Γ0 l0 yJ0_isLatin1 cJ0_isLatin1 1 (some .boolean) 0 0 [(2, a0)] s0 st' (some (0, v)) := by
  refine b_ent (own := RJ0) (by decide +kernel) rfl (Nat.le_of_ble_eq_true rfl) (L := [(0, (2, a0))]) rfl ?_
  intro κ hκ hi hf
  unfold F_J0_isLatin1 at h
  refine r_getsI hκ (x := 1) (by decide +kernel) q208 dJ0_isLatin1_0 ?_
  refine r_if_eq hκ (tgt := 17) (by decide) dJ0_isLatin1_3 (fun hc => absurd hc (by decide)) (fun _ => ?_)
  refine r_aload_n hκ 0 rfl rfl dJ0_isLatin1_6 ?_
  obtain ⟨h1, h⟩ := bck_i h
  refine r_get hκ (t := 18) (k := 1) (r := 412) h1 rfl in_J1 (by decide) rfl q303 (Or.inl rfl) dJ0_isLatin1_7 ?_
  refine r_if_ne hκ (tgt := 17) (by decide) dJ0_isLatin1_10 (fun h2 => ?_) (fun h2 => ?_)
  · replace h := (bte_i h).2 h2
    refine r_iconst hκ dJ0_isLatin1_17 ?_
    exact r_iretH hκ hf h (nar_bool (by decide)) dJ0_isLatin1_18
  · replace h := (bte_i h).1 h2
    refine r_iconst hκ dJ0_isLatin1_13 ?_
    refine r_goto hκ (tgt := 18) (by decide) dJ0_isLatin1_14 ?_
    exact r_iretH hκ hf h (nar_bool (by decide)) dJ0_isLatin1_18
/-- jdk/internal/util/Preconditions.checkFromToIndex(IIILjava/util/function/BiFunction;)I -/
def F_J18_checkFromToIndex_r (b : Nat) (x0 x1 x2 x3 : Int) (s0 : bS) : Option (bS × Int) :=
  match b with
  | 0 =>
    none
  | _ => none
def F_J18_checkFromToIndex (s0 : bS) (a0 a1 a2 a3 : Int) : Option (bS × Int) :=
  bte (i32 a0 < 0)
  (F_J18_checkFromToIndex_r 0 a0 a1 a2 a3 s0)
  (bte (i32 a1 < i32 a0)
  (F_J18_checkFromToIndex_r 0 a0 a1 a2 a3 s0)
  (bte (i32 a1 ≤ i32 a2)
  (some (s0, a0))
  (F_J18_checkFromToIndex_r 0 a0 a1 a2 a3 s0)))
set_option maxHeartbeats 4000000 in
set_option maxRecDepth 100000 in
set_option synthInstance.maxHeartbeats 4000000 in
theorem w_J18_checkFromToIndex_r {Γ0 : bG} {l0 : Launch} {κ : bK} {st' : bS} {v : Int} (hκ : bOk κ Γ0 l0 cJ18_checkFromToIndex RJ18 4 0 0) (hi : bIn κ yJ18_checkFromToIndex) (hf : bFin κ (some .int) st' (some (0, v))) (b : Nat) (x0 x1 x2 x3 : Int) (s0 : bS) (h : F_J18_checkFromToIndex_r b x0 x1 x2 x3 s0 = some (st', v)) : match (generalizing := false) b with | 0 => bJ κ s0 14 [(0, (0, x0)), (1, (0, x1)), (2, (0, x2)), (3, (2, x3))] [] | _ => True := by
  unfold F_J18_checkFromToIndex_r at h
  match b, h with
  | 0, h =>
      refine r_aload_n hκ 3 rfl rfl dJ18_checkFromToIndex_14 ?_
      refine r_iload_n hκ 0 rfl rfl dJ18_checkFromToIndex_15 ?_
      refine r_iload_n hκ 1 rfl rfl dJ18_checkFromToIndex_16 ?_
      refine r_iload_n hκ 2 rfl rfl dJ18_checkFromToIndex_17 ?_
      cases h
  | b + 1, h => trivial
set_option maxHeartbeats 4000000 in
set_option maxRecDepth 100000 in
theorem w_J18_checkFromToIndex (Γ0 : bG) (l0 : Launch) {s0 st' : bS} {v a0 a1 a2 a3 : Int} (h : F_J18_checkFromToIndex s0 a0 a1 a2 a3 = some (st', v)) : bCt Γ0 l0 yJ18_checkFromToIndex cJ18_checkFromToIndex 4 (some .int) 0 0 [(0, a0), (0, a1), (0, a2), (2, a3)] s0 st' (some (0, v)) := by
  refine b_ent (own := RJ18) (by decide +kernel) rfl (Nat.le_of_ble_eq_true rfl) (L := [(0, (0, a0)), (1, (0, a1)), (2, (0, a2)), (3, (2, a3))]) rfl ?_
  intro κ hκ hi hf
  unfold F_J18_checkFromToIndex at h
  refine r_iload_n hκ 0 rfl rfl dJ18_checkFromToIndex_0 ?_
  refine r_if_lt hκ (tgt := 14) (by decide) dJ18_checkFromToIndex_1 (fun h1 => ?_) (fun h1 => ?_)
  · replace h := (bte_i h).1 h1
    exact r_sub [0, 1, 2, 3] rfl (w_J18_checkFromToIndex_r hκ hi hf 0 _ _ _ _ _ h)
  · replace h := (bte_i h).2 h1
    refine r_iload_n hκ 0 rfl rfl dJ18_checkFromToIndex_4 ?_
    refine r_iload_n hκ 1 rfl rfl dJ18_checkFromToIndex_5 ?_
    refine r_icmp_gt hκ (tgt := 14) (by decide) dJ18_checkFromToIndex_6 (fun h2 => ?_) (fun h2 => ?_)
    · replace h := (bte_i h).1 h2
      exact r_sub [0, 1, 2, 3] rfl (w_J18_checkFromToIndex_r hκ hi hf 0 _ _ _ _ _ h)
    · replace h := (bte_i h).2 h2
      refine r_iload_n hκ 1 rfl rfl dJ18_checkFromToIndex_9 ?_
      refine r_iload_n hκ 2 rfl rfl dJ18_checkFromToIndex_10 ?_
      refine r_icmp_le hκ (tgt := 22) (by decide) dJ18_checkFromToIndex_11 (fun h3 => ?_) (fun h3 => ?_)
      · replace h := (bte_i h).1 h3
        refine r_iload_n hκ 0 rfl rfl dJ18_checkFromToIndex_22 ?_
        exact r_iretH hκ hf h (nar_int _) dJ18_checkFromToIndex_23
      · replace h := (bte_i h).2 h3
        exact r_sub [0, 1, 2, 3] rfl (w_J18_checkFromToIndex_r hκ hi hf 0 _ _ _ _ _ h)
/-- java/lang/String.checkBoundsBeginEnd(III)V -/
def F_J2_checkBoundsBeginEnd (s0 : bS) (a0 a1 a2 : Int) : Option (bS × Int) :=
  bcl (F_J18_checkFromToIndex s0 a0 a1 a2 (bg s0 1 (-(2 + 0)) 0)) fun s1 v1 =>
  some (s1, 0)
set_option maxHeartbeats 4000000 in
set_option maxRecDepth 100000 in
theorem w_J2_checkBoundsBeginEnd (Γ0 : bG) (l0 : Launch) {s0 st' : bS} {v a0 a1 a2 : Int} (h : F_J2_checkBoundsBeginEnd s0 a0 a1 a2 = some (st', v)) : bCt Γ0 l0 yJ2_checkBoundsBeginEnd cJ2_checkBoundsBeginEnd 3 none 1 23 [(0, a0), (0, a1), (0, a2)] s0 st' none := by
  refine b_ent (own := RJ2) (by decide +kernel) rfl (Nat.le_of_ble_eq_true rfl) (L := [(0, (0, a0)), (1, (0, a1)), (2, (0, a2))]) rfl ?_
  intro κ hκ hi hf
  unfold F_J2_checkBoundsBeginEnd at h
  refine r_iload_n hκ 0 rfl rfl dJ2_checkBoundsBeginEnd_0 ?_
  refine r_iload_n hκ 1 rfl rfl dJ2_checkBoundsBeginEnd_1 ?_
  refine r_iload_n hκ 2 rfl rfl dJ2_checkBoundsBeginEnd_2 ?_
  refine r_getsR hκ (j := 0) (by decide +kernel) q905 dJ2_checkBoundsBeginEnd_3 ?_
  obtain ⟨s1, v1, h1, h⟩ := bcl_i h
  refine r_callS hκ (n' := 4) (index := 1062) (w_J18_checkFromToIndex Γ0 l0 h1) (lw_S q1072 q1073 q154 q1074) (by decide +kernel) rfl (by decide) rfl (Nat.le_of_ble_eq_true rfl) dJ2_checkBoundsBeginEnd_6 ?_
  refine r_pop hκ (bd_cat0k _) dJ2_checkBoundsBeginEnd_9 ?_
  exact r_vretH hκ hf h dJ2_checkBoundsBeginEnd_10
/-- java/lang/AbstractStringBuilder.appendNull()Ljava/lang/AbstractStringBuilder; -/
def F_J0_appendNull_r (b : Nat) (x0 x1 : Int) (s0 : bS) : Option (bS × Int) :=
  match b with
  | 0 =>
    bck ((bg s0 0 x0 0 = 19)) <|
    bst (bw s0 420 x0 0 x1) fun s7 =>
    some (s7, x0)
  | _ => none
def F_J0_appendNull (s0 : bS) (a0 : Int) : Option (bS × Int) :=
  bck (bg s0 0 a0 0 = 19) <|
  bck (bg s0 0 a0 0 = 19) <|
  bcl (F_J0_ensureCapacityInternal s0 a0 ((bg s0 420 a0 0) + 4)) fun s1 v1 =>
  bck (bg s1 0 a0 0 = 19) <|
  bck (bg s1 0 a0 0 = 19) <|
  bck (bg s1 0 a0 0 = 19) <|
  bcl (F_J0_isLatin1 s1 a0) fun s2 v2 =>
  bte (i32 v2 = 0)
  (none)
  (bck ((bg s2 0 (bg s1 410 a0 0) 0 = 1000 ∧ (0 : Int) ≤ (bg s1 420 a0 0) ∧ (bg s1 420 a0 0) < bg s2 4 (bg s1 410 a0 0) 0) ∧ bg s2 1 (-1) 0 ≤ (bg s1 410 a0 0)) <|
  bst (bw s2 8 (bg s1 410 a0 0) (bg s1 420 a0 0) (b_i2b 110)) fun s3 =>
  bck ((bg s3 0 (bg s1 410 a0 0) 0 = 1000 ∧ (0 : Int) ≤ ((bg s1 420 a0 0) + 1) ∧ ((bg s1 420 a0 0) + 1) < bg s3 4 (bg s1 410 a0 0) 0) ∧ bg s3 1 (-1) 0 ≤ (bg s1 410 a0 0)) <|
  bst (bw s3 8 (bg s1 410 a0 0) ((bg s1 420 a0 0) + 1) (b_i2b 117)) fun s4 =>
  bck ((bg s4 0 (bg s1 410 a0 0) 0 = 1000 ∧ (0 : Int) ≤ (((bg s1 420 a0 0) + 1) + 1) ∧ (((bg s1 420 a0 0) + 1) + 1) < bg s4 4 (bg s1 410 a0 0) 0) ∧ bg s4 1 (-1) 0 ≤ (bg s1 410 a0 0)) <|
  bst (bw s4 8 (bg s1 410 a0 0) (((bg s1 420 a0 0) + 1) + 1) (b_i2b 108)) fun s5 =>
  bck ((bg s5 0 (bg s1 410 a0 0) 0 = 1000 ∧ (0 : Int) ≤ ((((bg s1 420 a0 0) + 1) + 1) + 1) ∧ ((((bg s1 420 a0 0) + 1) + 1) + 1) < bg s5 4 (bg s1 410 a0 0) 0) ∧ bg s5 1 (-1) 0 ≤ (bg s1 410 a0 0)) <|
  bst (bw s5 8 (bg s1 410 a0 0) ((((bg s1 420 a0 0) + 1) + 1) + 1) (b_i2b 108)) fun s6 =>
  F_J0_appendNull_r 0 a0 (((((bg s1 420 a0 0) + 1) + 1) + 1) + 1) s6)
set_option maxHeartbeats 4000000 in
set_option maxRecDepth 100000 in
set_option synthInstance.maxHeartbeats 4000000 in
theorem w_J0_appendNull_r {Γ0 : bG} {l0 : Launch} {κ : bK} {st' : bS} {v : Int} (hκ : bOk κ Γ0 l0 cJ0_appendNull RJ0 3 4 91) (hi : bIn κ yJ0_appendNull) (hf : bFin κ (some (.object "java/lang/AbstractStringBuilder")) st' (some (2, v))) (b : Nat) (x0 x1 : Int) (s0 : bS) (h : F_J0_appendNull_r b x0 x1 s0 = some (st', v)) : match (generalizing := false) b with | 0 => bJ κ s0 76 [(0, (2, x0)), (1, (0, x1))] [] | _ => True := by
  unfold F_J0_appendNull_r at h
  match b, h with
  | 0, h =>
      refine r_aload_n hκ 0 rfl rfl dJ0_appendNull_76 ?_
      refine r_iload_n hκ 1 rfl rfl dJ0_appendNull_77 ?_
      obtain ⟨h21, h⟩ := bck_i h
      refine r_put hκ (t := 18) (k := 3) (r := 420) (ty := .int) tyJ1 tyJ1_ok nmJ1 h21 rfl in_J1 (by decide) rfl q306 (Or.inl rfl) rfl rfl rfl trivial (Or.inl (by decide)) dJ0_appendNull_78 (fun s7 es7 => ?_)
      replace h := bst_i h s7 es7
      refine r_aload_n hκ 0 rfl rfl dJ0_appendNull_81 ?_
      exact r_aretH hκ hf h rt_o dJ0_appendNull_82
  | b + 1, h => trivial
set_option maxHeartbeats 4000000 in
set_option maxRecDepth 100000 in
theorem w_J0_appendNull (Γ0 : bG) (l0 : Launch) {s0 st' : bS} {v a0 : Int} (h : F_J0_appendNull s0 a0 = some (st', v)) : bCt Γ0 l0 yJ0_appendNull cJ0_appendNull 3 (some (.object "java/lang/AbstractStringBuilder")) 4 91 [(2, a0)] s0 st' (some (2, v)) := by
  refine b_ent (own := RJ0) (by decide +kernel) rfl (Nat.le_of_ble_eq_true rfl) (L := [(0, (2, a0))]) rfl ?_
  intro κ hκ hi hf
  unfold F_J0_appendNull at h
  refine r_aload_n hκ 0 rfl rfl dJ0_appendNull_0 ?_
  refine r_aload_n hκ 0 rfl rfl dJ0_appendNull_1 ?_
  obtain ⟨h1, h⟩ := bck_i h
  refine r_get hκ (t := 18) (k := 3) (r := 420) h1 rfl in_J1 (by decide) rfl q306 (Or.inl rfl) dJ0_appendNull_2 ?_
  refine r_iconst hκ dJ0_appendNull_5 ?_
  refine r_iadd hκ dJ0_appendNull_6 ?_
  obtain ⟨h2, h⟩ := bck_i h
  obtain ⟨s1, v1, h3, h⟩ := bcl_i h
  refine r_callP hκ (index := 100) (C := "java/lang/StringBuilder") (owner := "java/lang/AbstractStringBuilder") (n' := 1) (w_J0_ensureCapacityInternal Γ0 l0 h3) (fun R s args hts hsl hRR => va_cwU 1 (List.forall_mem_cons.mpr ⟨hsl ("java/lang/StringBuilder", ⟨"java/lang/AbstractStringBuilder", "ensureCapacityInternal", "(I)V"⟩) (by decide +kernel), hts⟩) (b_gP rfl q1025 q3586 q1027 q124 (lw_meth q1028)) rfl rfl rfl rfl (by decide +kernel) hRR) (t := 18) h2 rfl rfl (by decide) rfl (Nat.le_of_ble_eq_true rfl) dJ0_appendNull_7 ?_
  refine r_aload_n hκ 0 rfl rfl dJ0_appendNull_10 ?_
  obtain ⟨h4, h⟩ := bck_i h
  refine r_get hκ (t := 18) (k := 3) (r := 420) h4 rfl in_J1 (by decide) rfl q306 (Or.inl rfl) dJ0_appendNull_11 ?_
  refine r_istore_n hκ (L2 := [(1, (0, (bg s1 420 a0 0))), (0, (2, a0))]) (by decide) rfl rfl dJ0_appendNull_14 ?_
  refine r_aload_n hκ 1 rfl rfl dJ0_appendNull_15 ?_
  obtain ⟨h5, h⟩ := bck_i h
  refine r_get hκ (t := 18) (k := 0) (r := 410) h5 rfl in_J1 (by decide) rfl q302 (Or.inl rfl) dJ0_appendNull_16 ?_
  refine r_astore_n hκ (L2 := [(2, (2, (bg s1 410 a0 0))), (1, (0, (bg s1 420 a0 0))), (0, (2, a0))]) (by decide) rfl rfl dJ0_appendNull_19 ?_
  refine r_aload_n hκ 2 rfl rfl dJ0_appendNull_20 ?_
  obtain ⟨h6, h⟩ := bck_i h
  obtain ⟨s2, v2, h7, h⟩ := bcl_i h
  refine r_callU hκ (index := 83) (C := "java/lang/StringBuilder") (owner := "java/lang/AbstractStringBuilder") (n' := 0) (w_J0_isLatin1 Γ0 l0 h7) (fun R s args hts hRR => va_cwU 0 hts (lw_app (lw_l5 q1058 q1060 q1061 q1059 q124) (lw_meth q1062)) rfl rfl rfl rfl (by decide +kernel) hRR) (t := 18) h6 rfl rfl (by decide) rfl (Nat.le_of_ble_eq_true rfl) dJ0_appendNull_21 ?_
  refine r_if_eq hκ (tgt := 62) (by decide) dJ0_appendNull_24 (fun h8 => ?_) (fun h8 => ?_)
  · replace h := (bte_i h).1 h8
    refine r_aload_n hκ 0 rfl rfl dJ0_appendNull_62 ?_
    refine r_iload_n hκ 1 rfl rfl dJ0_appendNull_63 ?_
    refine r_bipush hκ (by decide) dJ0_appendNull_64 ?_
    refine r_bipush hκ (by decide) dJ0_appendNull_66 ?_
    refine r_bipush hκ (by decide) dJ0_appendNull_68 ?_
    refine r_bipush hκ (by decide) dJ0_appendNull_70 ?_
    cases h
  · replace h := (bte_i h).2 h8
    refine r_aload_n hκ 0 rfl rfl dJ0_appendNull_27 ?_
    refine r_iload_n hκ 1 rfl rfl dJ0_appendNull_28 ?_
    refine r_iinc hκ (L2 := [(1, (0, ((bg s1 420 a0 0) + 1))), (2, (2, (bg s1 410 a0 0))), (0, (2, a0))]) 1 rfl (by decide) rfl dJ0_appendNull_29 ?_
    refine r_bipush hκ (by decide) dJ0_appendNull_32 ?_
    obtain ⟨⟨⟨h9, h10⟩, h11⟩, h⟩ := bck_i h
    refine r_bast hκ h9 h10 h11 dJ0_appendNull_34 (fun s3 es3 => ?_)
    replace h := bst_i h s3 es3
    refine r_aload_n hκ 1 rfl rfl dJ0_appendNull_35 ?_
    refine r_iload_n hκ 0 rfl rfl dJ0_appendNull_36 ?_
    refine r_iinc hκ (L2 := [(1, (0, (((bg s1 420 a0 0) + 1) + 1))), (2, (2, (bg s1 410 a0 0))), (0, (2, a0))]) 0 rfl (by decide) rfl dJ0_appendNull_37 ?_
    refine r_bipush hκ (by decide) dJ0_appendNull_40 ?_
    obtain ⟨⟨⟨h12, h13⟩, h14⟩, h⟩ := bck_i h
    refine r_bast hκ h12 h13 h14 dJ0_appendNull_42 (fun s4 es4 => ?_)
    replace h := bst_i h s4 es4
    refine r_aload_n hκ 1 rfl rfl dJ0_appendNull_43 ?_
    refine r_iload_n hκ 0 rfl rfl dJ0_appendNull_44 ?_
    refine r_iinc hκ (L2 := [(1, (0, ((((bg s1 420 a0 0) + 1) + 1) + 1))), (2, (2, (bg s1 410 a0 0))), (0, (2, a0))]) 0 rfl (by decide) rfl dJ0_appendNull_45 ?_
    refine r_bipush hκ (by decide) dJ0_appendNull_48 ?_
    obtain ⟨⟨⟨h15, h16⟩, h17⟩, h⟩ := bck_i h
    refine r_bast hκ h15 h16 h17 dJ0_appendNull_50 (fun s5 es5 => ?_)
    replace h := bst_i h s5 es5
    refine r_aload_n hκ 1 rfl rfl dJ0_appendNull_51 ?_
    refine r_iload_n hκ 0 rfl rfl dJ0_appendNull_52 ?_
    refine r_iinc hκ (L2 := [(1, (0, (((((bg s1 420 a0 0) + 1) + 1) + 1) + 1))), (2, (2, (bg s1 410 a0 0))), (0, (2, a0))]) 0 rfl (by decide) rfl dJ0_appendNull_53 ?_
    refine r_bipush hκ (by decide) dJ0_appendNull_56 ?_
    obtain ⟨⟨⟨h18, h19⟩, h20⟩, h⟩ := bck_i h
    refine r_bast hκ h18 h19 h20 dJ0_appendNull_58 (fun s6 es6 => ?_)
    replace h := bst_i h s6 es6
    refine r_goto hκ (tgt := 76) (by decide) dJ0_appendNull_59 ?_
    exact r_sub [2, 0] rfl (w_J0_appendNull_r hκ hi hf 0 _ _ _ h)
/-- java/lang/String.coder()B -/
def F_J2_coder (s0 : bS) (a0 : Int) : Option (bS × Int) :=
  bck (bg s0 0 a0 0 = 20) <|
  bck (-128 ≤ ((bg s0 428 a0 0) : Int) ∧ ((bg s0 428 a0 0) : Int) < 128) <|
  some (s0, (bg s0 428 a0 0))
set_option maxHeartbeats 4000000 in
set_option maxRecDepth 100000 in
theorem w_J2_coder (Γ0 : bG) (l0 : Launch) {s0 st' : bS} {v a0 : Int} (h : F_J2_coder s0 a0 = some (st', v)) : bCt Γ0 l0 yJ2_coder cJ2_coder 1 (some .byte) 0 0 [(2, a0)] s0 st' (some (0, v)) := by
  refine b_ent (own := RJ2) (by decide +kernel) rfl (Nat.le_of_ble_eq_true rfl) (L := [(0, (2, a0))]) rfl ?_
  intro κ hκ hi hf
  unfold F_J2_coder at h
  refine r_getsI hκ (x := 1) (by decide +kernel) q881 dJ2_coder_0 ?_
  refine r_if_eq hκ (tgt := 13) (by decide) dJ2_coder_3 (fun hc => absurd hc (by decide)) (fun _ => ?_)
  refine r_aload_n hκ 0 rfl rfl dJ2_coder_6 ?_
  obtain ⟨h1, h⟩ := bck_i h
  refine r_get hκ (t := 19) (k := 1) (r := 428) h1 rfl in_J2 (by decide) rfl q1172 (Or.inl rfl) dJ2_coder_7 ?_
  refine r_goto hκ (tgt := 14) (by decide) dJ2_coder_10 ?_
  obtain ⟨h2, h⟩ := bck_i h
  exact r_iretH hκ hf h (nar_byte h2) dJ2_coder_14
/-- java/lang/String.length()I -/
def F_J2_length (s0 : bS) (a0 : Int) : Option (bS × Int) :=
  bck (bg s0 0 a0 0 = 20) <|
  bck (bg s0 0 (bg s0 426 a0 0) 0 = 1000) <|
  bck (bg s0 0 a0 0 = 20) <|
  bcl (F_J2_coder s0 a0) fun s1 v1 =>
  some (s1, (b_ishr (bg s0 4 (bg s0 426 a0 0) 0) v1))
set_option maxHeartbeats 4000000 in
set_option maxRecDepth 100000 in
theorem w_J2_length (Γ0 : bG) (l0 : Launch) {s0 st' : bS} {v a0 : Int} (h : F_J2_length s0 a0 = some (st', v)) : bCt Γ0 l0 yJ2_length cJ2_length 1 (some .int) 1 20 [(2, a0)] s0 st' (some (0, v)) := by
  refine b_ent (own := RJ2) (by decide +kernel) rfl (Nat.le_of_ble_eq_true rfl) (L := [(0, (2, a0))]) rfl ?_
  intro κ hκ hi hf
  unfold F_J2_length at h
  refine r_aload_n hκ 0 rfl rfl dJ2_length_0 ?_
  obtain ⟨h1, h⟩ := bck_i h
  refine r_get hκ (t := 19) (k := 0) (r := 426) h1 rfl in_J2 (by decide) rfl q1171 (Or.inl rfl) dJ2_length_1 ?_
  obtain ⟨h2, h⟩ := bck_i h
  refine r_alen hκ (t := 0) h2 rfl dJ2_length_4 ?_
  refine r_aload_n hκ 0 rfl rfl dJ2_length_5 ?_
  obtain ⟨h3, h⟩ := bck_i h
  obtain ⟨s1, v1, h4, h⟩ := bcl_i h
  refine r_callV hκ (n' := 0) (index := 335) (w_J2_coder Γ0 l0 h4) (lw_V q877 q878 q879 q126 q880) (by decide +kernel) (t := 19) h3 rfl rfl (by decide) rfl (Nat.le_of_ble_eq_true rfl) dJ2_length_6 ?_
  refine r_ishr hκ dJ2_length_9 ?_
  exact r_iretH hκ hf h (nar_int _) dJ2_length_10
/-- jdk/internal/util/Preconditions.checkFromIndexSize(IIILjava/util/function/BiFunction;)I -/
def F_J18_checkFromIndexSize_r (b : Nat) (x0 x1 x2 x3 : Int) (s0 : bS) : Option (bS × Int) :=
  match b with
  | 0 =>
    none
  | _ => none
def F_J18_checkFromIndexSize (s0 : bS) (a0 a1 a2 a3 : Int) : Option (bS × Int) :=
  bte (i32 (b_ior (b_ior a2 a0) a1) < 0)
  (F_J18_checkFromIndexSize_r 0 a0 a1 a2 a3 s0)
  (bte (i32 a1 ≤ i32 (a2 - a0))
  (some (s0, a0))
  (F_J18_checkFromIndexSize_r 0 a0 a1 a2 a3 s0))
set_option maxHeartbeats 4000000 in
set_option maxRecDepth 100000 in
set_option synthInstance.maxHeartbeats 4000000 in
theorem w_J18_checkFromIndexSize_r {Γ0 : bG} {l0 : Launch} {κ : bK} {st' : bS} {v : Int} (hκ : bOk κ Γ0 l0 cJ18_checkFromIndexSize RJ18 4 0 0) (hi : bIn κ yJ18_checkFromIndexSize) (hf : bFin κ (some .int) st' (some (0, v))) (b : Nat) (x0 x1 x2 x3 : Int) (s0 : bS) (h : F_J18_checkFromIndexSize_r b x0 x1 x2 x3 s0 = some (st', v)) : match (generalizing := false) b with | 0 => bJ κ s0 15 [(0, (0, x0)), (1, (0, x1)), (2, (0, x2)), (3, (2, x3))] [] | _ => True := by
  unfold F_J18_checkFromIndexSize_r at h
  match b, h with
  | 0, h =>
      refine r_aload_n hκ 3 rfl rfl dJ18_checkFromIndexSize_15 ?_
      refine r_iload_n hκ 0 rfl rfl dJ18_checkFromIndexSize_16 ?_
      refine r_iload_n hκ 1 rfl rfl dJ18_checkFromIndexSize_17 ?_
      refine r_iload_n hκ 2 rfl rfl dJ18_checkFromIndexSize_18 ?_
      cases h
  | b + 1, h => trivial
set_option maxHeartbeats 4000000 in
set_option maxRecDepth 100000 in
theorem w_J18_checkFromIndexSize (Γ0 : bG) (l0 : Launch) {s0 st' : bS} {v a0 a1 a2 a3 : Int} (h : F_J18_checkFromIndexSize s0 a0 a1 a2 a3 = some (st', v)) : bCt Γ0 l0 yJ18_checkFromIndexSize cJ18_checkFromIndexSize 4 (some .int) 0 0 [(0, a0), (0, a1), (0, a2), (2, a3)] s0 st' (some (0, v)) := by
  refine b_ent (own := RJ18) (by decide +kernel) rfl (Nat.le_of_ble_eq_true rfl) (L := [(0, (0, a0)), (1, (0, a1)), (2, (0, a2)), (3, (2, a3))]) rfl ?_
  intro κ hκ hi hf
  unfold F_J18_checkFromIndexSize at h
  refine r_iload_n hκ 2 rfl rfl dJ18_checkFromIndexSize_0 ?_
  refine r_iload_n hκ 0 rfl rfl dJ18_checkFromIndexSize_1 ?_
  refine r_ior hκ dJ18_checkFromIndexSize_2 ?_
  refine r_iload_n hκ 1 rfl rfl dJ18_checkFromIndexSize_3 ?_
  refine r_ior hκ dJ18_checkFromIndexSize_4 ?_
  refine r_if_lt hκ (tgt := 15) (by decide) dJ18_checkFromIndexSize_5 (fun h1 => ?_) (fun h1 => ?_)
  · replace h := (bte_i h).1 h1
    exact r_sub [0, 1, 2, 3] rfl (w_J18_checkFromIndexSize_r hκ hi hf 0 _ _ _ _ _ h)
  · replace h := (bte_i h).2 h1
    refine r_iload_n hκ 1 rfl rfl dJ18_checkFromIndexSize_8 ?_
    refine r_iload_n hκ 2 rfl rfl dJ18_checkFromIndexSize_9 ?_
    refine r_iload_n hκ 0 rfl rfl dJ18_checkFromIndexSize_10 ?_
    refine r_isub hκ dJ18_checkFromIndexSize_11 ?_
    refine r_icmp_le hκ (tgt := 23) (by decide) dJ18_checkFromIndexSize_12 (fun h2 => ?_) (fun h2 => ?_)
    · replace h := (bte_i h).1 h2
      refine r_iload_n hκ 0 rfl rfl dJ18_checkFromIndexSize_23 ?_
      exact r_iretH hκ hf h (nar_int _) dJ18_checkFromIndexSize_24
    · replace h := (bte_i h).2 h2
      exact r_sub [0, 1, 2, 3] rfl (w_J18_checkFromIndexSize_r hκ hi hf 0 _ _ _ _ _ h)
/-- java/lang/String.checkBoundsOffCount(III)I -/
def F_J2_checkBoundsOffCount (s0 : bS) (a0 a1 a2 : Int) : Option (bS × Int) :=
  bcl (F_J18_checkFromIndexSize s0 a0 a1 a2 (bg s0 1 (-(2 + 0)) 0)) fun s1 v1 =>
  some (s1, v1)
set_option maxHeartbeats 4000000 in
set_option maxRecDepth 100000 in
theorem w_J2_checkBoundsOffCount (Γ0 : bG) (l0 : Launch) {s0 st' : bS} {v a0 a1 a2 : Int} (h : F_J2_checkBoundsOffCount s0 a0 a1 a2 = some (st', v)) : bCt Γ0 l0 yJ2_checkBoundsOffCount cJ2_checkBoundsOffCount 3 (some .int) 1 23 [(0, a0), (0, a1), (0, a2)] s0 st' (some (0, v)) := by
  refine b_ent (own := RJ2) (by decide +kernel) rfl (Nat.le_of_ble_eq_true rfl) (L := [(0, (0, a0)), (1, (0, a1)), (2, (0, a2))]) rfl ?_
  intro κ hκ hi hf
  unfold F_J2_checkBoundsOffCount at h
  refine r_iload_n hκ 0 rfl rfl dJ2_checkBoundsOffCount_0 ?_
  refine r_iload_n hκ 1 rfl rfl dJ2_checkBoundsOffCount_1 ?_
  refine r_iload_n hκ 2 rfl rfl dJ2_checkBoundsOffCount_2 ?_
  refine r_getsR hκ (j := 0) (by decide +kernel) q905 dJ2_checkBoundsOffCount_3 ?_
  obtain ⟨s1, v1, h1, h⟩ := bcl_i h
  refine r_callS hκ (n' := 4) (index := 1065) (w_J18_checkFromIndexSize Γ0 l0 h1) (lw_S q1104 q1105 q154 q1106) (by decide +kernel) rfl (by decide) rfl (Nat.le_of_ble_eq_true rfl) dJ2_checkBoundsOffCount_6 ?_
  exact r_iretH hκ hf h (nar_int _) dJ2_checkBoundsOffCount_9
/-- java/lang/StringLatin1.inflate([BI[BII)V -/
def F_J20_inflate (s0 : bS) (a0 a1 a2 a3 a4 : Int) : Option (bS × Int) :=
  none
set_option maxHeartbeats 4000000 in
set_option maxRecDepth 100000 in
theorem w_J20_inflate (Γ0 : bG) (l0 : Launch) {s0 st' : bS} {v a0 a1 a2 a3 a4 : Int} (h : F_J20_inflate s0 a0 a1 a2 a3 a4 = some (st', v)) : bCt Γ0 l0 yJ20_inflate cJ20_inflate 5 none 0 0 [(2, a0), (0, a1), (2, a2), (0, a3), (0, a4)] s0 st' none := by
  refine b_ent (own := RJ20) (by decide +kernel) rfl (Nat.le_of_ble_eq_true rfl) (L := [(0, (2, a0)), (1, (0, a1)), (2, (2, a2)), (3, (0, a3)), (4, (0, a4))]) rfl ?_
  intro κ hκ hi hf
  unfold F_J20_inflate at h
  refine r_aload_n hκ 0 rfl rfl dJ20_inflate_0 ?_
  refine r_iload_n hκ 1 rfl rfl dJ20_inflate_1 ?_
  refine r_aload_n hκ 2 rfl rfl dJ20_inflate_2 ?_
  refine r_iload_n hκ 3 rfl rfl dJ20_inflate_3 ?_
  refine r_iload hκ 4 rfl dJ20_inflate_4 ?_
  cases h
/-- java/lang/AbstractStringBuilder.inflate()V -/
def F_J0_inflate (s0 : bS) (a0 : Int) : Option (bS × Int) :=
  bck (bg s0 0 a0 0 = 19) <|
  bcl (F_J0_isLatin1 s0 a0) fun s1 v1 =>
  bte (i32 v1 = 0)
  (some (s1, 0))
  (bck (bg s1 0 a0 0 = 19) <|
  bck (bg s1 0 (bg s1 410 a0 0) 0 = 1000) <|
  none)
set_option maxHeartbeats 4000000 in
set_option maxRecDepth 100000 in
theorem w_J0_inflate (Γ0 : bG) (l0 : Launch) {s0 st' : bS} {v a0 : Int} (h : F_J0_inflate s0 a0 = some (st', v)) : bCt Γ0 l0 yJ0_inflate cJ0_inflate 2 none 1 20 [(2, a0)] s0 st' none := by
  refine b_ent (own := RJ0) (by decide +kernel) rfl (Nat.le_of_ble_eq_true rfl) (L := [(0, (2, a0))]) rfl ?_
  intro κ hκ hi hf
  unfold F_J0_inflate at h
  refine r_aload_n hκ 0 rfl rfl dJ0_inflate_0 ?_
  obtain ⟨h1, h⟩ := bck_i h
  obtain ⟨s1, v1, h2, h⟩ := bcl_i h
  refine r_callU hκ (index := 83) (C := "java/lang/StringBuilder") (owner := "java/lang/AbstractStringBuilder") (n' := 0) (w_J0_isLatin1 Γ0 l0 h2) (fun R s args hts hRR => va_cwU 0 hts (lw_app (lw_l5 q1058 q1060 q1061 q1059 q124) (lw_meth q1062)) rfl rfl rfl rfl (by decide +kernel) hRR) (t := 18) h1 rfl rfl (by decide) rfl (Nat.le_of_ble_eq_true rfl) dJ0_inflate_1 ?_
  refine r_if_ne hκ (tgt := 8) (by decide) dJ0_inflate_4 (fun h3 => ?_) (fun h3 => ?_)
  · replace h := (bte_i h).2 h3
    refine r_aload_n hκ 0 rfl rfl dJ0_inflate_8 ?_
    obtain ⟨h4, h⟩ := bck_i h
    refine r_get hκ (t := 18) (k := 0) (r := 410) h4 rfl in_J1 (by decide) rfl q302 (Or.inl rfl) dJ0_inflate_9 ?_
    obtain ⟨h5, h⟩ := bck_i h
    refine r_alen hκ (t := 0) h5 rfl dJ0_inflate_12 ?_
    cases h
  · replace h := (bte_i h).1 h3
    exact r_vretH hκ hf h dJ0_inflate_7
/-- java/lang/AbstractStringBuilder.inflateIfNeededFor(Ljava/lang/String;)V -/
def F_J0_inflateIfNeededFor (s0 : bS) (a0 a1 : Int) : Option (bS × Int) :=
  bck (bg s0 0 a0 0 = 19) <|
  bck (bg s0 0 a1 0 = 20) <|
  bcl (F_J2_coder s0 a1) fun s1 v1 =>
  bte (i32 (bg s0 412 a0 0) = i32 v1)
  (some (s1, 0))
  (bck (bg s1 0 a0 0 = 19) <|
  bcl (F_J0_inflate s1 a0) fun s2 v2 =>
  some (s2, 0))
set_option maxHeartbeats 4000000 in
set_option maxRecDepth 100000 in
theorem w_J0_inflateIfNeededFor (Γ0 : bG) (l0 : Launch) {s0 st' : bS} {v a0 a1 : Int} (h : F_J0_inflateIfNeededFor s0 a0 a1 = some (st', v)) : bCt Γ0 l0 yJ0_inflateIfNeededFor cJ0_inflateIfNeededFor 2 none 2 41 [(2, a0), (2, a1)] s0 st' none := by
  refine b_ent (own := RJ0) (by decide +kernel) rfl (Nat.le_of_ble_eq_true rfl) (L := [(0, (2, a0)), (1, (2, a1))]) rfl ?_
  intro κ hκ hi hf
  unfold F_J0_inflateIfNeededFor at h
  refine r_getsI hκ (x := 1) (by decide +kernel) q208 dJ0_inflateIfNeededFor_0 ?_
  refine r_if_eq hκ (tgt := 21) (by decide) dJ0_inflateIfNeededFor_3 (fun hc => absurd hc (by decide)) (fun _ => ?_)
  refine r_aload_n hκ 0 rfl rfl dJ0_inflateIfNeededFor_6 ?_
  obtain ⟨h1, h⟩ := bck_i h
  refine r_get hκ (t := 18) (k := 1) (r := 412) h1 rfl in_J1 (by decide) rfl q303 (Or.inl rfl) dJ0_inflateIfNeededFor_7 ?_
  refine r_aload_n hκ 1 rfl rfl dJ0_inflateIfNeededFor_10 ?_
  obtain ⟨h2, h⟩ := bck_i h
  obtain ⟨s1, v1, h3, h⟩ := bcl_i h
  refine r_callV hκ (n' := 0) (index := 40) (w_J2_coder Γ0 l0 h3) (lw_V q1087 q878 q879 q126 q880) (by decide +kernel) (t := 19) h2 rfl rfl (by decide) rfl (Nat.le_of_ble_eq_true rfl) dJ0_inflateIfNeededFor_11 ?_
  refine r_icmp_eq hκ (tgt := 21) (by decide) dJ0_inflateIfNeededFor_14 (fun h4 => ?_) (fun h4 => ?_)
  · replace h := (bte_i h).1 h4
    exact r_vretH hκ hf h dJ0_inflateIfNeededFor_21
  · replace h := (bte_i h).2 h4
    refine r_aload_n hκ 0 rfl rfl dJ0_inflateIfNeededFor_17 ?_
    obtain ⟨h5, h⟩ := bck_i h
    obtain ⟨s2, v2, h6, h⟩ := bcl_i h
    refine r_callP hκ (index := 195) (C := "java/lang/StringBuilder") (owner := "java/lang/AbstractStringBuilder") (n' := 0) (w_J0_inflate Γ0 l0 h6) (fun R s args hts hsl hRR => va_cwU 0 (List.forall_mem_cons.mpr ⟨hsl ("java/lang/StringBuilder", ⟨"java/lang/AbstractStringBuilder", "inflate", "()V"⟩) (by decide +kernel), hts⟩) (b_gP rfl q1088 q3590 q1090 q124 (lw_meth q1091)) rfl rfl rfl rfl (by decide +kernel) hRR) (t := 18) h5 rfl rfl (by decide) rfl (Nat.le_of_ble_eq_true rfl) dJ0_inflateIfNeededFor_18 ?_
    exact r_vretH hκ hf h dJ0_inflateIfNeededFor_21
/-- java/lang/String.getBytes([BIB)V -/
def F_J2_getBytes (s0 : bS) (a0 a1 a2 a3 : Int) : Option (bS × Int) :=
  bck (bg s0 0 a0 0 = 20) <|
  bcl (F_J2_coder s0 a0) fun s1 v1 =>
  bte (i32 v1 = i32 a3)
  (bck (bg s1 0 a0 0 = 20) <|
  bck (bg s1 0 a0 0 = 20) <|
  bck (bg s1 0 (bg s1 426 a0 0) 0 = 1000) <|
  bck ((bg s1 0 (bg s1 426 a0 0) 0 = 1000 ∧ bg s1 0 a1 0 = 1000) ∧ ((0 : Int) ≤ 0 ∧ (0 : Int) ≤ (b_ishl a2 a3) ∧ (0 : Int) ≤ (bg s1 4 (bg s1 426 a0 0) 0)) ∧ (0 + (bg s1 4 (bg s1 426 a0 0) 0) ≤ bg s1 4 (bg s1 426 a0 0) 0 ∧ (b_ishl a2 a3) + (bg s1 4 (bg s1 426 a0 0) 0) ≤ bg s1 4 a1 0) ∧ bg s1 1 (-1) 0 ≤ a1) <|
  bst (bcp s1 8 (bg s1 426 a0 0) 0 a1 (b_ishl a2 a3) (bg s1 4 (bg s1 426 a0 0) 0)) fun s3 =>
  some (s3, 0))
  (bck (bg s1 0 a0 0 = 20) <|
  bck (bg s1 0 a0 0 = 20) <|
  bck (bg s1 0 (bg s1 426 a0 0) 0 = 1000) <|
  bcl (F_J20_inflate s1 (bg s1 426 a0 0) 0 a1 a2 (bg s1 4 (bg s1 426 a0 0) 0)) fun s2 v2 =>
  some (s2, 0))
set_option maxHeartbeats 4000000 in
set_option maxRecDepth 100000 in
theorem w_J2_getBytes (Γ0 : bG) (l0 : Launch) {s0 st' : bS} {v a0 a1 a2 a3 : Int} (h : F_J2_getBytes s0 a0 a1 a2 a3 = some (st', v)) : bCt Γ0 l0 yJ2_getBytes cJ2_getBytes 4 none 1 40 [(2, a0), (2, a1), (0, a2), (0, a3)] s0 st' none := by
  refine b_ent (own := RJ2) (by decide +kernel) rfl (Nat.le_of_ble_eq_true rfl) (L := [(0, (2, a0)), (1, (2, a1)), (2, (0, a2)), (3, (0, a3))]) rfl ?_
  intro κ hκ hi hf
  unfold F_J2_getBytes at h
  refine r_aload_n hκ 0 rfl rfl dJ2_getBytes_0 ?_
  obtain ⟨h1, h⟩ := bck_i h
  obtain ⟨s1, v1, h2, h⟩ := bcl_i h
  refine r_callV hκ (n' := 0) (index := 335) (w_J2_coder Γ0 l0 h2) (lw_V q877 q878 q879 q126 q880) (by decide +kernel) (t := 19) h1 rfl rfl (by decide) rfl (Nat.le_of_ble_eq_true rfl) dJ2_getBytes_1 ?_
  refine r_iload_n hκ 3 rfl rfl dJ2_getBytes_4 ?_
  refine r_icmp_ne hκ (tgt := 28) (by decide) dJ2_getBytes_5 (fun h3 => ?_) (fun h3 => ?_)
  · replace h := (bte_i h).2 h3
    refine r_aload_n hκ 0 rfl rfl dJ2_getBytes_28 ?_
    obtain ⟨h4, h⟩ := bck_i h
    refine r_get hκ (t := 19) (k := 0) (r := 426) h4 rfl in_J2 (by decide) rfl q1171 (Or.inl rfl) dJ2_getBytes_29 ?_
    refine r_iconst hκ dJ2_getBytes_32 ?_
    refine r_aload_n hκ 1 rfl rfl dJ2_getBytes_33 ?_
    refine r_iload_n hκ 2 rfl rfl dJ2_getBytes_34 ?_
    refine r_aload_n hκ 0 rfl rfl dJ2_getBytes_35 ?_
    obtain ⟨h5, h⟩ := bck_i h
    refine r_get hκ (t := 19) (k := 0) (r := 426) h5 rfl in_J2 (by decide) rfl q1171 (Or.inl rfl) dJ2_getBytes_36 ?_
    obtain ⟨h6, h⟩ := bck_i h
    refine r_alen hκ (t := 0) h6 rfl dJ2_getBytes_39 ?_
    obtain ⟨s2, v2, h7, h⟩ := bcl_i h
    refine r_callS hκ (n' := 5) (index := 106) (w_J20_inflate Γ0 l0 h7) (lw_S q1112 q1093 q156 q1094) (by decide +kernel) rfl (by decide) rfl (Nat.le_of_ble_eq_true rfl) dJ2_getBytes_40 ?_
    exact r_vretH hκ hf h dJ2_getBytes_43
  · replace h := (bte_i h).1 h3
    refine r_aload_n hκ 0 rfl rfl dJ2_getBytes_8 ?_
    obtain ⟨h8, h⟩ := bck_i h
    refine r_get hκ (t := 19) (k := 0) (r := 426) h8 rfl in_J2 (by decide) rfl q1171 (Or.inl rfl) dJ2_getBytes_9 ?_
    refine r_iconst hκ dJ2_getBytes_12 ?_
    refine r_aload_n hκ 1 rfl rfl dJ2_getBytes_13 ?_
    refine r_iload_n hκ 2 rfl rfl dJ2_getBytes_14 ?_
    refine r_iload_n hκ 3 rfl rfl dJ2_getBytes_15 ?_
    refine r_ishl hκ dJ2_getBytes_16 ?_
    refine r_aload_n hκ 0 rfl rfl dJ2_getBytes_17 ?_
    obtain ⟨h9, h⟩ := bck_i h
    refine r_get hκ (t := 19) (k := 0) (r := 426) h9 rfl in_J2 (by decide) rfl q1171 (Or.inl rfl) dJ2_getBytes_18 ?_
    obtain ⟨h10, h⟩ := bck_i h
    refine r_alen hκ (t := 0) h10 rfl dJ2_getBytes_21 ?_
    obtain ⟨⟨⟨h11, h12⟩, ⟨h13, h14, h15⟩, ⟨h16, h17⟩, h18⟩, h⟩ := bck_i h
    refine r_acopy hκ (t := 0) (er := 8) h11 h12 (Or.inl (by decide)) rfl h13 h14 h15 h16 h17 h18 (fun h9 => absurd h9 (by decide)) q1111 q743 q742 q152 (by decide) (Nat.le_of_ble_eq_true rfl) dJ2_getBytes_22 (fun s3 es3 => ?_)
    replace h := bst_i h s3 es3
    refine r_goto hκ (tgt := 43) (by decide) dJ2_getBytes_25 ?_
    exact r_vretH hκ hf h dJ2_getBytes_43
/-- java/lang/AbstractStringBuilder.putStringAt(ILjava/lang/String;)V -/
def F_J0_putStringAt (s0 : bS) (a0 a1 a2 : Int) : Option (bS × Int) :=
  bck (bg s0 0 a0 0 = 19) <|
  bcl (F_J0_inflateIfNeededFor s0 a0 a2) fun s1 v1 =>
  bck (bg s1 0 a0 0 = 19) <|
  bck (bg s1 0 a0 0 = 19) <|
  bck (bg s1 0 a2 0 = 20) <|
  bcl (F_J2_getBytes s1 a2 (bg s1 410 a0 0) a1 (bg s1 412 a0 0)) fun s2 v2 =>
  some (s2, 0)
set_option maxHeartbeats 4000000 in
set_option maxRecDepth 100000 in
theorem w_J0_putStringAt (Γ0 : bG) (l0 : Launch) {s0 st' : bS} {v a0 a1 a2 : Int} (h : F_J0_putStringAt s0 a0 a1 a2 = some (st', v)) : bCt Γ0 l0 yJ0_putStringAt cJ0_putStringAt 3 none 3 63 [(2, a0), (0, a1), (2, a2)] s0 st' none := by
  refine b_ent (own := RJ0) (by decide +kernel) rfl (Nat.le_of_ble_eq_true rfl) (L := [(0, (2, a0)), (1, (0, a1)), (2, (2, a2))]) rfl ?_
  intro κ hκ hi hf
  unfold F_J0_putStringAt at h
  refine r_aload_n hκ 0 rfl rfl dJ0_putStringAt_0 ?_
  refine r_aload_n hκ 2 rfl rfl dJ0_putStringAt_1 ?_
  obtain ⟨h1, h⟩ := bck_i h
  obtain ⟨s1, v1, h2, h⟩ := bcl_i h
  refine r_callP hκ (index := 397) (C := "java/lang/StringBuilder") (owner := "java/lang/AbstractStringBuilder") (n' := 1) (w_J0_inflateIfNeededFor Γ0 l0 h2) (fun R s args hts hsl hRR => va_cwU 1 (List.forall_mem_cons.mpr ⟨hsl ("java/lang/StringBuilder", ⟨"java/lang/AbstractStringBuilder", "inflateIfNeededFor", "(Ljava/lang/String;)V"⟩) (by decide +kernel), hts⟩) (b_gP rfl q1083 q3589 q1085 q124 (lw_meth q1086)) rfl rfl rfl rfl (by decide +kernel) hRR) (t := 18) h1 rfl rfl (by decide) rfl (Nat.le_of_ble_eq_true rfl) dJ0_putStringAt_2 ?_
  refine r_aload_n hκ 2 rfl rfl dJ0_putStringAt_5 ?_
  refine r_aload_n hκ 0 rfl rfl dJ0_putStringAt_6 ?_
  obtain ⟨h3, h⟩ := bck_i h
  refine r_get hκ (t := 18) (k := 0) (r := 410) h3 rfl in_J1 (by decide) rfl q302 (Or.inl rfl) dJ0_putStringAt_7 ?_
  refine r_iload_n hκ 1 rfl rfl dJ0_putStringAt_10 ?_
  refine r_aload_n hκ 0 rfl rfl dJ0_putStringAt_11 ?_
  obtain ⟨h4, h⟩ := bck_i h
  refine r_get hκ (t := 18) (k := 1) (r := 412) h4 rfl in_J1 (by decide) rfl q303 (Or.inl rfl) dJ0_putStringAt_12 ?_
  obtain ⟨h5, h⟩ := bck_i h
  obtain ⟨s2, v2, h6, h⟩ := bcl_i h
  refine r_callV hκ (n' := 3) (index := 399) (w_J2_getBytes Γ0 l0 h6) (lw_V q1107 q1108 q1109 q126 q1110) (by decide +kernel) (t := 19) h5 rfl rfl (by decide) rfl (Nat.le_of_ble_eq_true rfl) dJ0_putStringAt_15 ?_
  exact r_vretH hκ hf h dJ0_putStringAt_18
/-- java/lang/AbstractStringBuilder.append(Ljava/lang/String;)Ljava/lang/AbstractStringBuilder; -/
def F_J0_append (s0 : bS) (a0 a1 : Int) : Option (bS × Int) :=
  bte (a1 < 0)
  (bck (bg s0 0 a0 0 = 19) <|
  bcl (F_J0_appendNull s0 a0) fun s5 v4 =>
  some (s5, v4))
  (bck (bg s0 0 a1 0 = 20) <|
  bcl (F_J2_length s0 a1) fun s1 v1 =>
  bck (bg s1 0 a0 0 = 19) <|
  bck (bg s1 0 a0 0 = 19) <|
  bcl (F_J0_ensureCapacityInternal s1 a0 ((bg s1 420 a0 0) + v1)) fun s2 v2 =>
  bck (bg s2 0 a0 0 = 19) <|
  bck (bg s2 0 a0 0 = 19) <|
  bcl (F_J0_putStringAt s2 a0 (bg s2 420 a0 0) a1) fun s3 v3 =>
  bck (bg s3 0 a0 0 = 19) <|
  bck ((bg s3 0 a0 0 = 19)) <|
  bst (bw s3 420 a0 0 ((bg s3 420 a0 0) + v1)) fun s4 =>
  some (s4, a0))
set_option maxHeartbeats 4000000 in
set_option maxRecDepth 100000 in
theorem w_J0_append (Γ0 : bG) (l0 : Launch) {s0 st' : bS} {v a0 a1 : Int} (h : F_J0_append s0 a0 a1 = some (st', v)) : bCt Γ0 l0 yJ0_append cJ0_append 3 (some (.object "java/lang/AbstractStringBuilder")) 5 113 [(2, a0), (2, a1)] s0 st' (some (2, v)) := by
  refine b_ent (own := RJ0) (by decide +kernel) rfl (Nat.le_of_ble_eq_true rfl) (L := [(0, (2, a0)), (1, (2, a1))]) rfl ?_
  intro κ hκ hi hf
  unfold F_J0_append at h
  refine r_aload_n hκ 1 rfl rfl dJ0_append_0 ?_
  refine r_ifnonnull hκ (tgt := 9) (by decide) dJ0_append_1 (fun h1 => ?_) (fun h1 => ?_)
  · replace h := (bte_i h).2 h1
    refine r_aload_n hκ 1 rfl rfl dJ0_append_9 ?_
    obtain ⟨h2, h⟩ := bck_i h
    obtain ⟨s1, v1, h3, h⟩ := bcl_i h
    refine r_callV hκ (n' := 0) (index := 32) (w_J2_length Γ0 l0 h3) (lw_V q1078 q874 q875 q126 q876) (by decide +kernel) (t := 19) h2 rfl rfl (by decide) rfl (Nat.le_of_ble_eq_true rfl) dJ0_append_10 ?_
    refine r_istore_n hκ (L2 := [(2, (0, v1)), (0, (2, a0)), (1, (2, a1))]) (by decide) rfl rfl dJ0_append_13 ?_
    refine r_aload_n hκ 1 rfl rfl dJ0_append_14 ?_
    refine r_aload_n hκ 1 rfl rfl dJ0_append_15 ?_
    obtain ⟨h4, h⟩ := bck_i h
    refine r_get hκ (t := 18) (k := 3) (r := 420) h4 rfl in_J1 (by decide) rfl q306 (Or.inl rfl) dJ0_append_16 ?_
    refine r_iload_n hκ 0 rfl rfl dJ0_append_19 ?_
    refine r_iadd hκ dJ0_append_20 ?_
    obtain ⟨h5, h⟩ := bck_i h
    obtain ⟨s2, v2, h6, h⟩ := bcl_i h
    refine r_callP hκ (index := 100) (C := "java/lang/StringBuilder") (owner := "java/lang/AbstractStringBuilder") (n' := 1) (w_J0_ensureCapacityInternal Γ0 l0 h6) (fun R s args hts hsl hRR => va_cwU 1 (List.forall_mem_cons.mpr ⟨hsl ("java/lang/StringBuilder", ⟨"java/lang/AbstractStringBuilder", "ensureCapacityInternal", "(I)V"⟩) (by decide +kernel), hts⟩) (b_gP rfl q1025 q3586 q1027 q124 (lw_meth q1028)) rfl rfl rfl rfl (by decide +kernel) hRR) (t := 18) h5 rfl rfl (by decide) rfl (Nat.le_of_ble_eq_true rfl) dJ0_append_21 ?_
    refine r_aload_n hκ 1 rfl rfl dJ0_append_24 ?_
    refine r_aload_n hκ 1 rfl rfl dJ0_append_25 ?_
    obtain ⟨h7, h⟩ := bck_i h
    refine r_get hκ (t := 18) (k := 3) (r := 420) h7 rfl in_J1 (by decide) rfl q306 (Or.inl rfl) dJ0_append_26 ?_
    refine r_aload_n hκ 2 rfl rfl dJ0_append_29 ?_
    obtain ⟨h8, h⟩ := bck_i h
    obtain ⟨s3, v3, h9, h⟩ := bcl_i h
    refine r_callP hκ (index := 208) (C := "java/lang/StringBuilder") (owner := "java/lang/AbstractStringBuilder") (n' := 2) (w_J0_putStringAt Γ0 l0 h9) (fun R s args hts hsl hRR => va_cwU 2 (List.forall_mem_cons.mpr ⟨hsl ("java/lang/StringBuilder", ⟨"java/lang/AbstractStringBuilder", "putStringAt", "(ILjava/lang/String;)V"⟩) (by decide +kernel), hts⟩) (b_gP rfl q1079 q3588 q1081 q124 (lw_meth q1082)) rfl rfl rfl rfl (by decide +kernel) hRR) (t := 18) h8 rfl rfl (by decide) rfl (Nat.le_of_ble_eq_true rfl) dJ0_append_30 ?_
    refine r_aload_n hκ 1 rfl rfl dJ0_append_33 ?_
    refine r_dup hκ (bd_cat2k _) dJ0_append_34 ?_
    obtain ⟨h10, h⟩ := bck_i h
    refine r_get hκ (t := 18) (k := 3) (r := 420) h10 rfl in_J1 (by decide) rfl q306 (Or.inl rfl) dJ0_append_35 ?_
    refine r_iload_n hκ 0 rfl rfl dJ0_append_38 ?_
    refine r_iadd hκ dJ0_append_39 ?_
    obtain ⟨h11, h⟩ := bck_i h
    refine r_put hκ (t := 18) (k := 3) (r := 420) (ty := .int) tyJ1 tyJ1_ok nmJ1 h11 rfl in_J1 (by decide) rfl q306 (Or.inl rfl) rfl rfl rfl trivial (Or.inl (by decide)) dJ0_append_40 (fun s4 es4 => ?_)
    replace h := bst_i h s4 es4
    refine r_aload_n hκ 1 rfl rfl dJ0_append_43 ?_
    exact r_aretH hκ hf h rt_o dJ0_append_44
  · replace h := (bte_i h).1 h1
    refine r_aload_n hκ 0 rfl rfl dJ0_append_4 ?_
    obtain ⟨h12, h⟩ := bck_i h
    obtain ⟨s5, v4, h13, h⟩ := bcl_i h
    refine r_callP hκ (index := 204) (C := "java/lang/StringBuilder") (owner := "java/lang/AbstractStringBuilder") (n' := 0) (w_J0_appendNull Γ0 l0 h13) (fun R s args hts hsl hRR => va_cwU 0 (List.forall_mem_cons.mpr ⟨hsl ("java/lang/StringBuilder", ⟨"java/lang/AbstractStringBuilder", "appendNull", "()Ljava/lang/AbstractStringBuilder;"⟩) (by decide +kernel), hts⟩) (b_gP rfl q1021 q3585 q1023 q124 (lw_meth q1024)) rfl rfl rfl rfl (by decide +kernel) hRR) (t := 18) h12 rfl rfl (by decide) rfl (Nat.le_of_ble_eq_true rfl) dJ0_append_5 ?_
    exact r_aretH hκ hf h rt_o dJ0_append_8
/-- java/lang/StringBuilder.append(Ljava/lang/String;)Ljava/lang/AbstractStringBuilder; -/
def F_J1_append_5 (s0 : bS) (a0 a1 : Int) : Option (bS × Int) :=
  none
set_option maxHeartbeats 4000000 in
set_option maxRecDepth 100000 in
theorem w_J1_append_5 (Γ0 : bG) (l0 : Launch) {s0 st' : bS} {v a0 a1 : Int} (h : F_J1_append_5 s0 a0 a1 = some (st', v)) : bCt Γ0 l0 yJ1_append_5 cJ1_append_5 2 (some (.object "java/lang/AbstractStringBuilder")) 0 0 [(2, a0), (2, a1)] s0 st' (some (2, v)) := by
  refine b_ent (own := RJ1) (by decide +kernel) rfl (Nat.le_of_ble_eq_true rfl) (L := [(0, (2, a0)), (1, (2, a1))]) rfl ?_
  intro κ hκ hi hf
  unfold F_J1_append_5 at h
  refine r_aload_n hκ 0 rfl rfl dJ1_append_5_0 ?_
  refine r_aload_n hκ 1 rfl rfl dJ1_append_5_1 ?_
  cases h
/-- java/lang/StringBuilder.append(Ljava/lang/String;)Ljava/lang/StringBuilder; -/
def F_J1_append (s0 : bS) (a0 a1 : Int) : Option (bS × Int) :=
  bck (bg s0 0 a0 0 = 19) <|
  bcl (F_J0_append s0 a0 a1) fun s1 v1 =>
  some (s1, a0)
set_option maxHeartbeats 4000000 in
set_option maxRecDepth 100000 in
theorem w_J1_append (Γ0 : bG) (l0 : Launch) {s0 st' : bS} {v a0 a1 : Int} (h : F_J1_append s0 a0 a1 = some (st', v)) : bCt Γ0 l0 yJ1_append cJ1_append 2 (some (.object "java/lang/StringBuilder")) 6 135 [(2, a0), (2, a1)] s0 st' (some (2, v)) := by
  refine b_ent (own := RJ1) (by decide +kernel) rfl (Nat.le_of_ble_eq_true rfl) (L := [(0, (2, a0)), (1, (2, a1))]) rfl ?_
  intro κ hκ hi hf
  unfold F_J1_append at h
  refine r_aload_n hκ 0 rfl rfl dJ1_append_0 ?_
  refine r_aload_n hκ 1 rfl rfl dJ1_append_1 ?_
  obtain ⟨h1, h⟩ := bck_i h
  obtain ⟨s1, v1, h2, h⟩ := bcl_i h
  refine r_callSU hκ (n' := 1) (index := 29) (w_J0_append Γ0 l0 h2) (lw_app (lw_l5 q1018 q3584 q315 q1019 q124) (lw_meth q1020)) (by decide +kernel) (t := 18) h1 rfl rfl (by decide) rfl (Nat.le_of_ble_eq_true rfl) dJ1_append_2 ?_
  refine r_pop hκ (bd_cat2k _) dJ1_append_5 ?_
  refine r_aload_n hκ 0 rfl rfl dJ1_append_6 ?_
  exact r_aretH hκ hf h rt_o dJ1_append_7
/-- java/lang/Integer.stringSize(I)I -/
def F_J21_stringSize_r (b : Nat) (x0 x1 x2 x3 : Int) (s0 : bS) : Option (bS × Int) :=
  match b with
  | 0 =>
    F_J21_stringSize_r 1 x0 x1 (-10) 1 s0
  | 1 =>
    bte (i32 10 ≤ i32 x3)
    (some (s0, (10 + x1)))
    (bte (i32 x0 ≤ i32 x2)
    (F_J21_stringSize_r 1 x0 x1 (10 * x2) (x3 + 1) s0)
    (some (s0, (x3 + x1))))
  | _ => none
partial_fixpoint
def F_J21_stringSize (s0 : bS) (a0 : Int) : Option (bS × Int) :=
  bte (i32 a0 < 0)
  (F_J21_stringSize_r 0 a0 1 0 0 s0)
  (F_J21_stringSize_r 0 (- a0) 0 0 0 s0)
set_option maxHeartbeats 4000000 in
set_option maxRecDepth 100000 in
set_option synthInstance.maxHeartbeats 4000000 in
theorem w_J21_stringSize_r {Γ0 : bG} {l0 : Launch} {κ : bK} {st' : bS} {v : Int} (hκ : bOk κ Γ0 l0 cJ21_stringSize RJ21 4 0 0) (hi : bIn κ yJ21_stringSize) (hf : bFin κ (some .int) st' (some (0, v))) (b : Nat) (x0 x1 x2 x3 : Int) (s0 : bS) (h : F_J21_stringSize_r b x0 x1 x2 x3 s0 = some (st', v)) : match (generalizing := false) b with | 0 => bJ κ s0 11 [(0, (0, x0)), (1, (0, x1))] [] | 1 => bJ κ s0 16 [(0, (0, x0)), (1, (0, x1)), (2, (0, x2)), (3, (0, x3))] [] | _ => True := by
  refine F_J21_stringSize_r.partial_correctness x0 x1 s0 (fun b x2 x3 r => r = (st', v) → match (generalizing := false) b with | 0 => bJ κ s0 11 [(0, (0, x0)), (1, (0, x1))] [] | 1 => bJ κ s0 16 [(0, (0, x0)), (1, (0, x1)), (2, (0, x2)), (3, (0, x3))] [] | _ => True) ?_ b x2 x3 _ h rfl
  intro f' ih b x2 x3 r h hr
  subst hr
  match b, h with
  | 0, h =>
      refine r_bipush hκ (by decide) dJ21_stringSize_11 ?_
      refine r_istore_n hκ (L2 := [(2, (0, (-10))), (0, (0, x0)), (1, (0, x1))]) (by decide) rfl rfl dJ21_stringSize_13 ?_
      refine r_iconst hκ dJ21_stringSize_14 ?_
      refine r_istore_n hκ (L2 := [(3, (0, 1)), (2, (0, (-10))), (0, (0, x0)), (1, (0, x1))]) (by decide) rfl rfl dJ21_stringSize_15 ?_
      exact r_sub [2, 3, 1, 0] rfl (ih 1 _ _ _ h rfl)
  | 1, h =>
      refine r_iload_n hκ 3 rfl rfl dJ21_stringSize_16 ?_
      refine r_bipush hκ (by decide) dJ21_stringSize_17 ?_
      refine r_icmp_ge hκ (tgt := 42) (by decide) dJ21_stringSize_19 (fun h2 => ?_) (fun h2 => ?_)
      · replace h := (bte_i h).1 h2
        refine r_bipush hκ (by decide) dJ21_stringSize_42 ?_
        refine r_iload_n hκ 1 rfl rfl dJ21_stringSize_44 ?_
        refine r_iadd hκ dJ21_stringSize_45 ?_
        exact r_iretH hκ hf h (nar_int _) dJ21_stringSize_46
      · replace h := (bte_i h).2 h2
        refine r_iload_n hκ 0 rfl rfl dJ21_stringSize_22 ?_
        refine r_iload_n hκ 2 rfl rfl dJ21_stringSize_23 ?_
        refine r_icmp_le hκ (tgt := 31) (by decide) dJ21_stringSize_24 (fun h3 => ?_) (fun h3 => ?_)
        · replace h := (bte_i h).1 h3
          refine r_bipush hκ (by decide) dJ21_stringSize_31 ?_
          refine r_iload_n hκ 2 rfl rfl dJ21_stringSize_33 ?_
          refine r_imul hκ dJ21_stringSize_34 ?_
          refine r_istore_n hκ (L2 := [(2, (0, (10 * x2))), (0, (0, x0)), (1, (0, x1)), (3, (0, x3))]) (by decide) rfl rfl dJ21_stringSize_35 ?_
          refine r_iinc hκ (L2 := [(3, (0, (x3 + 1))), (2, (0, (10 * x2))), (0, (0, x0)), (1, (0, x1))]) 3 rfl (by decide) rfl dJ21_stringSize_36 ?_
          refine r_goto hκ (tgt := 16) (by decide) dJ21_stringSize_39 ?_
          exact r_sub [2, 3, 1, 0] rfl (ih 1 _ _ _ h rfl)
        · replace h := (bte_i h).2 h3
          refine r_iload_n hκ 3 rfl rfl dJ21_stringSize_27 ?_
          refine r_iload_n hκ 1 rfl rfl dJ21_stringSize_28 ?_
          refine r_iadd hκ dJ21_stringSize_29 ?_
          exact r_iretH hκ hf h (nar_int _) dJ21_stringSize_30
  | b + 2, h => trivial
set_option maxHeartbeats 4000000 in
set_option maxRecDepth 100000 in
theorem w_J21_stringSize (Γ0 : bG) (l0 : Launch) {s0 st' : bS} {v a0 : Int} (h : F_J21_stringSize s0 a0 = some (st', v)) : bCt Γ0 l0 yJ21_stringSize cJ21_stringSize 4 (some .int) 0 0 [(0, a0)] s0 st' (some (0, v)) := by
  refine b_ent (own := RJ21) (by decide +kernel) rfl (Nat.le_of_ble_eq_true rfl) (L := [(0, (0, a0))]) rfl ?_
  intro κ hκ hi hf
  unfold F_J21_stringSize at h
  refine r_iconst hκ dJ21_stringSize_0 ?_
  refine r_istore_n hκ (L2 := [(1, (0, 1)), (0, (0, a0))]) (by decide) rfl rfl dJ21_stringSize_1 ?_
  refine r_iload_n hκ 1 rfl rfl dJ21_stringSize_2 ?_
  refine r_if_lt hκ (tgt := 11) (by decide) dJ21_stringSize_3 (fun h1 => ?_) (fun h1 => ?_)
  · replace h := (bte_i h).1 h1
    exact r_sub [1, 0] rfl (w_J21_stringSize_r hκ hi hf 0 _ _ _ _ _ h)
  · replace h := (bte_i h).2 h1
    refine r_iconst hκ dJ21_stringSize_6 ?_
    refine r_istore_n hκ (L2 := [(1, (0, 0)), (0, (0, a0))]) (by decide) rfl rfl dJ21_stringSize_7 ?_
    refine r_iload_n hκ 1 rfl rfl dJ21_stringSize_8 ?_
    refine r_ineg hκ dJ21_stringSize_9 ?_
    refine r_istore_n hκ (L2 := [(0, (0, (- a0))), (1, (0, 0))]) (by decide) rfl rfl dJ21_stringSize_10 ?_
    exact r_sub [0, 1] rfl (w_J21_stringSize_r hκ hi hf 0 _ _ _ _ _ h)
/-- java/lang/Integer.getChars(II[B)I -/
def F_J21_getChars_r (b : Nat) (x0 x1 x2 x3 : Int) (s0 : bS) : Option (bS × Int) :=
  match b with
  | 0 =>
    bte (i32 x3 = 0)
    (F_J21_getChars_r 1 (- x0) x1 x2 x3 s0)
    (F_J21_getChars_r 1 x0 x1 x2 x3 s0)
  | 1 =>
    bte (i32 (-100) < i32 x0)
    (bck (bg s0 0 (bg s0 1 (-(2 + 2)) 0) 0 = 1000 ∧ (0 : Int) ≤ (- x0) ∧ (- x0) < bg s0 4 (bg s0 1 (-(2 + 2)) 0) 0) <|
    bck ((bg s0 0 x1 0 = 1000 ∧ (0 : Int) ≤ (x2 + (-1)) ∧ (x2 + (-1)) < bg s0 4 x1 0) ∧ bg s0 1 (-1) 0 ≤ x1) <|
    bst (bw s0 8 x1 (x2 + (-1)) (b_i2b (bg s0 8 (bg s0 1 (-(2 + 2)) 0) (- x0)))) fun s1 =>
    bte (i32 (-9) ≤ i32 x0)
    (F_J21_getChars_r 2 x1 (x2 + (-1)) x3 0 s1)
    (bck (bg s1 0 (bg s1 1 (-(2 + 3)) 0) 0 = 1000 ∧ (0 : Int) ≤ (- x0) ∧ (- x0) < bg s1 4 (bg s1 1 (-(2 + 3)) 0) 0) <|
    bck ((bg s1 0 x1 0 = 1000 ∧ (0 : Int) ≤ ((x2 + (-1)) + (-1)) ∧ ((x2 + (-1)) + (-1)) < bg s1 4 x1 0) ∧ bg s1 1 (-1) 0 ≤ x1) <|
    bst (bw s1 8 x1 ((x2 + (-1)) + (-1)) (b_i2b (bg s1 8 (bg s1 1 (-(2 + 3)) 0) (- x0)))) fun s2 =>
    F_J21_getChars_r 2 x1 ((x2 + (-1)) + (-1)) x3 0 s2))
    (bck (¬ i32 100 = 0) <|
    bvl ((((b_idiv x0 100) * 100) - x0)) fun t1 =>
    bck (bg s0 0 (bg s0 1 (-(2 + 2)) 0) 0 = 1000 ∧ (0 : Int) ≤ t1 ∧ t1 < bg s0 4 (bg s0 1 (-(2 + 2)) 0) 0) <|
    bck ((bg s0 0 x1 0 = 1000 ∧ (0 : Int) ≤ (x2 + (-1)) ∧ (x2 + (-1)) < bg s0 4 x1 0) ∧ bg s0 1 (-1) 0 ≤ x1) <|
    bst (bw s0 8 x1 (x2 + (-1)) (b_i2b (bg s0 8 (bg s0 1 (-(2 + 2)) 0) t1))) fun s3 =>
    bck (bg s3 0 (bg s3 1 (-(2 + 3)) 0) 0 = 1000 ∧ (0 : Int) ≤ t1 ∧ t1 < bg s3 4 (bg s3 1 (-(2 + 3)) 0) 0) <|
    bck ((bg s3 0 x1 0 = 1000 ∧ (0 : Int) ≤ ((x2 + (-1)) + (-1)) ∧ ((x2 + (-1)) + (-1)) < bg s3 4 x1 0) ∧ bg s3 1 (-1) 0 ≤ x1) <|
    bst (bw s3 8 x1 ((x2 + (-1)) + (-1)) (b_i2b (bg s3 8 (bg s3 1 (-(2 + 3)) 0) t1))) fun s4 =>
    F_J21_getChars_r 1 (b_idiv x0 100) x1 ((x2 + (-1)) + (-1)) x3 s4)
  | 2 =>
    bte (i32 x2 = 0)
    (some (s0, x1))
    (bck ((bg s0 0 x0 0 = 1000 ∧ (0 : Int) ≤ (x1 + (-1)) ∧ (x1 + (-1)) < bg s0 4 x0 0) ∧ bg s0 1 (-1) 0 ≤ x0) <|
    bst (bw s0 8 x0 (x1 + (-1)) (b_i2b 45)) fun s5 =>
    some (s5, (x1 + (-1))))
  | _ => none
partial_fixpoint
def F_J21_getChars (s0 : bS) (a0 a1 a2 : Int) : Option (bS × Int) :=
  bte (0 ≤ i32 a0)
  (F_J21_getChars_r 0 a0 a2 a1 0 s0)
  (F_J21_getChars_r 0 a0 a2 a1 1 s0)
set_option maxHeartbeats 4000000 in
set_option maxRecDepth 100000 in
set_option synthInstance.maxHeartbeats 4000000 in
theorem w_J21_getChars_r {Γ0 : bG} {l0 : Launch} {κ : bK} {st' : bS} {v : Int} (hκ : bOk κ Γ0 l0 cJ21_getChars RJ21 7 0 0) (hi : bIn κ yJ21_getChars) (hf : bFin κ (some .int) st' (some (0, v))) (b : Nat) (x0 x1 x2 x3 : Int) (s0 : bS) (h : F_J21_getChars_r b x0 x1 x2 x3 s0 = some (st', v)) : match (generalizing := false) b with | 0 => bJ κ s0 12 [(0, (0, x0)), (2, (2, x1)), (5, (0, x2))] [(0, x3)] | 1 => bJ κ s0 22 [(0, (0, x0)), (2, (2, x1)), (5, (0, x2)), (6, (0, x3))] [] | 2 => bJ κ s0 104 [(2, (2, x0)), (5, (0, x1)), (6, (0, x2))] [] | _ => True := by
  refine F_J21_getChars_r.partial_correctness (fun b x0 x1 x2 x3 s0 r => r = (st', v) → match (generalizing := false) b with | 0 => bJ κ s0 12 [(0, (0, x0)), (2, (2, x1)), (5, (0, x2))] [(0, x3)] | 1 => bJ κ s0 22 [(0, (0, x0)), (2, (2, x1)), (5, (0, x2)), (6, (0, x3))] [] | 2 => bJ κ s0 104 [(2, (2, x0)), (5, (0, x1)), (6, (0, x2))] [] | _ => True) ?_ b x0 x1 x2 x3 s0 _ h rfl
  intro f' ih b x0 x1 x2 x3 s0 r h hr
  subst hr
  match b, h with
  | 0, h =>
      refine r_istore hκ (L2 := [(6, (0, x3)), (0, (0, x0)), (2, (2, x1)), (5, (0, x2))]) (by decide) rfl dJ21_getChars_12 ?_
      refine r_iload hκ 0 rfl dJ21_getChars_14 ?_
      refine r_if_ne hκ (tgt := 22) (by decide) dJ21_getChars_16 (fun h2 => ?_) (fun h2 => ?_)
      · replace h := (bte_i h).2 h2
        exact r_sub [1, 2, 3, 0] rfl (ih 1 _ _ _ _ _ _ h rfl)
      · replace h := (bte_i h).1 h2
        refine r_iload_n hκ 1 rfl rfl dJ21_getChars_19 ?_
        refine r_ineg hκ dJ21_getChars_20 ?_
        refine r_istore_n hκ (L2 := [(0, (0, (- x0))), (6, (0, x3)), (2, (2, x1)), (5, (0, x2))]) (by decide) rfl rfl dJ21_getChars_21 ?_
        exact r_sub [0, 2, 3, 1] rfl (ih 1 _ _ _ _ _ _ h rfl)
  | 1, h =>
      refine r_iload_n hκ 0 rfl rfl dJ21_getChars_22 ?_
      refine r_bipush hκ (by decide) dJ21_getChars_23 ?_
      refine r_icmp_gt hκ (tgt := 72) (by decide) dJ21_getChars_25 (fun h3 => ?_) (fun h3 => ?_)
      · replace h := (bte_i h).1 h3
        refine r_aload_n hκ 1 rfl rfl dJ21_getChars_72 ?_
        refine r_iinc hκ (L2 := [(5, (0, (x2 + (-1)))), (0, (0, x0)), (2, (2, x1)), (6, (0, x3))]) 2 rfl (by decide) rfl dJ21_getChars_73 ?_
        refine r_iload hκ 0 rfl dJ21_getChars_76 ?_
        refine r_getsR hκ (j := 2) (by decide +kernel) q1848 dJ21_getChars_78 ?_
        refine r_iload_n hκ 1 rfl rfl dJ21_getChars_81 ?_
        refine r_ineg hκ dJ21_getChars_82 ?_
        obtain ⟨⟨h4, h5⟩, h⟩ := bck_i h
        refine r_bald hκ h4 h5 dJ21_getChars_83 ?_
        obtain ⟨⟨⟨h6, h7⟩, h8⟩, h⟩ := bck_i h
        refine r_bast hκ h6 h7 h8 dJ21_getChars_84 (fun s1 es1 => ?_)
        replace h := bst_i h s1 es1
        refine r_iload_n hκ 1 rfl rfl dJ21_getChars_85 ?_
        refine r_bipush hκ (by decide) dJ21_getChars_86 ?_
        refine r_icmp_ge hκ (tgt := 104) (by decide) dJ21_getChars_88 (fun h9 => ?_) (fun h9 => ?_)
        · replace h := (bte_i h).1 h9
          exact r_sub [2, 0, 3] rfl (ih 2 _ _ _ _ _ _ h rfl)
        · replace h := (bte_i h).2 h9
          refine r_aload_n hκ 2 rfl rfl dJ21_getChars_91 ?_
          refine r_iinc hκ (L2 := [(5, (0, ((x2 + (-1)) + (-1)))), (0, (0, x0)), (2, (2, x1)), (6, (0, x3))]) 0 rfl (by decide) rfl dJ21_getChars_92 ?_
          refine r_iload hκ 0 rfl dJ21_getChars_95 ?_
          refine r_getsR hκ (j := 3) (by decide +kernel) q1850 dJ21_getChars_97 ?_
          refine r_iload_n hκ 1 rfl rfl dJ21_getChars_100 ?_
          refine r_ineg hκ dJ21_getChars_101 ?_
          obtain ⟨⟨h10, h11⟩, h⟩ := bck_i h
          refine r_bald hκ h10 h11 dJ21_getChars_102 ?_
          obtain ⟨⟨⟨h12, h13⟩, h14⟩, h⟩ := bck_i h
          refine r_bast hκ h12 h13 h14 dJ21_getChars_103 (fun s2 es2 => ?_)
          replace h := bst_i h s2 es2
          exact r_sub [2, 0, 3] rfl (ih 2 _ _ _ _ _ _ h rfl)
      · replace h := (bte_i h).2 h3
        refine r_iload_n hκ 0 rfl rfl dJ21_getChars_28 ?_
        refine r_bipush hκ (by decide) dJ21_getChars_29 ?_
        obtain ⟨h15, h⟩ := bck_i h
        refine r_idiv hκ h15 dJ21_getChars_31 ?_
        refine r_istore_n hκ (L2 := [(3, (0, (b_idiv x0 100))), (0, (0, x0)), (2, (2, x1)), (5, (0, x2)), (6, (0, x3))]) (by decide) rfl rfl dJ21_getChars_32 ?_
        refine r_iload_n hκ 0 rfl rfl dJ21_getChars_33 ?_
        refine r_bipush hκ (by decide) dJ21_getChars_34 ?_
        refine r_imul hκ dJ21_getChars_36 ?_
        refine r_iload_n hκ 1 rfl rfl dJ21_getChars_37 ?_
        refine r_isub hκ dJ21_getChars_38 ?_
        refine r_nm (fun t1 et1 => ?_)
        replace h := bvl_i h t1 et1
        refine r_istore hκ (L2 := [(4, (0, t1)), (3, (0, (b_idiv x0 100))), (0, (0, x0)), (2, (2, x1)), (5, (0, x2)), (6, (0, x3))]) (by decide) rfl dJ21_getChars_39 ?_
        refine r_iload_n hκ 1 rfl rfl dJ21_getChars_41 ?_
        refine r_istore_n hκ (L2 := [(0, (0, (b_idiv x0 100))), (4, (0, t1)), (3, (0, (b_idiv x0 100))), (2, (2, x1)), (5, (0, x2)), (6, (0, x3))]) (by decide) rfl rfl dJ21_getChars_42 ?_
        refine r_aload_n hκ 3 rfl rfl dJ21_getChars_43 ?_
        refine r_iinc hκ (L2 := [(5, (0, (x2 + (-1)))), (0, (0, (b_idiv x0 100))), (4, (0, t1)), (3, (0, (b_idiv x0 100))), (2, (2, x1)), (6, (0, x3))]) 4 rfl (by decide) rfl dJ21_getChars_44 ?_
        refine r_iload hκ 0 rfl dJ21_getChars_47 ?_
        refine r_getsR hκ (j := 2) (by decide +kernel) q1848 dJ21_getChars_49 ?_
        refine r_iload hκ 2 rfl dJ21_getChars_52 ?_
        obtain ⟨⟨h16, h17⟩, h⟩ := bck_i h
        refine r_bald hκ h16 h17 dJ21_getChars_54 ?_
        obtain ⟨⟨⟨h18, h19⟩, h20⟩, h⟩ := bck_i h
        refine r_bast hκ h18 h19 h20 dJ21_getChars_55 (fun s3 es3 => ?_)
        replace h := bst_i h s3 es3
        refine r_aload_n hκ 4 rfl rfl dJ21_getChars_56 ?_
        refine r_iinc hκ (L2 := [(5, (0, ((x2 + (-1)) + (-1)))), (0, (0, (b_idiv x0 100))), (4, (0, t1)), (3, (0, (b_idiv x0 100))), (2, (2, x1)), (6, (0, x3))]) 0 rfl (by decide) rfl dJ21_getChars_57 ?_
        refine r_iload hκ 0 rfl dJ21_getChars_60 ?_
        refine r_getsR hκ (j := 3) (by decide +kernel) q1850 dJ21_getChars_62 ?_
        refine r_iload hκ 2 rfl dJ21_getChars_65 ?_
        obtain ⟨⟨h21, h22⟩, h⟩ := bck_i h
        refine r_bald hκ h21 h22 dJ21_getChars_67 ?_
        obtain ⟨⟨⟨h23, h24⟩, h25⟩, h⟩ := bck_i h
        refine r_bast hκ h23 h24 h25 dJ21_getChars_68 (fun s4 es4 => ?_)
        replace h := bst_i h s4 es4
        refine r_goto hκ (tgt := 22) (by decide) dJ21_getChars_69 ?_
        exact r_sub [1, 4, 0, 5] rfl (ih 1 _ _ _ _ _ _ h rfl)
  | 2, h =>
      refine r_iload hκ 2 rfl dJ21_getChars_104 ?_
      refine r_if_eq hκ (tgt := 118) (by decide) dJ21_getChars_106 (fun h26 => ?_) (fun h26 => ?_)
      · replace h := (bte_i h).1 h26
        refine r_iload hκ 1 rfl dJ21_getChars_118 ?_
        exact r_iretH hκ hf h (nar_int _) dJ21_getChars_120
      · replace h := (bte_i h).2 h26
        refine r_aload_n hκ 0 rfl rfl dJ21_getChars_109 ?_
        refine r_iinc hκ (L2 := [(5, (0, (x1 + (-1)))), (2, (2, x0)), (6, (0, x2))]) 1 rfl (by decide) rfl dJ21_getChars_110 ?_
        refine r_iload hκ 0 rfl dJ21_getChars_113 ?_
        refine r_bipush hκ (by decide) dJ21_getChars_115 ?_
        obtain ⟨⟨⟨h27, h28⟩, h29⟩, h⟩ := bck_i h
        refine r_bast hκ h27 h28 h29 dJ21_getChars_117 (fun s5 es5 => ?_)
        replace h := bst_i h s5 es5
        refine r_iload hκ 0 rfl dJ21_getChars_118 ?_
        exact r_iretH hκ hf h (nar_int _) dJ21_getChars_120
  | b + 3, h => trivial
set_option maxHeartbeats 4000000 in
set_option maxRecDepth 100000 in
theorem w_J21_getChars (Γ0 : bG) (l0 : Launch) {s0 st' : bS} {v a0 a1 a2 : Int} (h : F_J21_getChars s0 a0 a1 a2 = some (st', v)) : bCt Γ0 l0 yJ21_getChars cJ21_getChars 7 (some .int) 0 0 [(0, a0), (0, a1), (2, a2)] s0 st' (some (0, v)) := by
  refine b_ent (own := RJ21) (by decide +kernel) rfl (Nat.le_of_ble_eq_true rfl) (L := [(0, (0, a0)), (1, (0, a1)), (2, (2, a2))]) rfl ?_
  intro κ hκ hi hf
  unfold F_J21_getChars at h
  refine r_iload_n hκ 1 rfl rfl dJ21_getChars_0 ?_
  refine r_istore hκ (L2 := [(5, (0, a1)), (0, (0, a0)), (1, (0, a1)), (2, (2, a2))]) (by decide) rfl dJ21_getChars_1 ?_
  refine r_iload_n hκ 1 rfl rfl dJ21_getChars_3 ?_
  refine r_if_ge hκ (tgt := 11) (by decide) dJ21_getChars_4 (fun h1 => ?_) (fun h1 => ?_)
  · replace h := (bte_i h).1 h1
    refine r_iconst hκ dJ21_getChars_11 ?_
    exact r_sub [1, 3, 0] rfl (w_J21_getChars_r hκ hi hf 0 _ _ _ _ _ h)
  · replace h := (bte_i h).2 h1
    refine r_iconst hκ dJ21_getChars_7 ?_
    refine r_goto hκ (tgt := 12) (by decide) dJ21_getChars_8 ?_
    exact r_sub [1, 3, 0] rfl (w_J21_getChars_r hκ hi hf 0 _ _ _ _ _ h)
/-- java/lang/AbstractStringBuilder.append(I)Ljava/lang/AbstractStringBuilder; -/
def F_J0_append_3_r (b : Nat) (x0 x1 : Int) (s0 : bS) : Option (bS × Int) :=
  match b with
  | 0 =>
    bck ((bg s0 0 x0 0 = 19)) <|
    bst (bw s0 420 x0 0 x1) fun s5 =>
    some (s5, x0)
  | _ => none
def F_J0_append_3 (s0 : bS) (a0 a1 : Int) : Option (bS × Int) :=
  bck (bg s0 0 a0 0 = 19) <|
  bcl (F_J21_stringSize s0 a1) fun s1 v1 =>
  bvl (((bg s0 420 a0 0) + v1)) fun t1 =>
  bck (bg s1 0 a0 0 = 19) <|
  bcl (F_J0_ensureCapacityInternal s1 a0 t1) fun s2 v2 =>
  bck (bg s2 0 a0 0 = 19) <|
  bcl (F_J0_isLatin1 s2 a0) fun s3 v3 =>
  bte (i32 v3 = 0)
  (bck (bg s3 0 a0 0 = 19) <|
  none)
  (bck (bg s3 0 a0 0 = 19) <|
  bcl (F_J21_getChars s3 a1 t1 (bg s3 410 a0 0)) fun s4 v4 =>
  F_J0_append_3_r 0 a0 t1 s4)
set_option maxHeartbeats 4000000 in
set_option maxRecDepth 100000 in
set_option synthInstance.maxHeartbeats 4000000 in
theorem w_J0_append_3_r {Γ0 : bG} {l0 : Launch} {κ : bK} {st' : bS} {v : Int} (hκ : bOk κ Γ0 l0 cJ0_append_3 RJ0 4 4 91) (hi : bIn κ yJ0_append_3) (hf : bFin κ (some (.object "java/lang/AbstractStringBuilder")) st' (some (2, v))) (b : Nat) (x0 x1 : Int) (s0 : bS) (h : F_J0_append_3_r b x0 x1 s0 = some (st', v)) : match (generalizing := false) b with | 0 => bJ κ s0 48 [(0, (2, x0)), (3, (0, x1))] [] | _ => True := by
  unfold F_J0_append_3_r at h
  match b, h with
  | 0, h =>
      refine r_aload_n hκ 0 rfl rfl dJ0_append_3_48 ?_
      refine r_iload_n hκ 1 rfl rfl dJ0_append_3_49 ?_
      obtain ⟨h11, h⟩ := bck_i h
      refine r_put hκ (t := 18) (k := 3) (r := 420) (ty := .int) tyJ1 tyJ1_ok nmJ1 h11 rfl in_J1 (by decide) rfl q306 (Or.inl rfl) rfl rfl rfl trivial (Or.inl (by decide)) dJ0_append_3_50 (fun s5 es5 => ?_)
      replace h := bst_i h s5 es5
      refine r_aload_n hκ 0 rfl rfl dJ0_append_3_53 ?_
      exact r_aretH hκ hf h rt_o dJ0_append_3_54
  | b + 1, h => trivial
set_option maxHeartbeats 4000000 in
set_option maxRecDepth 100000 in
theorem w_J0_append_3 (Γ0 : bG) (l0 : Launch) {s0 st' : bS} {v a0 a1 : Int} (h : F_J0_append_3 s0 a0 a1 = some (st', v)) : bCt Γ0 l0 yJ0_append_3 cJ0_append_3 4 (some (.object "java/lang/AbstractStringBuilder")) 4 91 [(2, a0), (0, a1)] s0 st' (some (2, v)) := by
  refine b_ent (own := RJ0) (by decide +kernel) rfl (Nat.le_of_ble_eq_true rfl) (L := [(0, (2, a0)), (1, (0, a1))]) rfl ?_
  intro κ hκ hi hf
  unfold F_J0_append_3 at h
  refine r_aload_n hκ 0 rfl rfl dJ0_append_3_0 ?_
  obtain ⟨h1, h⟩ := bck_i h
  refine r_get hκ (t := 18) (k := 3) (r := 420) h1 rfl in_J1 (by decide) rfl q306 (Or.inl rfl) dJ0_append_3_1 ?_
  refine r_istore_n hκ (L2 := [(2, (0, (bg s0 420 a0 0))), (0, (2, a0)), (1, (0, a1))]) (by decide) rfl rfl dJ0_append_3_4 ?_
  refine r_iload_n hκ 0 rfl rfl dJ0_append_3_5 ?_
  refine r_iload_n hκ 2 rfl rfl dJ0_append_3_6 ?_
  obtain ⟨s1, v1, h2, h⟩ := bcl_i h
  refine r_callS hκ (n' := 1) (index := 245) (w_J21_stringSize Γ0 l0 h2) (lw_S q1842 q1843 q158 q1844) (by decide +kernel) rfl (by decide) rfl (Nat.le_of_ble_eq_true rfl) dJ0_append_3_7 ?_
  refine r_iadd hκ dJ0_append_3_10 ?_
  refine r_nm (fun t1 et1 => ?_)
  replace h := bvl_i h t1 et1
  refine r_istore_n hκ (L2 := [(3, (0, t1)), (2, (0, (bg s0 420 a0 0))), (0, (2, a0)), (1, (0, a1))]) (by decide) rfl rfl dJ0_append_3_11 ?_
  refine r_aload_n hκ 2 rfl rfl dJ0_append_3_12 ?_
  refine r_iload_n hκ 0 rfl rfl dJ0_append_3_13 ?_
  obtain ⟨h3, h⟩ := bck_i h
  obtain ⟨s2, v2, h4, h⟩ := bcl_i h
  refine r_callP hκ (index := 100) (C := "java/lang/StringBuilder") (owner := "java/lang/AbstractStringBuilder") (n' := 1) (w_J0_ensureCapacityInternal Γ0 l0 h4) (fun R s args hts hsl hRR => va_cwU 1 (List.forall_mem_cons.mpr ⟨hsl ("java/lang/StringBuilder", ⟨"java/lang/AbstractStringBuilder", "ensureCapacityInternal", "(I)V"⟩) (by decide +kernel), hts⟩) (b_gP rfl q1025 q3586 q1027 q124 (lw_meth q1028)) rfl rfl rfl rfl (by decide +kernel) hRR) (t := 18) h3 rfl rfl (by decide) rfl (Nat.le_of_ble_eq_true rfl) dJ0_append_3_14 ?_
  refine r_aload_n hκ 2 rfl rfl dJ0_append_3_17 ?_
  obtain ⟨h5, h⟩ := bck_i h
  obtain ⟨s3, v3, h6, h⟩ := bcl_i h
  refine r_callU hκ (index := 83) (C := "java/lang/StringBuilder") (owner := "java/lang/AbstractStringBuilder") (n' := 0) (w_J0_isLatin1 Γ0 l0 h6) (fun R s args hts hRR => va_cwU 0 hts (lw_app (lw_l5 q1058 q1060 q1061 q1059 q124) (lw_meth q1062)) rfl rfl rfl rfl (by decide +kernel) hRR) (t := 18) h5 rfl rfl (by decide) rfl (Nat.le_of_ble_eq_true rfl) dJ0_append_3_18 ?_
  refine r_if_eq hκ (tgt := 37) (by decide) dJ0_append_3_21 (fun h7 => ?_) (fun h7 => ?_)
  · replace h := (bte_i h).1 h7
    refine r_iload_n hκ 3 rfl rfl dJ0_append_3_37 ?_
    refine r_iload_n hκ 1 rfl rfl dJ0_append_3_38 ?_
    refine r_iload_n hκ 0 rfl rfl dJ0_append_3_39 ?_
    refine r_aload_n hκ 2 rfl rfl dJ0_append_3_40 ?_
    obtain ⟨h8, h⟩ := bck_i h
    refine r_get hκ (t := 18) (k := 0) (r := 410) h8 rfl in_J1 (by decide) rfl q302 (Or.inl rfl) dJ0_append_3_41 ?_
    cases h
  · replace h := (bte_i h).2 h7
    refine r_iload_n hκ 3 rfl rfl dJ0_append_3_24 ?_
    refine r_iload_n hκ 0 rfl rfl dJ0_append_3_25 ?_
    refine r_aload_n hκ 2 rfl rfl dJ0_append_3_26 ?_
    obtain ⟨h9, h⟩ := bck_i h
    refine r_get hκ (t := 18) (k := 0) (r := 410) h9 rfl in_J1 (by decide) rfl q302 (Or.inl rfl) dJ0_append_3_27 ?_
    obtain ⟨s4, v4, h10, h⟩ := bcl_i h
    refine r_callS hκ (n' := 3) (index := 248) (w_J21_getChars Γ0 l0 h10) (lw_S q1845 q1846 q158 q1847) (by decide +kernel) rfl (by decide) rfl (Nat.le_of_ble_eq_true rfl) dJ0_append_3_30 ?_
    refine r_pop hκ (bd_cat0k _) dJ0_append_3_33 ?_
    refine r_goto hκ (tgt := 48) (by decide) dJ0_append_3_34 ?_
    exact r_sub [2, 0] rfl (w_J0_append_3_r hκ hi hf 0 _ _ _ h)
/-- java/lang/StringBuilder.append(I)Ljava/lang/StringBuilder; -/
def F_J1_append_3 (s0 : bS) (a0 a1 : Int) : Option (bS × Int) :=
  bck (bg s0 0 a0 0 = 19) <|
  bcl (F_J0_append_3 s0 a0 a1) fun s1 v1 =>
  some (s1, a0)
set_option maxHeartbeats 4000000 in
set_option maxRecDepth 100000 in
theorem w_J1_append_3 (Γ0 : bG) (l0 : Launch) {s0 st' : bS} {v a0 a1 : Int} (h : F_J1_append_3 s0 a0 a1 = some (st', v)) : bCt Γ0 l0 yJ1_append_3 cJ1_append_3 2 (some (.object "java/lang/StringBuilder")) 5 114 [(2, a0), (0, a1)] s0 st' (some (2, v)) := by
  refine b_ent (own := RJ1) (by decide +kernel) rfl (Nat.le_of_ble_eq_true rfl) (L := [(0, (2, a0)), (1, (0, a1))]) rfl ?_
  intro κ hκ hi hf
  unfold F_J1_append_3 at h
  refine r_aload_n hκ 0 rfl rfl dJ1_append_3_0 ?_
  refine r_iload_n hκ 1 rfl rfl dJ1_append_3_1 ?_
  obtain ⟨h1, h⟩ := bck_i h
  obtain ⟨s1, v1, h2, h⟩ := bcl_i h
  refine r_callSU hκ (n' := 1) (index := 53) (w_J0_append_3 Γ0 l0 h2) (lw_app (lw_l5 q1839 q3597 q315 q1840 q124) (lw_meth q1841)) (by decide +kernel) (t := 18) h1 rfl rfl (by decide) rfl (Nat.le_of_ble_eq_true rfl) dJ1_append_3_2 ?_
  refine r_pop hκ (bd_cat2k _) dJ1_append_3_5 ?_
  refine r_aload_n hκ 0 rfl rfl dJ1_append_3_6 ?_
  exact r_aretH hκ hf h rt_o dJ1_append_3_7
/-- java/lang/AbstractStringBuilder.getValue()[B -/
def F_J0_getValue (s0 : bS) (a0 : Int) : Option (bS × Int) :=
  bck (bg s0 0 a0 0 = 19) <|
  some (s0, (bg s0 410 a0 0))
set_option maxHeartbeats 4000000 in
set_option maxRecDepth 100000 in
theorem w_J0_getValue (Γ0 : bG) (l0 : Launch) {s0 st' : bS} {v a0 : Int} (h : F_J0_getValue s0 a0 = some (st', v)) : bCt Γ0 l0 yJ0_getValue cJ0_getValue 1 (some (.array .byte)) 0 0 [(2, a0)] s0 st' (some (2, v)) := by
  refine b_ent (own := RJ0) (by decide +kernel) rfl (Nat.le_of_ble_eq_true rfl) (L := [(0, (2, a0))]) rfl ?_
  intro κ hκ hi hf
  unfold F_J0_getValue at h
  refine r_aload_n hκ 0 rfl rfl dJ0_getValue_0 ?_
  obtain ⟨h1, h⟩ := bck_i h
  refine r_get hκ (t := 18) (k := 0) (r := 410) h1 rfl in_J1 (by decide) rfl q302 (Or.inl rfl) dJ0_getValue_1 ?_
  exact r_aretH hκ hf h rt_a dJ0_getValue_4
/-- java/lang/AbstractStringBuilder.length()I -/
def F_J0_length (s0 : bS) (a0 : Int) : Option (bS × Int) :=
  bck (bg s0 0 a0 0 = 19) <|
  some (s0, (bg s0 420 a0 0))
set_option maxHeartbeats 4000000 in
set_option maxRecDepth 100000 in
theorem w_J0_length (Γ0 : bG) (l0 : Launch) {s0 st' : bS} {v a0 : Int} (h : F_J0_length s0 a0 = some (st', v)) : bCt Γ0 l0 yJ0_length cJ0_length 1 (some .int) 0 0 [(2, a0)] s0 st' (some (0, v)) := by
  refine b_ent (own := RJ0) (by decide +kernel) rfl (Nat.le_of_ble_eq_true rfl) (L := [(0, (2, a0))]) rfl ?_
  intro κ hκ hi hf
  unfold F_J0_length at h
  refine r_aload_n hκ 0 rfl rfl dJ0_length_0 ?_
  obtain ⟨h1, h⟩ := bck_i h
  refine r_get hκ (t := 18) (k := 3) (r := 420) h1 rfl in_J1 (by decide) rfl q306 (Or.inl rfl) dJ0_length_1 ?_
  exact r_iretH hκ hf h (nar_int _) dJ0_length_4
/-- java/lang/StringBuilder.length()I -/
def F_J1_length (s0 : bS) (a0 : Int) : Option (bS × Int) :=
  bck (bg s0 0 a0 0 = 19) <|
  bcl (F_J0_length s0 a0) fun s1 v1 =>
  some (s1, v1)
set_option maxHeartbeats 4000000 in
set_option maxRecDepth 100000 in
theorem w_J1_length (Γ0 : bG) (l0 : Launch) {s0 st' : bS} {v a0 : Int} (h : F_J1_length s0 a0 = some (st', v)) : bCt Γ0 l0 yJ1_length cJ1_length 1 (some .int) 1 20 [(2, a0)] s0 st' (some (0, v)) := by
  refine b_ent (own := RJ1) (by decide +kernel) rfl (Nat.le_of_ble_eq_true rfl) (L := [(0, (2, a0))]) rfl ?_
  intro κ hκ hi hf
  unfold F_J1_length at h
  refine r_aload_n hκ 0 rfl rfl dJ1_length_0 ?_
  obtain ⟨h1, h⟩ := bck_i h
  obtain ⟨s1, v1, h2, h⟩ := bcl_i h
  refine r_callSU hκ (n' := 0) (index := 343) (w_J0_length Γ0 l0 h2) (lw_app (lw_l5 q1149 q1145 q315 q1144 q124) (lw_meth q1150)) (by decide +kernel) (t := 18) h1 rfl rfl (by decide) rfl (Nat.le_of_ble_eq_true rfl) dJ1_length_1 ?_
  exact r_iretH hκ hf h (nar_int _) dJ1_length_4
/-- java/util/Arrays.checkLength(II)V -/
def F_J24_checkLength (s0 : bS) (a0 a1 : Int) : Option (bS × Int) :=
  bte (i32 a0 ≤ i32 a1)
  (some (s0, 0))
  (none)
set_option maxHeartbeats 4000000 in
set_option maxRecDepth 100000 in
theorem w_J24_checkLength (Γ0 : bG) (l0 : Launch) {s0 st' : bS} {v a0 a1 : Int} (h : F_J24_checkLength s0 a0 a1 = some (st', v)) : bCt Γ0 l0 yJ24_checkLength cJ24_checkLength 2 none 0 0 [(0, a0), (0, a1)] s0 st' none := by
  refine b_ent (own := RJ24) (by decide +kernel) rfl (Nat.le_of_ble_eq_true rfl) (L := [(0, (0, a0)), (1, (0, a1))]) rfl ?_
  intro κ hκ hi hf
  unfold F_J24_checkLength at h
  refine r_iload_n hκ 1 rfl rfl dJ24_checkLength_0 ?_
  refine r_iload_n hκ 0 rfl rfl dJ24_checkLength_1 ?_
  refine r_icmp_ge hκ (tgt := 37) (by decide) dJ24_checkLength_2 (fun h1 => ?_) (fun h1 => ?_)
  · replace h := (bte_i h).1 h1
    exact r_vretH hκ hf h dJ24_checkLength_37
  · replace h := (bte_i h).2 h1
    cases h
/-- java/util/Arrays.copyOfRangeByte([BII)[B -/
def F_J24_copyOfRangeByte (s0 : bS) (a0 a1 a2 : Int) : Option (bS × Int) :=
  bcl (F_J24_checkLength s0 a1 a2) fun s1 v1 =>
  bck (((0 : Int) ≤ (a2 - a1) ∧ ((a2 - a1) : Int) ≤ 67108864) ∧ bc s1 + 1 ≤ bCM ∧ bk s1 + ((a2 - a1) : Int).toNat ≤ bKM) <|
  bst (bnw s1 1000 (a2 - a1) ((a2 - a1) : Int).toNat) fun s2 =>
  bck (bg s2 0 a0 0 = 1000) <|
  bck ((bg s2 0 a0 0 = 1000 ∧ bg s2 0 (bnx s1 : Int) 0 = 1000) ∧ ((0 : Int) ≤ a1 ∧ (0 : Int) ≤ 0 ∧ (0 : Int) ≤ (b_min ((bg s2 4 a0 0) - a1) (a2 - a1))) ∧ (a1 + (b_min ((bg s2 4 a0 0) - a1) (a2 - a1)) ≤ bg s2 4 a0 0 ∧ 0 + (b_min ((bg s2 4 a0 0) - a1) (a2 - a1)) ≤ bg s2 4 (bnx s1 : Int) 0) ∧ bg s2 1 (-1) 0 ≤ (bnx s1 : Int)) <|
  bst (bcp s2 8 a0 a1 (bnx s1 : Int) 0 (b_min ((bg s2 4 a0 0) - a1) (a2 - a1))) fun s3 =>
  some (s3, (bnx s1 : Int))
set_option maxHeartbeats 4000000 in
set_option maxRecDepth 100000 in
theorem w_J24_copyOfRangeByte (Γ0 : bG) (l0 : Launch) {s0 st' : bS} {v a0 a1 a2 : Int} (h : F_J24_copyOfRangeByte s0 a0 a1 a2 = some (st', v)) : bCt Γ0 l0 yJ24_copyOfRangeByte cJ24_copyOfRangeByte 5 (some (.array .byte)) 1 40 [(2, a0), (0, a1), (0, a2)] s0 st' (some (2, v)) := by
  refine b_ent (own := RJ24) (by decide +kernel) rfl (Nat.le_of_ble_eq_true rfl) (L := [(0, (2, a0)), (1, (0, a1)), (2, (0, a2))]) rfl ?_
  intro κ hκ hi hf
  unfold F_J24_copyOfRangeByte at h
  refine r_iload_n hκ 1 rfl rfl dJ24_copyOfRangeByte_0 ?_
  refine r_iload_n hκ 2 rfl rfl dJ24_copyOfRangeByte_1 ?_
  obtain ⟨s1, v1, h1, h⟩ := bcl_i h
  refine r_callS hκ (n' := 2) (index := 343) (w_J24_checkLength Γ0 l0 h1) (lw_S q1158 q1159 q162 q1160) (by decide +kernel) rfl (by decide) rfl (Nat.le_of_ble_eq_true rfl) dJ24_copyOfRangeByte_2 ?_
  refine r_iload_n hκ 2 rfl rfl dJ24_copyOfRangeByte_5 ?_
  refine r_iload_n hκ 1 rfl rfl dJ24_copyOfRangeByte_6 ?_
  refine r_isub hκ dJ24_copyOfRangeByte_7 ?_
  refine r_istore_n hκ (L2 := [(3, (0, (a2 - a1))), (0, (2, a0)), (1, (0, a1)), (2, (0, a2))]) (by decide) rfl rfl dJ24_copyOfRangeByte_8 ?_
  refine r_iload_n hκ 0 rfl rfl dJ24_copyOfRangeByte_9 ?_
  obtain ⟨⟨h2, h3⟩, h⟩ := bck_i h
  refine r_new_byte hκ q300 h2 h3 dJ24_copyOfRangeByte_10 (fun s2 es2 => ?_)
  replace h := bst_i h s2 es2
  refine r_astore hκ (L2 := [(4, (2, (bnx s1 : Int))), (3, (0, (a2 - a1))), (0, (2, a0)), (1, (0, a1)), (2, (0, a2))]) (by decide) rfl dJ24_copyOfRangeByte_12 ?_
  refine r_aload_n hκ 2 rfl rfl dJ24_copyOfRangeByte_14 ?_
  refine r_iload_n hκ 3 rfl rfl dJ24_copyOfRangeByte_15 ?_
  refine r_aload hκ 0 rfl dJ24_copyOfRangeByte_16 ?_
  refine r_iconst hκ dJ24_copyOfRangeByte_18 ?_
  refine r_aload_n hκ 2 rfl rfl dJ24_copyOfRangeByte_19 ?_
  obtain ⟨h4, h⟩ := bck_i h
  refine r_alen hκ (t := 0) h4 rfl dJ24_copyOfRangeByte_20 ?_
  refine r_iload_n hκ 3 rfl rfl dJ24_copyOfRangeByte_21 ?_
  refine r_isub hκ dJ24_copyOfRangeByte_22 ?_
  refine r_iload_n hκ 1 rfl rfl dJ24_copyOfRangeByte_23 ?_
  refine r_mmin hκ q1054 q1055 q161 q1056 (by decide) (Nat.le_of_ble_eq_true rfl) dJ24_copyOfRangeByte_24 ?_
  obtain ⟨⟨⟨h5, h6⟩, ⟨h7, h8, h9⟩, ⟨h10, h11⟩, h12⟩, h⟩ := bck_i h
  refine r_acopy hκ (t := 0) (er := 8) h5 h6 (Or.inl (by decide)) rfl h7 h8 h9 h10 h11 h12 (fun h9 => absurd h9 (by decide)) q1057 q743 q742 q152 (by decide) (Nat.le_of_ble_eq_true rfl) dJ24_copyOfRangeByte_27 (fun s3 es3 => ?_)
  replace h := bst_i h s3 es3
  refine r_aload hκ 0 rfl dJ24_copyOfRangeByte_30 ?_
  exact r_aretH hκ hf h rt_a dJ24_copyOfRangeByte_32
/-- java/util/Arrays.copyOfRange([BII)[B -/
def F_J24_copyOfRange_r (b : Nat) (x0 x1 x2 : Int) (s0 : bS) : Option (bS × Int) :=
  match b with
  | 0 =>
    bcl (F_J24_copyOfRangeByte s0 x0 x1 x2) fun s2 v1 =>
    some (s2, v1)
  | _ => none
def F_J24_copyOfRange (s0 : bS) (a0 a1 a2 : Int) : Option (bS × Int) :=
  bte (i32 a1 = 0)
  (bck (bg s0 0 a0 0 = 1000) <|
  bte (i32 a2 = i32 (bg s0 4 a0 0))
  (bck (bg s0 0 a0 0 = 1000 ∧ bc s0 + 1 ≤ bCM ∧ bk s0 + (bg s0 4 a0 0).toNat ≤ bKM) <|
  bst (bcln s0 a0) fun s1 =>
  bck ((bnx s0 : Int) < 0 ∨ bg s1 0 (bnx s0 : Int) 0 = 1000) <|
  some (s1, (bnx s0 : Int)))
  (F_J24_copyOfRange_r 0 a0 a1 a2 s0))
  (F_J24_copyOfRange_r 0 a0 a1 a2 s0)
set_option maxHeartbeats 4000000 in
set_option maxRecDepth 100000 in
set_option synthInstance.maxHeartbeats 4000000 in
theorem w_J24_copyOfRange_r {Γ0 : bG} {l0 : Launch} {κ : bK} {st' : bS} {v : Int} (hκ : bOk κ Γ0 l0 cJ24_copyOfRange RJ24 3 2 64) (hi : bIn κ yJ24_copyOfRange) (hf : bFin κ (some (.array .byte)) st' (some (2, v))) (b : Nat) (x0 x1 x2 : Int) (s0 : bS) (h : F_J24_copyOfRange_r b x0 x1 x2 s0 = some (st', v)) : match (generalizing := false) b with | 0 => bJ κ s0 10 [(0, (2, x0)), (1, (0, x1)), (2, (0, x2))] [] | _ => True := by
  unfold F_J24_copyOfRange_r at h
  match b, h with
  | 0, h =>
      refine r_aload_n hκ 0 rfl rfl dJ24_copyOfRange_10 ?_
      refine r_iload_n hκ 1 rfl rfl dJ24_copyOfRange_11 ?_
      refine r_iload_n hκ 2 rfl rfl dJ24_copyOfRange_12 ?_
      obtain ⟨s2, v1, h7, h⟩ := bcl_i h
      refine r_callS hκ (n' := 3) (index := 339) (w_J24_copyOfRangeByte Γ0 l0 h7) (lw_S q1155 q1156 q162 q1157) (by decide +kernel) rfl (by decide) rfl (Nat.le_of_ble_eq_true rfl) dJ24_copyOfRange_13 ?_
      exact r_aretH hκ hf h rt_a dJ24_copyOfRange_16
  | b + 1, h => trivial
set_option maxHeartbeats 4000000 in
set_option maxRecDepth 100000 in
theorem w_J24_copyOfRange (Γ0 : bG) (l0 : Launch) {s0 st' : bS} {v a0 a1 a2 : Int} (h : F_J24_copyOfRange s0 a0 a1 a2 = some (st', v)) : bCt Γ0 l0 yJ24_copyOfRange cJ24_copyOfRange 3 (some (.array .byte)) 2 64 [(2, a0), (0, a1), (0, a2)] s0 st' (some (2, v)) := by
  refine b_ent (own := RJ24) (by decide +kernel) rfl (Nat.le_of_ble_eq_true rfl) (L := [(0, (2, a0)), (1, (0, a1)), (2, (0, a2))]) rfl ?_
  intro κ hκ hi hf
  unfold F_J24_copyOfRange at h
  refine r_iload_n hκ 1 rfl rfl dJ24_copyOfRange_0 ?_
  refine r_if_ne hκ (tgt := 10) (by decide) dJ24_copyOfRange_1 (fun h1 => ?_) (fun h1 => ?_)
  · replace h := (bte_i h).2 h1
    exact r_sub [0, 1, 2] rfl (w_J24_copyOfRange_r hκ hi hf 0 _ _ _ _ h)
  · replace h := (bte_i h).1 h1
    refine r_iload_n hκ 2 rfl rfl dJ24_copyOfRange_4 ?_
    refine r_aload_n hκ 0 rfl rfl dJ24_copyOfRange_5 ?_
    obtain ⟨h2, h⟩ := bck_i h
    refine r_alen hκ (t := 0) h2 rfl dJ24_copyOfRange_6 ?_
    refine r_icmp_eq hκ (tgt := 17) (by decide) dJ24_copyOfRange_7 (fun h3 => ?_) (fun h3 => ?_)
    · replace h := (bte_i h).1 h3
      refine r_aload_n hκ 0 rfl rfl dJ24_copyOfRange_17 ?_
      obtain ⟨⟨h4, h5⟩, h⟩ := bck_i h
      refine r_clone hκ h4 h5 q1047 q1048 q1049 q1050 q1051 (by decide) (Nat.le_of_ble_eq_true rfl) dJ24_copyOfRange_18 (fun s1 es1 => ?_)
      replace h := bst_i h s1 es1
      obtain ⟨h6, h⟩ := bck_i h
      refine r_castG hκ q1053 (Or.elim h6 (fun h6 => Or.inl h6) (fun h6 => Or.inr ⟨1000, _, h6, by decide, rfl, Or.inl (by decide +kernel)⟩)) dJ24_copyOfRange_21 ?_
      exact r_aretH hκ hf h rt_a dJ24_copyOfRange_24
    · replace h := (bte_i h).2 h3
      exact r_sub [0, 1, 2] rfl (w_J24_copyOfRange_r hκ hi hf 0 _ _ _ _ h)
/-- java/lang/String.<init>(Ljava/lang/AbstractStringBuilder;Ljava/lang/Void;)V -/
def F_J2_init_2_r (b : Nat) (x0 x1 x2 : Int) (s0 : bS) : Option (bS × Int) :=
  match b with
  | 0 =>
    bck ((bg s0 0 x0 0 = 20) ∧ (-128 ≤ (1 : Int) ∧ (1 : Int) < 128) ∧ bg s0 1 (-1) 0 ≤ x0) <|
    bst (bw s0 428 x0 0 1) fun s7 =>
    bcl (F_J24_copyOfRange s7 x1 0 (b_ishl x2 1)) fun s8 v5 =>
    bck ((bg s8 0 x0 0 = 20) ∧ bg s8 1 (-1) 0 ≤ x0) <|
    bst (bw s8 426 x0 0 v5) fun s9 =>
    some (s9, 0)
  | _ => none
def F_J2_init_2 (s0 : bS) (a0 a1 a2 : Int) : Option (bS × Int) :=
  bck ((0 : Int) ≤ a0) <|
  bck (bg s0 0 a1 0 = 19) <|
  bcl (F_J0_getValue s0 a1) fun s1 v1 =>
  bck (bg s1 0 a1 0 = 19) <|
  bcl (F_J1_length s1 a1) fun s2 v2 =>
  bck (bg s2 0 a1 0 = 19) <|
  bcl (F_J0_isLatin1 s2 a1) fun s3 v3 =>
  bte (i32 v3 = 0)
  (bck (bg s3 0 a1 0 = 19) <|
  bte (i32 (bg s3 416 a1 0) = 0)
  (F_J2_init_2_r 0 a0 v1 v2 s3)
  (none))
  (bck ((bg s3 0 a0 0 = 20) ∧ (-128 ≤ (0 : Int) ∧ (0 : Int) < 128) ∧ bg s3 1 (-1) 0 ≤ a0) <|
  bst (bw s3 428 a0 0 0) fun s4 =>
  bcl (F_J24_copyOfRange s4 v1 0 v2) fun s5 v4 =>
  bck ((bg s5 0 a0 0 = 20) ∧ bg s5 1 (-1) 0 ≤ a0) <|
  bst (bw s5 426 a0 0 v4) fun s6 =>
  some (s6, 0))
set_option maxHeartbeats 4000000 in
set_option maxRecDepth 100000 in
set_option synthInstance.maxHeartbeats 4000000 in
theorem w_J2_init_2_r {Γ0 : bG} {l0 : Launch} {κ : bK} {st' : bS} {v : Int} (hκ : bOk κ Γ0 l0 cJ2_init_2 RJ2 5 3 86) (hi : bIn κ yJ2_init_2) (hf : bFin κ none st' none) (b : Nat) (x0 x1 x2 : Int) (s0 : bS) (h : F_J2_init_2_r b x0 x1 x2 s0 = some (st', v)) : match (generalizing := false) b with | 0 => bJ κ s0 79 [(0, (2, x0)), (3, (2, x1)), (4, (0, x2))] [] | _ => True := by
  unfold F_J2_init_2_r at h
  match b, h with
  | 0, h =>
      refine r_aload_n hκ 0 rfl rfl dJ2_init_2_79 ?_
      refine r_iconst hκ dJ2_init_2_80 ?_
      obtain ⟨⟨h17, h18, h19⟩, h⟩ := bck_i h
      refine r_putF hκ (hi.init rfl) (t := 19) (k := 1) (r := 428) (ty := .byte) tyJ2 tyJ2_ok nmJ2 h17 rfl in_J2 (by decide) rfl q1172 rfl rfl rfl rfl rfl h18 (Or.inr h19) dJ2_init_2_81 (fun s7 es7 => ?_)
      replace h := bst_i h s7 es7
      refine r_aload_n hκ 0 rfl rfl dJ2_init_2_84 ?_
      refine r_aload_n hκ 1 rfl rfl dJ2_init_2_85 ?_
      refine r_iconst hκ dJ2_init_2_86 ?_
      refine r_iload hκ 2 rfl dJ2_init_2_87 ?_
      refine r_iconst hκ dJ2_init_2_89 ?_
      refine r_ishl hκ dJ2_init_2_90 ?_
      obtain ⟨s8, v5, h20, h⟩ := bcl_i h
      refine r_callS hκ (n' := 3) (index := 54) (w_J24_copyOfRange Γ0 l0 h20) (lw_S q1152 q1153 q162 q1154) (by decide +kernel) rfl (by decide) rfl (Nat.le_of_ble_eq_true rfl) dJ2_init_2_91 ?_
      obtain ⟨⟨h21, h22⟩, h⟩ := bck_i h
      refine r_putF hκ (hi.init rfl) (t := 19) (k := 0) (r := 426) (ty := (.array .byte)) tyJ2 tyJ2_ok nmJ2 h21 rfl in_J2 (by decide) rfl q1171 rfl rfl rfl rfl rfl trivial (Or.inr h22) dJ2_init_2_94 (fun s9 es9 => ?_)
      replace h := bst_i h s9 es9
      exact r_vretH hκ hf h dJ2_init_2_97
  | b + 1, h => trivial
set_option maxHeartbeats 4000000 in
set_option maxRecDepth 100000 in
theorem w_J2_init_2 (Γ0 : bG) (l0 : Launch) {s0 st' : bS} {v a0 a1 a2 : Int} (h : F_J2_init_2 s0 a0 a1 a2 = some (st', v)) : bCt Γ0 l0 yJ2_init_2 cJ2_init_2 5 none 3 86 [(2, a0), (2, a1), (2, a2)] s0 st' none := by
  refine b_ent (own := RJ2) (by decide +kernel) rfl (Nat.le_of_ble_eq_true rfl) (L := [(0, (2, a0)), (1, (2, a1)), (2, (2, a2))]) rfl ?_
  intro κ hκ hi hf
  unfold F_J2_init_2 at h
  refine r_aload_n hκ 0 rfl rfl dJ2_init_2_0 ?_
  obtain ⟨h1, h⟩ := bck_i h
  refine r_oinit hκ h1 q1137 q183 q184 (by decide) (Nat.le_of_ble_eq_true rfl) dJ2_init_2_1 ?_
  refine r_aload_n hκ 1 rfl rfl dJ2_init_2_4 ?_
  obtain ⟨h2, h⟩ := bck_i h
  obtain ⟨s1, v1, h3, h⟩ := bcl_i h
  refine r_callU hκ (index := 552) (C := "java/lang/StringBuilder") (owner := "java/lang/AbstractStringBuilder") (n' := 0) (w_J0_getValue Γ0 l0 h3) (fun R s args hts hRR => va_cwU 0 hts (lw_app (lw_l5 q1138 q1140 q1141 q1139 q124) (lw_meth q1142)) rfl rfl rfl rfl (by decide +kernel) hRR) (t := 18) h2 rfl rfl (by decide) rfl (Nat.le_of_ble_eq_true rfl) dJ2_init_2_5 ?_
  refine r_astore_n hκ (L2 := [(3, (2, v1)), (0, (2, a0)), (1, (2, a1)), (2, (2, a2))]) (by decide) rfl rfl dJ2_init_2_8 ?_
  refine r_aload_n hκ 2 rfl rfl dJ2_init_2_9 ?_
  obtain ⟨h4, h⟩ := bck_i h
  obtain ⟨s2, v2, h5, h⟩ := bcl_i h
  refine r_callU hκ (index := 549) (C := "java/lang/StringBuilder") (owner := "java/lang/AbstractStringBuilder") (n' := 0) (w_J1_length Γ0 l0 h5) (fun R s args hts hRR => va_cwO 0 hts (lw_app (lw_l6 q1143 q1145 q1144 q1146 q1147 q125) (lw_meth q1148)) rfl rfl rfl q1150 (by decide +kernel) hRR) (t := 18) h4 rfl rfl (by decide) rfl (Nat.le_of_ble_eq_true rfl) dJ2_init_2_10 ?_
  refine r_istore hκ (L2 := [(4, (0, v2)), (3, (2, v1)), (0, (2, a0)), (1, (2, a1)), (2, (2, a2))]) (by decide) rfl dJ2_init_2_13 ?_
  refine r_aload_n hκ 3 rfl rfl dJ2_init_2_15 ?_
  obtain ⟨h6, h⟩ := bck_i h
  obtain ⟨s3, v3, h7, h⟩ := bcl_i h
  refine r_callU hκ (index := 1047) (C := "java/lang/StringBuilder") (owner := "java/lang/AbstractStringBuilder") (n' := 0) (w_J0_isLatin1 Γ0 l0 h7) (fun R s args hts hRR => va_cwU 0 hts (lw_app (lw_l5 q1151 q1060 q1061 q1059 q124) (lw_meth q1062)) rfl rfl rfl rfl (by decide +kernel) hRR) (t := 18) h6 rfl rfl (by decide) rfl (Nat.le_of_ble_eq_true rfl) dJ2_init_2_16 ?_
  refine r_if_eq hκ (tgt := 41) (by decide) dJ2_init_2_19 (fun h8 => ?_) (fun h8 => ?_)
  · replace h := (bte_i h).1 h8
    refine r_getsI hκ (x := 1) (by decide +kernel) q881 dJ2_init_2_41 ?_
    refine r_if_eq hκ (tgt := 79) (by decide) dJ2_init_2_44 (fun hc => absurd hc (by decide)) (fun _ => ?_)
    refine r_aload_n hκ 3 rfl rfl dJ2_init_2_47 ?_
    obtain ⟨h9, h⟩ := bck_i h
    refine r_get hκ (t := 18) (k := 2) (r := 416) h9 rfl in_J1 (by decide) rfl q305 (Or.inl rfl) dJ2_init_2_48 ?_
    refine r_if_eq hκ (tgt := 79) (by decide) dJ2_init_2_51 (fun h10 => ?_) (fun h10 => ?_)
    · replace h := (bte_i h).1 h10
      exact r_sub [2, 1, 0] rfl (w_J2_init_2_r hκ hi hf 0 _ _ _ _ h)
    · replace h := (bte_i h).2 h10
      refine r_aload_n hκ 2 rfl rfl dJ2_init_2_54 ?_
      refine r_aload_n hκ 1 rfl rfl dJ2_init_2_55 ?_
      refine r_iconst hκ dJ2_init_2_56 ?_
      refine r_iload hκ 0 rfl dJ2_init_2_57 ?_
      cases h
  · replace h := (bte_i h).2 h8
    refine r_aload_n hκ 2 rfl rfl dJ2_init_2_22 ?_
    refine r_iconst hκ dJ2_init_2_23 ?_
    obtain ⟨⟨h11, h12, h13⟩, h⟩ := bck_i h
    refine r_putF hκ (hi.init rfl) (t := 19) (k := 1) (r := 428) (ty := .byte) tyJ2 tyJ2_ok nmJ2 h11 rfl in_J2 (by decide) rfl q1172 rfl rfl rfl rfl rfl h12 (Or.inr h13) dJ2_init_2_24 (fun s4 es4 => ?_)
    replace h := bst_i h s4 es4
    refine r_aload_n hκ 2 rfl rfl dJ2_init_2_27 ?_
    refine r_aload_n hκ 1 rfl rfl dJ2_init_2_28 ?_
    refine r_iconst hκ dJ2_init_2_29 ?_
    refine r_iload hκ 0 rfl dJ2_init_2_30 ?_
    obtain ⟨s5, v4, h14, h⟩ := bcl_i h
    refine r_callS hκ (n' := 3) (index := 54) (w_J24_copyOfRange Γ0 l0 h14) (lw_S q1152 q1153 q162 q1154) (by decide +kernel) rfl (by decide) rfl (Nat.le_of_ble_eq_true rfl) dJ2_init_2_32 ?_
    obtain ⟨⟨h15, h16⟩, h⟩ := bck_i h
    refine r_putF hκ (hi.init rfl) (t := 19) (k := 0) (r := 426) (ty := (.array .byte)) tyJ2 tyJ2_ok nmJ2 h15 rfl in_J2 (by decide) rfl q1171 rfl rfl rfl rfl rfl trivial (Or.inr h16) dJ2_init_2_35 (fun s6 es6 => ?_)
    replace h := bst_i h s6 es6
    refine r_goto hκ (tgt := 97) (by decide) dJ2_init_2_38 ?_
    exact r_vretH hκ hf h dJ2_init_2_97
/-- java/lang/String.<init>(Ljava/lang/StringBuilder;)V -/
def F_J2_init (s0 : bS) (a0 a1 : Int) : Option (bS × Int) :=
  bck (bg s0 0 a0 0 = 20) <|
  bcl (F_J2_init_2 s0 a0 a1 (-1)) fun s1 v1 =>
  some (s1, 0)
set_option maxHeartbeats 4000000 in
set_option maxRecDepth 100000 in
theorem w_J2_init (Γ0 : bG) (l0 : Launch) {s0 st' : bS} {v a0 a1 : Int} (h : F_J2_init s0 a0 a1 = some (st', v)) : bCt Γ0 l0 yJ2_init cJ2_init 2 none 4 110 [(2, a0), (2, a1)] s0 st' none := by
  refine b_ent (own := RJ2) (by decide +kernel) rfl (Nat.le_of_ble_eq_true rfl) (L := [(0, (2, a0)), (1, (2, a1))]) rfl ?_
  intro κ hκ hi hf
  unfold F_J2_init at h
  refine r_aload_n hκ 0 rfl rfl dJ2_init_0 ?_
  refine r_aload_n hκ 1 rfl rfl dJ2_init_1 ?_
  refine r_null hκ dJ2_init_2 ?_
  obtain ⟨h1, h⟩ := bck_i h
  obtain ⟨s1, v1, h2, h⟩ := bcl_i h
  refine r_callI hκ (n' := 2) (index := 489) (w_J2_init_2 Γ0 l0 h2) (lw_meth q1136) q126 q1134 q1135 rfl (by decide +kernel) (t := 19) h1 rfl rfl (by decide) rfl (Nat.le_of_ble_eq_true rfl) dJ2_init_3 ?_
  exact r_vretH hκ hf h dJ2_init_6
/-- java/lang/StringBuilder.toString()Ljava/lang/String; -/
def F_J1_toString (s0 : bS) (a0 : Int) : Option (bS × Int) :=
  bck (bc s0 + 1 ≤ bCM ∧ bk s0 + 4 ≤ bKM) <|
  bst (bnw s0 20 0 4) fun s1 =>
  bck (bg s1 0 (bnx s0 : Int) 0 = 20) <|
  bcl (F_J2_init s1 (bnx s0 : Int) a0) fun s2 v1 =>
  some (s2, (bnx s0 : Int))
set_option maxHeartbeats 4000000 in
set_option maxRecDepth 100000 in
theorem w_J1_toString (Γ0 : bG) (l0 : Launch) {s0 st' : bS} {v a0 : Int} (h : F_J1_toString s0 a0 = some (st', v)) : bCt Γ0 l0 yJ1_toString cJ1_toString 1 (some (.object "java/lang/String")) 5 131 [(2, a0)] s0 st' (some (2, v)) := by
  refine b_ent (own := RJ1) (by decide +kernel) rfl (Nat.le_of_ble_eq_true rfl) (L := [(0, (2, a0))]) rfl ?_
  intro κ hκ hi hf
  unfold F_J1_toString at h
  obtain ⟨h1, h⟩ := bck_i h
  refine r_new hκ (t := 19) tyJ2 tyJ2_ok dfJ2 rfl in_J2 q1130 q616 q126 h1 dJ1_toString_0 (fun s1 es1 => ?_)
  replace h := bst_i h s1 es1
  refine r_dup hκ (bd_cat2k _) dJ1_toString_3 ?_
  refine r_aload_n hκ 0 rfl rfl dJ1_toString_4 ?_
  obtain ⟨h2, h⟩ := bck_i h
  obtain ⟨s2, v1, h3, h⟩ := bcl_i h
  refine r_callI hκ (n' := 1) (index := 137) (w_J2_init Γ0 l0 h3) (lw_meth q1133) q126 q1131 q1132 rfl (by decide +kernel) (t := 19) h2 rfl rfl (by decide) rfl (Nat.le_of_ble_eq_true rfl) dJ1_toString_5 ?_
  exact r_aretH hκ hf h rt_o dJ1_toString_8
/-- java/util/ArrayList.<init>(I)V -/
def F_J10_init_2 (s0 : bS) (a0 a1 : Int) : Option (bS × Int) :=
  bcl (bte (bg s0 0 a0 0 = 21) (F_J9_init s0 a0) (bte (bg s0 0 a0 0 = 22) (F_J9_init s0 a0) (none))) fun s1 v1 =>
  bte (i32 a1 ≤ 0)
  (bte (i32 a1 = 0)
  (bck ((bg s1 0 a0 0 = 21)) <|
  bst (bw s1 446 a0 0 (bg s1 1 (-(2 + 7)) 0)) fun s2 =>
  some (s2, 0))
  (none))
  (bck (((0 : Int) ≤ a1 ∧ (a1 : Int) ≤ 67108864) ∧ bc s1 + 1 ≤ bCM ∧ bk s1 + (a1 : Int).toNat ≤ bKM) <|
  bst (bnw s1 1006 a1 (a1 : Int).toNat) fun s3 =>
  bck ((bg s3 0 a0 0 = 21)) <|
  bst (bw s3 446 a0 0 (bnx s1 : Int)) fun s4 =>
  some (s4, 0))
set_option maxHeartbeats 4000000 in
set_option maxRecDepth 100000 in
theorem w_J10_init_2 (Γ0 : bG) (l0 : Launch) {s0 st' : bS} {v a0 a1 : Int} (h : F_J10_init_2 s0 a0 a1 = some (st', v)) : bCt Γ0 l0 yJ10_init_2 cJ10_init_2 2 none 3 60 [(2, a0), (0, a1)] s0 st' none := by
  refine b_ent (own := RJ10) (by decide +kernel) rfl (Nat.le_of_ble_eq_true rfl) (L := [(0, (2, a0)), (1, (0, a1))]) rfl ?_
  intro κ hκ hi hf
  unfold F_J10_init_2 at h
  refine r_aload_n hκ 0 rfl rfl dJ10_init_2_0 ?_
  obtain ⟨s1, v1, h1, h⟩ := bcl_i h
  refine r_seq (A := bJ κ s1 4 [(0, (2, a0)), (1, (0, a1))] []) ?_ (fun k0 => ?_)
  case refine_2 =>
    by_cases h2 : bg s0 0 a0 0 = 21
    · have hq0 := (bte_i h1).1 h2
      exact r_callI hκ (n' := 0) (index := 1) (w_J9_init Γ0 l0 hq0) (lw_meth q330) q133 q328 q329 rfl (by decide +kernel) (t := 20) h2 rfl rfl (by decide) rfl (Nat.le_of_ble_eq_true rfl) dJ10_init_2_1 k0
    replace h1 := (bte_i h1).2 h2
    by_cases h3 : bg s0 0 a0 0 = 22
    · have hq0 := (bte_i h1).1 h3
      exact r_callI hκ (n' := 0) (index := 1) (w_J9_init Γ0 l0 hq0) (lw_meth q330) q133 q328 q329 rfl (by decide +kernel) (t := 21) h3 rfl rfl (by decide) rfl (Nat.le_of_ble_eq_true rfl) dJ10_init_2_1 k0
    replace h1 := (bte_i h1).2 h3
    cases h1
  refine r_iload_n hκ 1 rfl rfl dJ10_init_2_4 ?_
  refine r_if_le hκ (tgt := 19) (by decide) dJ10_init_2_5 (fun h4 => ?_) (fun h4 => ?_)
  · replace h := (bte_i h).1 h4
    refine r_iload_n hκ 1 rfl rfl dJ10_init_2_19 ?_
    refine r_if_ne hκ (tgt := 33) (by decide) dJ10_init_2_20 (fun h5 => ?_) (fun h5 => ?_)
    · replace h := (bte_i h).2 h5
      cases h
    · replace h := (bte_i h).1 h5
      refine r_aload_n hκ 0 rfl rfl dJ10_init_2_23 ?_
      refine r_getsR hκ (j := 7) (by decide +kernel) q406 dJ10_init_2_24 ?_
      obtain ⟨h6, h⟩ := bck_i h
      refine r_put hκ (t := 20) (k := 1) (r := 446) (ty := (.array (.object "java/lang/Object"))) tyJ10 tyJ10_ok nmJ10 h6 rfl in_J10 (by decide) rfl q337 (Or.inl rfl) rfl rfl rfl trivial (Or.inl (by decide)) dJ10_init_2_27 (fun s2 es2 => ?_)
      replace h := bst_i h s2 es2
      refine r_goto hκ (tgt := 60) (by decide) dJ10_init_2_30 ?_
      exact r_vretH hκ hf h dJ10_init_2_60
  · replace h := (bte_i h).2 h4
    refine r_aload_n hκ 0 rfl rfl dJ10_init_2_8 ?_
    refine r_iload_n hκ 1 rfl rfl dJ10_init_2_9 ?_
    obtain ⟨⟨h7, h8⟩, h⟩ := bck_i h
    refine r_anew hκ (t := 6) q404 (by decide +kernel) rfl (by decide) h7 h8 dJ10_init_2_10 (fun s3 es3 => ?_)
    replace h := bst_i h s3 es3
    obtain ⟨h9, h⟩ := bck_i h
    refine r_put hκ (t := 20) (k := 1) (r := 446) (ty := (.array (.object "java/lang/Object"))) tyJ10 tyJ10_ok nmJ10 h9 rfl in_J10 (by decide) rfl q337 (Or.inl rfl) rfl rfl rfl trivial (Or.inl (by decide)) dJ10_init_2_13 (fun s4 es4 => ?_)
    replace h := bst_i h s4 es4
    refine r_goto hκ (tgt := 60) (by decide) dJ10_init_2_16 ?_
    exact r_vretH hκ hf h dJ10_init_2_60
/-- java/util/AbstractSequentialList.<init>()V -/
def F_J11_init (s0 : bS) (a0 : Int) : Option (bS × Int) :=
  bcl (bte (bg s0 0 a0 0 = 21) (F_J9_init s0 a0) (bte (bg s0 0 a0 0 = 22) (F_J9_init s0 a0) (none))) fun s1 v1 =>
  some (s1, 0)
set_option maxHeartbeats 4000000 in
set_option maxRecDepth 100000 in
theorem w_J11_init (Γ0 : bG) (l0 : Launch) {s0 st' : bS} {v a0 : Int} (h : F_J11_init s0 a0 = some (st', v)) : bCt Γ0 l0 yJ11_init cJ11_init 1 none 3 60 [(2, a0)] s0 st' none := by
  refine b_ent (own := RJ11) (by decide +kernel) rfl (Nat.le_of_ble_eq_true rfl) (L := [(0, (2, a0))]) rfl ?_
  intro κ hκ hi hf
  unfold F_J11_init at h
  refine r_aload_n hκ 0 rfl rfl dJ11_init_0 ?_
  obtain ⟨s1, v1, h1, h⟩ := bcl_i h
  refine r_seq (A := bJ κ s1 4 [(0, (2, a0))] []) ?_ (fun k0 => ?_)
  case refine_2 =>
    by_cases h2 : bg s0 0 a0 0 = 21
    · have hq0 := (bte_i h1).1 h2
      exact r_callI hκ (n' := 0) (index := 1) (w_J9_init Γ0 l0 hq0) (lw_meth q330) q133 q458 q329 rfl (by decide +kernel) (t := 20) h2 rfl rfl (by decide) rfl (Nat.le_of_ble_eq_true rfl) dJ11_init_1 k0
    replace h1 := (bte_i h1).2 h2
    by_cases h3 : bg s0 0 a0 0 = 22
    · have hq0 := (bte_i h1).1 h3
      exact r_callI hκ (n' := 0) (index := 1) (w_J9_init Γ0 l0 hq0) (lw_meth q330) q133 q458 q329 rfl (by decide +kernel) (t := 21) h3 rfl rfl (by decide) rfl (Nat.le_of_ble_eq_true rfl) dJ11_init_1 k0
    replace h1 := (bte_i h1).2 h3
    cases h1
  exact r_vretH hκ hf h dJ11_init_4
/-- java/util/LinkedList.<init>()V -/
def F_J12_init (s0 : bS) (a0 : Int) : Option (bS × Int) :=
  bck (bg s0 0 a0 0 = 22) <|
  bcl (F_J11_init s0 a0) fun s1 v1 =>
  bck ((bg s1 0 a0 0 = 22)) <|
  bst (bw s1 452 a0 0 0) fun s2 =>
  some (s2, 0)
set_option maxHeartbeats 4000000 in
set_option maxRecDepth 100000 in
theorem w_J12_init (Γ0 : bG) (l0 : Launch) {s0 st' : bS} {v a0 : Int} (h : F_J12_init s0 a0 = some (st', v)) : bCt Γ0 l0 yJ12_init cJ12_init 1 none 4 80 [(2, a0)] s0 st' none := by
  refine b_ent (own := RJ12) (by decide +kernel) rfl (Nat.le_of_ble_eq_true rfl) (L := [(0, (2, a0))]) rfl ?_
  intro κ hκ hi hf
  unfold F_J12_init at h
  refine r_aload_n hκ 0 rfl rfl dJ12_init_0 ?_
  obtain ⟨h1, h⟩ := bck_i h
  obtain ⟨s1, v1, h2, h⟩ := bcl_i h
  refine r_callI hκ (n' := 0) (index := 1) (w_J11_init Γ0 l0 h2) (lw_meth q457) q143 q455 q456 rfl (by decide +kernel) (t := 21) h1 rfl rfl (by decide) rfl (Nat.le_of_ble_eq_true rfl) dJ12_init_1 ?_
  refine r_aload_n hκ 0 rfl rfl dJ12_init_4 ?_
  refine r_iconst hκ dJ12_init_5 ?_
  obtain ⟨h3, h⟩ := bck_i h
  refine r_put hκ (t := 21) (k := 1) (r := 452) (ty := .int) tyJ12 tyJ12_ok nmJ12 h3 rfl in_J12 (by decide) rfl q459 (Or.inl rfl) rfl rfl rfl trivial (Or.inl (by decide)) dJ12_init_6 (fun s2 es2 => ?_)
  replace h := bst_i h s2 es2
  exact r_vretH hκ hf h dJ12_init_9
/-- java/util/ArrayList.size()I -/
def F_J10_size (s0 : bS) (a0 : Int) : Option (bS × Int) :=
  bck (bg s0 0 a0 0 = 21) <|
  some (s0, (bg s0 448 a0 0))
set_option maxHeartbeats 4000000 in
set_option maxRecDepth 100000 in
theorem w_J10_size (Γ0 : bG) (l0 : Launch) {s0 st' : bS} {v a0 : Int} (h : F_J10_size s0 a0 = some (st', v)) : bCt Γ0 l0 yJ10_size cJ10_size 1 (some .int) 0 0 [(2, a0)] s0 st' (some (0, v)) := by
  refine b_ent (own := RJ10) (by decide +kernel) rfl (Nat.le_of_ble_eq_true rfl) (L := [(0, (2, a0))]) rfl ?_
  intro κ hκ hi hf
  unfold F_J10_size at h
  refine r_aload_n hκ 0 rfl rfl dJ10_size_0 ?_
  obtain ⟨h1, h⟩ := bck_i h
  refine r_get hκ (t := 20) (k := 2) (r := 448) h1 rfl in_J10 (by decide) rfl q340 (Or.inl rfl) dJ10_size_1 ?_
  exact r_iretH hκ hf h (nar_int _) dJ10_size_4
/-- jdk/internal/util/Preconditions.checkIndex(IILjava/util/function/BiFunction;)I -/
def F_J18_checkIndex_r (b : Nat) (x0 x1 x2 : Int) (s0 : bS) : Option (bS × Int) :=
  match b with
  | 0 =>
    none
  | _ => none
def F_J18_checkIndex (s0 : bS) (a0 a1 a2 : Int) : Option (bS × Int) :=
  bte (i32 a0 < 0)
  (F_J18_checkIndex_r 0 a0 a1 a2 s0)
  (bte (i32 a0 < i32 a1)
  (some (s0, a0))
  (F_J18_checkIndex_r 0 a0 a1 a2 s0))
set_option maxHeartbeats 4000000 in
set_option maxRecDepth 100000 in
set_option synthInstance.maxHeartbeats 4000000 in
theorem w_J18_checkIndex_r {Γ0 : bG} {l0 : Launch} {κ : bK} {st' : bS} {v : Int} (hκ : bOk κ Γ0 l0 cJ18_checkIndex RJ18 3 0 0) (hi : bIn κ yJ18_checkIndex) (hf : bFin κ (some .int) st' (some (0, v))) (b : Nat) (x0 x1 x2 : Int) (s0 : bS) (h : F_J18_checkIndex_r b x0 x1 x2 s0 = some (st', v)) : match (generalizing := false) b with | 0 => bJ κ s0 9 [(0, (0, x0)), (1, (0, x1)), (2, (2, x2))] [] | _ => True := by
  unfold F_J18_checkIndex_r at h
  match b, h with
  | 0, h =>
      refine r_aload_n hκ 2 rfl rfl dJ18_checkIndex_9 ?_
      refine r_iload_n hκ 0 rfl rfl dJ18_checkIndex_10 ?_
      refine r_iload_n hκ 1 rfl rfl dJ18_checkIndex_11 ?_
      cases h
  | b + 1, h => trivial
set_option maxHeartbeats 4000000 in
set_option maxRecDepth 100000 in
theorem w_J18_checkIndex (Γ0 : bG) (l0 : Launch) {s0 st' : bS} {v a0 a1 a2 : Int} (h : F_J18_checkIndex s0 a0 a1 a2 = some (st', v)) : bCt Γ0 l0 yJ18_checkIndex cJ18_checkIndex 3 (some .int) 0 0 [(0, a0), (0, a1), (2, a2)] s0 st' (some (0, v)) := by
  refine b_ent (own := RJ18) (by decide +kernel) rfl (Nat.le_of_ble_eq_true rfl) (L := [(0, (0, a0)), (1, (0, a1)), (2, (2, a2))]) rfl ?_
  intro κ hκ hi hf
  unfold F_J18_checkIndex at h
  refine r_iload_n hκ 0 rfl rfl dJ18_checkIndex_0 ?_
  refine r_if_lt hκ (tgt := 9) (by decide) dJ18_checkIndex_1 (fun h1 => ?_) (fun h1 => ?_)
  · replace h := (bte_i h).1 h1
    exact r_sub [0, 1, 2] rfl (w_J18_checkIndex_r hκ hi hf 0 _ _ _ _ h)
  · replace h := (bte_i h).2 h1
    refine r_iload_n hκ 0 rfl rfl dJ18_checkIndex_4 ?_
    refine r_iload_n hκ 1 rfl rfl dJ18_checkIndex_5 ?_
    refine r_icmp_lt hκ (tgt := 16) (by decide) dJ18_checkIndex_6 (fun h2 => ?_) (fun h2 => ?_)
    · replace h := (bte_i h).1 h2
      refine r_iload_n hκ 0 rfl rfl dJ18_checkIndex_16 ?_
      exact r_iretH hκ hf h (nar_int _) dJ18_checkIndex_17
    · replace h := (bte_i h).2 h2
      exact r_sub [0, 1, 2] rfl (w_J18_checkIndex_r hκ hi hf 0 _ _ _ _ h)
/-- java/util/Objects.checkIndex(II)I -/
def F_J17_checkIndex (s0 : bS) (a0 a1 : Int) : Option (bS × Int) :=
  bcl (F_J18_checkIndex s0 a0 a1 (-1)) fun s1 v1 =>
  some (s1, v1)
set_option maxHeartbeats 4000000 in
set_option maxRecDepth 100000 in
theorem w_J17_checkIndex (Γ0 : bG) (l0 : Launch) {s0 st' : bS} {v a0 a1 : Int} (h : F_J17_checkIndex s0 a0 a1 = some (st', v)) : bCt Γ0 l0 yJ17_checkIndex cJ17_checkIndex 2 (some .int) 1 22 [(0, a0), (0, a1)] s0 st' (some (0, v)) := by
  refine b_ent (own := RJ17) (by decide +kernel) rfl (Nat.le_of_ble_eq_true rfl) (L := [(0, (0, a0)), (1, (0, a1))]) rfl ?_
  intro κ hκ hi hf
  unfold F_J17_checkIndex at h
  refine r_iload_n hκ 0 rfl rfl dJ17_checkIndex_0 ?_
  refine r_iload_n hκ 1 rfl rfl dJ17_checkIndex_1 ?_
  refine r_null hκ dJ17_checkIndex_2 ?_
  obtain ⟨s1, v1, h1, h⟩ := bcl_i h
  refine r_callS hκ (n' := 3) (index := 105) (w_J18_checkIndex Γ0 l0 h1) (lw_S q825 q826 q154 q827) (by decide +kernel) rfl (by decide) rfl (Nat.le_of_ble_eq_true rfl) dJ17_checkIndex_3 ?_
  exact r_iretH hκ hf h (nar_int _) dJ17_checkIndex_6
/-- java/util/ArrayList.elementData(I)Ljava/lang/Object; -/
def F_J10_elementData (s0 : bS) (a0 a1 : Int) : Option (bS × Int) :=
  bck (bg s0 0 a0 0 = 21) <|
  bck (bg s0 0 (bg s0 446 a0 0) 0 = 1006 ∧ (0 : Int) ≤ a1 ∧ a1 < bg s0 4 (bg s0 446 a0 0) 0) <|
  some (s0, (bg s0 10 (bg s0 446 a0 0) a1))
set_option maxHeartbeats 4000000 in
set_option maxRecDepth 100000 in
theorem w_J10_elementData (Γ0 : bG) (l0 : Launch) {s0 st' : bS} {v a0 a1 : Int} (h : F_J10_elementData s0 a0 a1 = some (st', v)) : bCt Γ0 l0 yJ10_elementData cJ10_elementData 2 (some (.object "java/lang/Object")) 0 0 [(2, a0), (0, a1)] s0 st' (some (2, v)) := by
  refine b_ent (own := RJ10) (by decide +kernel) rfl (Nat.le_of_ble_eq_true rfl) (L := [(0, (2, a0)), (1, (0, a1))]) rfl ?_
  intro κ hκ hi hf
  unfold F_J10_elementData at h
  refine r_aload_n hκ 0 rfl rfl dJ10_elementData_0 ?_
  obtain ⟨h1, h⟩ := bck_i h
  refine r_get hκ (t := 20) (k := 1) (r := 446) h1 rfl in_J10 (by decide) rfl q337 (Or.inl rfl) dJ10_elementData_1 ?_
  refine r_iload_n hκ 1 rfl rfl dJ10_elementData_4 ?_
  obtain ⟨⟨h2, h3⟩, h⟩ := bck_i h
  refine r_aald hκ (t := 6) (by decide) h2 h3 dJ10_elementData_5 ?_
  exact r_aretH hκ hf h rt_o dJ10_elementData_6
/-- java/util/ArrayList.get(I)Ljava/lang/Object; -/
def F_J10_get (s0 : bS) (a0 a1 : Int) : Option (bS × Int) :=
  bck (bg s0 0 a0 0 = 21) <|
  bcl (F_J17_checkIndex s0 a1 (bg s0 448 a0 0)) fun s1 v1 =>
  bck (bg s1 0 a0 0 = 21) <|
  bcl (F_J10_elementData s1 a0 a1) fun s2 v2 =>
  some (s2, v2)
set_option maxHeartbeats 4000000 in
set_option maxRecDepth 100000 in
theorem w_J10_get (Γ0 : bG) (l0 : Launch) {s0 st' : bS} {v a0 a1 : Int} (h : F_J10_get s0 a0 a1 = some (st', v)) : bCt Γ0 l0 yJ10_get cJ10_get 2 (some (.object "java/lang/Object")) 2 43 [(2, a0), (0, a1)] s0 st' (some (2, v)) := by
  refine b_ent (own := RJ10) (by decide +kernel) rfl (Nat.le_of_ble_eq_true rfl) (L := [(0, (2, a0)), (1, (0, a1))]) rfl ?_
  intro κ hκ hi hf
  unfold F_J10_get at h
  refine r_iload_n hκ 1 rfl rfl dJ10_get_0 ?_
  refine r_aload_n hκ 0 rfl rfl dJ10_get_1 ?_
  obtain ⟨h1, h⟩ := bck_i h
  refine r_get hκ (t := 20) (k := 2) (r := 448) h1 rfl in_J10 (by decide) rfl q340 (Or.inl rfl) dJ10_get_2 ?_
  obtain ⟨s1, v1, h2, h⟩ := bcl_i h
  refine r_callS hκ (n' := 2) (index := 118) (w_J17_checkIndex Γ0 l0 h2) (lw_S q822 q823 q153 q824) (by decide +kernel) rfl (by decide) rfl (Nat.le_of_ble_eq_true rfl) dJ10_get_5 ?_
  refine r_pop hκ (bd_cat0k _) dJ10_get_8 ?_
  refine r_aload_n hκ 0 rfl rfl dJ10_get_9 ?_
  refine r_iload_n hκ 1 rfl rfl dJ10_get_10 ?_
  obtain ⟨h3, h⟩ := bck_i h
  obtain ⟨s2, v2, h4, h⟩ := bcl_i h
  refine r_callV hκ (n' := 1) (index := 123) (w_J10_elementData Γ0 l0 h4) (lw_V q828 q829 q830 q134 q831) (by decide +kernel) (t := 20) h3 rfl rfl (by decide) rfl (Nat.le_of_ble_eq_true rfl) dJ10_get_11 ?_
  exact r_aretH hκ hf h rt_o dJ10_get_14
/-- java/lang/String.isLatin1()Z -/
def F_J2_isLatin1 (s0 : bS) (a0 : Int) : Option (bS × Int) :=
  bck (bg s0 0 a0 0 = 20) <|
  bte (i32 (bg s0 428 a0 0) = 0)
  (some (s0, 1))
  (some (s0, 0))
set_option maxHeartbeats 4000000 in
set_option maxRecDepth 100000 in
theorem w_J2_isLatin1 (Γ0 : bG) (l0 : Launch) {s0 st' : bS} {v a0 : Int} (h : F_J2_isLatin1 s0 a0 = some (st', v)) : bCt Γ0 l0 yJ2_isLatin1 cJ2_isLatin1 1 (some .boolean) 0 0 [(2, a0)] s0 st' (some (0, v)) := by
  refine b_ent (own := RJ2) (by decide +kernel) rfl (Nat.le_of_ble_eq_true rfl) (L := [(0, (2, a0))]) rfl ?_
  intro κ hκ hi hf
  unfold F_J2_isLatin1 at h
  refine r_getsI hκ (x := 1) (by decide +kernel) q881 dJ2_isLatin1_0 ?_
  refine r_if_eq hκ (tgt := 17) (by decide) dJ2_isLatin1_3 (fun hc => absurd hc (by decide)) (fun _ => ?_)
  refine r_aload_n hκ 0 rfl rfl dJ2_isLatin1_6 ?_
  obtain ⟨h1, h⟩ := bck_i h
  refine r_get hκ (t := 19) (k := 1) (r := 428) h1 rfl in_J2 (by decide) rfl q1172 (Or.inl rfl) dJ2_isLatin1_7 ?_
  refine r_if_ne hκ (tgt := 17) (by decide) dJ2_isLatin1_10 (fun h2 => ?_) (fun h2 => ?_)
  · replace h := (bte_i h).2 h2
    refine r_iconst hκ dJ2_isLatin1_17 ?_
    exact r_iretH hκ hf h (nar_bool (by decide)) dJ2_isLatin1_18
  · replace h := (bte_i h).1 h2
    refine r_iconst hκ dJ2_isLatin1_13 ?_
    refine r_goto hκ (tgt := 18) (by decide) dJ2_isLatin1_14 ?_
    exact r_iretH hκ hf h (nar_bool (by decide)) dJ2_isLatin1_18
/-- java/lang/String.checkIndex(II)V -/
def F_J2_checkIndex (s0 : bS) (a0 a1 : Int) : Option (bS × Int) :=
  bcl (F_J18_checkIndex s0 a0 a1 (bg s0 1 (-(2 + 0)) 0)) fun s1 v1 =>
  some (s1, 0)
set_option maxHeartbeats 4000000 in
set_option maxRecDepth 100000 in
theorem w_J2_checkIndex (Γ0 : bG) (l0 : Launch) {s0 st' : bS} {v a0 a1 : Int} (h : F_J2_checkIndex s0 a0 a1 = some (st', v)) : bCt Γ0 l0 yJ2_checkIndex cJ2_checkIndex 2 none 1 22 [(0, a0), (0, a1)] s0 st' none := by
  refine b_ent (own := RJ2) (by decide +kernel) rfl (Nat.le_of_ble_eq_true rfl) (L := [(0, (0, a0)), (1, (0, a1))]) rfl ?_
  intro κ hκ hi hf
  unfold F_J2_checkIndex at h
  refine r_iload_n hκ 0 rfl rfl dJ2_checkIndex_0 ?_
  refine r_iload_n hκ 1 rfl rfl dJ2_checkIndex_1 ?_
  refine r_getsR hκ (j := 0) (by decide +kernel) q905 dJ2_checkIndex_2 ?_
  obtain ⟨s1, v1, h1, h⟩ := bcl_i h
  refine r_callS hκ (n' := 3) (index := 1059) (w_J18_checkIndex Γ0 l0 h1) (lw_S q907 q826 q154 q827) (by decide +kernel) rfl (by decide) rfl (Nat.le_of_ble_eq_true rfl) dJ2_checkIndex_5 ?_
  refine r_pop hκ (bd_cat0k _) dJ2_checkIndex_8 ?_
  exact r_vretH hκ hf h dJ2_checkIndex_9
/-- java/lang/StringLatin1.charAt([BI)C -/
def F_J20_charAt (s0 : bS) (a0 a1 : Int) : Option (bS × Int) :=
  bck (bg s0 0 a0 0 = 1000) <|
  bcl (F_J2_checkIndex s0 a1 (bg s0 4 a0 0)) fun s1 v1 =>
  bck (bg s1 0 a0 0 = 1000 ∧ (0 : Int) ≤ a1 ∧ a1 < bg s1 4 a0 0) <|
  bck (0 ≤ ((b_i2c (b_iand (bg s1 8 a0 a1) 255)) : Int) ∧ ((b_i2c (b_iand (bg s1 8 a0 a1) 255)) : Int) < 65536) <|
  some (s1, (b_i2c (b_iand (bg s1 8 a0 a1) 255)))
set_option maxHeartbeats 4000000 in
set_option maxRecDepth 100000 in
theorem w_J20_charAt (Γ0 : bG) (l0 : Launch) {s0 st' : bS} {v a0 a1 : Int} (h : F_J20_charAt s0 a0 a1 = some (st', v)) : bCt Γ0 l0 yJ20_charAt cJ20_charAt 2 (some .char) 2 43 [(2, a0), (0, a1)] s0 st' (some (0, v)) := by
  refine b_ent (own := RJ20) (by decide +kernel) rfl (Nat.le_of_ble_eq_true rfl) (L := [(0, (2, a0)), (1, (0, a1))]) rfl ?_
  intro κ hκ hi hf
  unfold F_J20_charAt at h
  refine r_iload_n hκ 1 rfl rfl dJ20_charAt_0 ?_
  refine r_aload_n hκ 0 rfl rfl dJ20_charAt_1 ?_
  obtain ⟨h1, h⟩ := bck_i h
  refine r_alen hκ (t := 0) h1 rfl dJ20_charAt_2 ?_
  obtain ⟨s1, v1, h2, h⟩ := bcl_i h
  refine r_callS hκ (n' := 2) (index := 9) (w_J2_checkIndex Γ0 l0 h2) (lw_S q902 q903 q126 q904) (by decide +kernel) rfl (by decide) rfl (Nat.le_of_ble_eq_true rfl) dJ20_charAt_3 ?_
  refine r_aload_n hκ 0 rfl rfl dJ20_charAt_6 ?_
  refine r_iload_n hκ 1 rfl rfl dJ20_charAt_7 ?_
  obtain ⟨⟨h3, h4⟩, h⟩ := bck_i h
  refine r_bald hκ h3 h4 dJ20_charAt_8 ?_
  refine r_sipush hκ (by decide) dJ20_charAt_9 ?_
  refine r_iand hκ dJ20_charAt_12 ?_
  refine r_i2c hκ dJ20_charAt_13 ?_
  obtain ⟨h5, h⟩ := bck_i h
  exact r_iretH hκ hf h (nar_char h5) dJ20_charAt_14
/-- java/lang/String.charAt(I)C -/
def F_J2_charAt (s0 : bS) (a0 a1 : Int) : Option (bS × Int) :=
  bck (bg s0 0 a0 0 = 20) <|
  bcl (F_J2_isLatin1 s0 a0) fun s1 v1 =>
  bte (i32 v1 = 0)
  (bck (bg s1 0 a0 0 = 20) <|
  none)
  (bck (bg s1 0 a0 0 = 20) <|
  bcl (F_J20_charAt s1 (bg s1 426 a0 0) a1) fun s2 v2 =>
  bck (0 ≤ (v2 : Int) ∧ (v2 : Int) < 65536) <|
  some (s2, v2))
set_option maxHeartbeats 4000000 in
set_option maxRecDepth 100000 in
theorem w_J2_charAt (Γ0 : bG) (l0 : Launch) {s0 st' : bS} {v a0 a1 : Int} (h : F_J2_charAt s0 a0 a1 = some (st', v)) : bCt Γ0 l0 yJ2_charAt cJ2_charAt 2 (some .char) 3 64 [(2, a0), (0, a1)] s0 st' (some (0, v)) := by
  refine b_ent (own := RJ2) (by decide +kernel) rfl (Nat.le_of_ble_eq_true rfl) (L := [(0, (2, a0)), (1, (0, a1))]) rfl ?_
  intro κ hκ hi hf
  unfold F_J2_charAt at h
  refine r_aload_n hκ 0 rfl rfl dJ2_charAt_0 ?_
  obtain ⟨h1, h⟩ := bck_i h
  obtain ⟨s1, v1, h2, h⟩ := bcl_i h
  refine r_callV hκ (n' := 0) (index := 492) (w_J2_isLatin1 Γ0 l0 h2) (lw_V q895 q896 q897 q126 q898) (by decide +kernel) (t := 19) h1 rfl rfl (by decide) rfl (Nat.le_of_ble_eq_true rfl) dJ2_charAt_1 ?_
  refine r_if_eq hκ (tgt := 16) (by decide) dJ2_charAt_4 (fun h3 => ?_) (fun h3 => ?_)
  · replace h := (bte_i h).1 h3
    refine r_aload_n hκ 0 rfl rfl dJ2_charAt_16 ?_
    obtain ⟨h4, h⟩ := bck_i h
    refine r_get hκ (t := 19) (k := 0) (r := 426) h4 rfl in_J2 (by decide) rfl q1171 (Or.inl rfl) dJ2_charAt_17 ?_
    refine r_iload_n hκ 1 rfl rfl dJ2_charAt_20 ?_
    cases h
  · replace h := (bte_i h).2 h3
    refine r_aload_n hκ 0 rfl rfl dJ2_charAt_7 ?_
    obtain ⟨h5, h⟩ := bck_i h
    refine r_get hκ (t := 19) (k := 0) (r := 426) h5 rfl in_J2 (by decide) rfl q1171 (Or.inl rfl) dJ2_charAt_8 ?_
    refine r_iload_n hκ 1 rfl rfl dJ2_charAt_11 ?_
    obtain ⟨s2, v2, h6, h⟩ := bcl_i h
    refine r_callS hκ (n' := 2) (index := 495) (w_J20_charAt Γ0 l0 h6) (lw_S q899 q900 q156 q901) (by decide +kernel) rfl (by decide) rfl (Nat.le_of_ble_eq_true rfl) dJ2_charAt_12 ?_
    obtain ⟨h7, h⟩ := bck_i h
    exact r_iretH hκ hf h (nar_char h7) dJ2_charAt_15
/-- java/util/LinkedList$ListItr.hasPrevious()Z -/
def F_J28_hasPrevious (s0 : bS) (a0 : Int) : Option (bS × Int) :=
  bck (bg s0 0 a0 0 = 25) <|
  bte (i32 (bg s0 492 a0 0) ≤ 0)
  (some (s0, 0))
  (some (s0, 1))
set_option maxHeartbeats 4000000 in
set_option maxRecDepth 100000 in
theorem w_J28_hasPrevious (Γ0 : bG) (l0 : Launch) {s0 st' : bS} {v a0 : Int} (h : F_J28_hasPrevious s0 a0 = some (st', v)) : bCt Γ0 l0 yJ28_hasPrevious cJ28_hasPrevious 1 (some .boolean) 0 0 [(2, a0)] s0 st' (some (0, v)) := by
  refine b_ent (own := RJ28) (by decide +kernel) rfl (Nat.le_of_ble_eq_true rfl) (L := [(0, (2, a0))]) rfl ?_
  intro κ hκ hi hf
  unfold F_J28_hasPrevious at h
  refine r_aload_n hκ 0 rfl rfl dJ28_hasPrevious_0 ?_
  obtain ⟨h1, h⟩ := bck_i h
  refine r_get hκ (t := 24) (k := 2) (r := 492) h1 rfl in_J28 (by decide) rfl q2590 (Or.inl rfl) dJ28_hasPrevious_1 ?_
  refine r_if_le hκ (tgt := 11) (by decide) dJ28_hasPrevious_4 (fun h2 => ?_) (fun h2 => ?_)
  · replace h := (bte_i h).1 h2
    refine r_iconst hκ dJ28_hasPrevious_11 ?_
    exact r_iretH hκ hf h (nar_bool (by decide)) dJ28_hasPrevious_12
  · replace h := (bte_i h).2 h2
    refine r_iconst hκ dJ28_hasPrevious_7 ?_
    refine r_goto hκ (tgt := 12) (by decide) dJ28_hasPrevious_8 ?_
    exact r_iretH hκ hf h (nar_bool (by decide)) dJ28_hasPrevious_12
/-- java/util/LinkedList$DescendingIterator.hasNext()Z -/
def F_J27_hasNext (s0 : bS) (a0 : Int) : Option (bS × Int) :=
  bck (bg s0 0 a0 0 = 24) <|
  bck (bg s0 0 (bg s0 478 a0 0) 0 = 25) <|
  bcl (F_J28_hasPrevious s0 (bg s0 478 a0 0)) fun s1 v1 =>
  bck (v1 = 0 ∨ v1 = 1) <|
  some (s1, v1)
set_option maxHeartbeats 4000000 in
set_option maxRecDepth 100000 in
theorem w_J27_hasNext (Γ0 : bG) (l0 : Launch) {s0 st' : bS} {v a0 : Int} (h : F_J27_hasNext s0 a0 = some (st', v)) : bCt Γ0 l0 yJ27_hasNext cJ27_hasNext 1 (some .boolean) 1 20 [(2, a0)] s0 st' (some (0, v)) := by
  refine b_ent (own := RJ27) (by decide +kernel) rfl (Nat.le_of_ble_eq_true rfl) (L := [(0, (2, a0))]) rfl ?_
  intro κ hκ hi hf
  unfold F_J27_hasNext at h
  refine r_aload_n hκ 0 rfl rfl dJ27_hasNext_0 ?_
  obtain ⟨h1, h⟩ := bck_i h
  refine r_get hκ (t := 23) (k := 0) (r := 478) h1 rfl in_J27 (by decide) rfl q2604 (Or.inl rfl) dJ27_hasNext_1 ?_
  obtain ⟨h2, h⟩ := bck_i h
  obtain ⟨s1, v1, h3, h⟩ := bcl_i h
  refine r_callV hκ (n' := 0) (index := 28) (w_J28_hasPrevious Γ0 l0 h3) (lw_V q1707 q1708 q1709 q171 q1710) (by decide +kernel) (t := 24) h2 rfl rfl (by decide) rfl (Nat.le_of_ble_eq_true rfl) dJ27_hasNext_4 ?_
  obtain ⟨h4, h⟩ := bck_i h
  exact r_iretH hκ hf h (nar_bool h4) dJ27_hasNext_7
/-- java/util/LinkedList$ListItr.hasNext()Z -/
def F_J28_hasNext (s0 : bS) (a0 : Int) : Option (bS × Int) :=
  bck (bg s0 0 a0 0 = 25) <|
  bck (bg s0 0 a0 0 = 25) <|
  bck (bg s0 0 (bg s0 502 a0 0) 0 = 22) <|
  bte (i32 (bg s0 452 (bg s0 502 a0 0) 0) ≤ i32 (bg s0 492 a0 0))
  (some (s0, 0))
  (some (s0, 1))
set_option maxHeartbeats 4000000 in
set_option maxRecDepth 100000 in
theorem w_J28_hasNext (Γ0 : bG) (l0 : Launch) {s0 st' : bS} {v a0 : Int} (h : F_J28_hasNext s0 a0 = some (st', v)) : bCt Γ0 l0 yJ28_hasNext cJ28_hasNext 1 (some .boolean) 0 0 [(2, a0)] s0 st' (some (0, v)) := by
  refine b_ent (own := RJ28) (by decide +kernel) rfl (Nat.le_of_ble_eq_true rfl) (L := [(0, (2, a0))]) rfl ?_
  intro κ hκ hi hf
  unfold F_J28_hasNext at h
  refine r_aload_n hκ 0 rfl rfl dJ28_hasNext_0 ?_
  obtain ⟨h1, h⟩ := bck_i h
  refine r_get hκ (t := 24) (k := 2) (r := 492) h1 rfl in_J28 (by decide) rfl q2590 (Or.inl rfl) dJ28_hasNext_1 ?_
  refine r_aload_n hκ 0 rfl rfl dJ28_hasNext_4 ?_
  obtain ⟨h2, h⟩ := bck_i h
  refine r_get hκ (t := 24) (k := 4) (r := 502) h2 rfl in_J28 (by decide) rfl q2592 (Or.inl rfl) dJ28_hasNext_5 ?_
  obtain ⟨h3, h⟩ := bck_i h
  refine r_get hκ (t := 21) (k := 1) (r := 452) h3 rfl in_J12 (by decide) rfl q460 (Or.inl rfl) dJ28_hasNext_8 ?_
  refine r_icmp_ge hκ (tgt := 18) (by decide) dJ28_hasNext_11 (fun h4 => ?_) (fun h4 => ?_)
  · replace h := (bte_i h).1 h4
    refine r_iconst hκ dJ28_hasNext_18 ?_
    exact r_iretH hκ hf h (nar_bool (by decide)) dJ28_hasNext_19
  · replace h := (bte_i h).2 h4
    refine r_iconst hκ dJ28_hasNext_14 ?_
    refine r_goto hκ (tgt := 19) (by decide) dJ28_hasNext_15 ?_
    exact r_iretH hκ hf h (nar_bool (by decide)) dJ28_hasNext_19
/-- java/util/LinkedList.size()I -/
def F_J12_size (s0 : bS) (a0 : Int) : Option (bS × Int) :=
  bck (bg s0 0 a0 0 = 22) <|
  some (s0, (bg s0 452 a0 0))
set_option maxHeartbeats 4000000 in
set_option maxRecDepth 100000 in
theorem w_J12_size (Γ0 : bG) (l0 : Launch) {s0 st' : bS} {v a0 : Int} (h : F_J12_size s0 a0 = some (st', v)) : bCt Γ0 l0 yJ12_size cJ12_size 1 (some .int) 0 0 [(2, a0)] s0 st' (some (0, v)) := by
  refine b_ent (own := RJ12) (by decide +kernel) rfl (Nat.le_of_ble_eq_true rfl) (L := [(0, (2, a0))]) rfl ?_
  intro κ hκ hi hf
  unfold F_J12_size at h
  refine r_aload_n hκ 0 rfl rfl dJ12_size_0 ?_
  obtain ⟨h1, h⟩ := bck_i h
  refine r_get hκ (t := 21) (k := 1) (r := 452) h1 rfl in_J12 (by decide) rfl q459 (Or.inl rfl) dJ12_size_1 ?_
  exact r_iretH hκ hf h (nar_int _) dJ12_size_4
/-- java/util/LinkedList$ListItr.checkForComodification()V -/
def F_J28_checkForComodification (s0 : bS) (a0 : Int) : Option (bS × Int) :=
  bck (bg s0 0 a0 0 = 25) <|
  bck (bg s0 0 (bg s0 502 a0 0) 0 = 22) <|
  bck (bg s0 0 a0 0 = 25) <|
  bte (i32 (bg s0 440 (bg s0 502 a0 0) 0) = i32 (bg s0 496 a0 0))
  (some (s0, 0))
  (none)
set_option maxHeartbeats 4000000 in
set_option maxRecDepth 100000 in
theorem w_J28_checkForComodification (Γ0 : bG) (l0 : Launch) {s0 st' : bS} {v a0 : Int} (h : F_J28_checkForComodification s0 a0 = some (st', v)) : bCt Γ0 l0 yJ28_checkForComodification cJ28_checkForComodification 1 none 0 0 [(2, a0)] s0 st' none := by
  refine b_ent (own := RJ28) (by decide +kernel) rfl (Nat.le_of_ble_eq_true rfl) (L := [(0, (2, a0))]) rfl ?_
  intro κ hκ hi hf
  unfold F_J28_checkForComodification at h
  refine r_aload_n hκ 0 rfl rfl dJ28_checkForComodification_0 ?_
  obtain ⟨h1, h⟩ := bck_i h
  refine r_get hκ (t := 24) (k := 4) (r := 502) h1 rfl in_J28 (by decide) rfl q2592 (Or.inl rfl) dJ28_checkForComodification_1 ?_
  obtain ⟨h2, h⟩ := bck_i h
  refine r_get hκ (t := 21) (k := 0) (r := 440) h2 rfl in_J12 (by decide) rfl q342 (Or.inr q343) dJ28_checkForComodification_4 ?_
  refine r_aload_n hκ 0 rfl rfl dJ28_checkForComodification_7 ?_
  obtain ⟨h3, h⟩ := bck_i h
  refine r_get hκ (t := 24) (k := 3) (r := 496) h3 rfl in_J28 (by decide) rfl q2591 (Or.inl rfl) dJ28_checkForComodification_8 ?_
  refine r_icmp_eq hκ (tgt := 22) (by decide) dJ28_checkForComodification_11 (fun h4 => ?_) (fun h4 => ?_)
  · replace h := (bte_i h).1 h4
    exact r_vretH hκ hf h dJ28_checkForComodification_22
  · replace h := (bte_i h).2 h4
    cases h
/-- java/util/LinkedList$ListItr.previous()Ljava/lang/Object; -/
def F_J28_previous_r (b : Nat) (x0 x1 x2 x3 : Int) (s0 : bS) : Option (bS × Int) :=
  match b with
  | 0 =>
    bck ((bg s0 0 x2 0 = 25)) <|
    bst (bw s0 490 x2 0 x1) fun s3 =>
    bck ((bg s3 0 x3 0 = 25)) <|
    bst (bw s3 486 x3 0 x1) fun s4 =>
    bck (bg s4 0 x0 0 = 25) <|
    bck ((bg s4 0 x0 0 = 25)) <|
    bst (bw s4 492 x0 0 ((bg s4 492 x0 0) - 1)) fun s5 =>
    bck (bg s5 0 x0 0 = 25) <|
    bck (bg s5 0 (bg s5 486 x0 0) 0 = 23) <|
    some (s5, (bg s5 466 (bg s5 486 x0 0) 0))
  | _ => none
def F_J28_previous (s0 : bS) (a0 : Int) : Option (bS × Int) :=
  bck (bg s0 0 a0 0 = 25) <|
  bcl (F_J28_checkForComodification s0 a0) fun s1 v1 =>
  bck (bg s1 0 a0 0 = 25) <|
  bcl (F_J28_hasPrevious s1 a0) fun s2 v2 =>
  bte (i32 v2 = 0)
  (none)
  (bck (bg s2 0 a0 0 = 25) <|
  bte ((bg s2 490 a0 0) < 0)
  (bck (bg s2 0 a0 0 = 25) <|
  bck (bg s2 0 (bg s2 502 a0 0) 0 = 22) <|
  F_J28_previous_r 0 a0 (bg s2 462 (bg s2 502 a0 0) 0) a0 a0 s2)
  (bck (bg s2 0 a0 0 = 25) <|
  bck (bg s2 0 (bg s2 490 a0 0) 0 = 23) <|
  F_J28_previous_r 0 a0 (bg s2 474 (bg s2 490 a0 0) 0) a0 a0 s2))
set_option maxHeartbeats 4000000 in
set_option maxRecDepth 100000 in
set_option synthInstance.maxHeartbeats 4000000 in
theorem w_J28_previous_r {Γ0 : bG} {l0 : Launch} {κ : bK} {st' : bS} {v : Int} (hκ : bOk κ Γ0 l0 cJ28_previous RJ28 1 1 20) (hi : bIn κ yJ28_previous) (hf : bFin κ (some (.object "java/lang/Object")) st' (some (2, v))) (b : Nat) (x0 x1 x2 x3 : Int) (s0 : bS) (h : F_J28_previous_r b x0 x1 x2 x3 s0 = some (st', v)) : match (generalizing := false) b with | 0 => bJ κ s0 45 [(0, (2, x0))] [(2, x1), (2, x2), (2, x3)] | _ => True := by
  unfold F_J28_previous_r at h
  match b, h with
  | 0, h =>
      refine r_dup_x1 hκ (bd_cat2k _) (bd_cat2k _) dJ28_previous_45 ?_
      obtain ⟨h12, h⟩ := bck_i h
      refine r_put hκ (t := 24) (k := 1) (r := 490) (ty := (.object "java/util/LinkedList$Node")) tyJ28 tyJ28_ok nmJ28 h12 rfl in_J28 (by decide) rfl q2589 (Or.inl rfl) rfl rfl rfl trivial (Or.inl (by decide)) dJ28_previous_46 (fun s3 es3 => ?_)
      replace h := bst_i h s3 es3
      obtain ⟨h13, h⟩ := bck_i h
      refine r_put hκ (t := 24) (k := 0) (r := 486) (ty := (.object "java/util/LinkedList$Node")) tyJ28 tyJ28_ok nmJ28 h13 rfl in_J28 (by decide) rfl q2588 (Or.inl rfl) rfl rfl rfl trivial (Or.inl (by decide)) dJ28_previous_49 (fun s4 es4 => ?_)
      replace h := bst_i h s4 es4
      refine r_aload_n hκ 0 rfl rfl dJ28_previous_52 ?_
      refine r_dup hκ (bd_cat2k _) dJ28_previous_53 ?_
      obtain ⟨h14, h⟩ := bck_i h
      refine r_get hκ (t := 24) (k := 2) (r := 492) h14 rfl in_J28 (by decide) rfl q2590 (Or.inl rfl) dJ28_previous_54 ?_
      refine r_iconst hκ dJ28_previous_57 ?_
      refine r_isub hκ dJ28_previous_58 ?_
      obtain ⟨h15, h⟩ := bck_i h
      refine r_put hκ (t := 24) (k := 2) (r := 492) (ty := .int) tyJ28 tyJ28_ok nmJ28 h15 rfl in_J28 (by decide) rfl q2590 (Or.inl rfl) rfl rfl rfl trivial (Or.inl (by decide)) dJ28_previous_59 (fun s5 es5 => ?_)
      replace h := bst_i h s5 es5
      refine r_aload_n hκ 0 rfl rfl dJ28_previous_62 ?_
      obtain ⟨h16, h⟩ := bck_i h
      refine r_get hκ (t := 24) (k := 0) (r := 486) h16 rfl in_J28 (by decide) rfl q2588 (Or.inl rfl) dJ28_previous_63 ?_
      obtain ⟨h17, h⟩ := bck_i h
      refine r_get hκ (t := 22) (k := 0) (r := 466) h17 rfl in_J26 (by decide) rfl q2327 (Or.inl rfl) dJ28_previous_66 ?_
      exact r_aretH hκ hf h rt_o dJ28_previous_69
  | b + 1, h => trivial
set_option maxHeartbeats 4000000 in
set_option maxRecDepth 100000 in
theorem w_J28_previous (Γ0 : bG) (l0 : Launch) {s0 st' : bS} {v a0 : Int} (h : F_J28_previous s0 a0 = some (st', v)) : bCt Γ0 l0 yJ28_previous cJ28_previous 1 (some (.object "java/lang/Object")) 1 20 [(2, a0)] s0 st' (some (2, v)) := by
  refine b_ent (own := RJ28) (by decide +kernel) rfl (Nat.le_of_ble_eq_true rfl) (L := [(0, (2, a0))]) rfl ?_
  intro κ hκ hi hf
  unfold F_J28_previous at h
  refine r_aload_n hκ 0 rfl rfl dJ28_previous_0 ?_
  obtain ⟨h1, h⟩ := bck_i h
  obtain ⟨s1, v1, h2, h⟩ := bcl_i h
  refine r_callV hκ (n' := 0) (index := 36) (w_J28_checkForComodification Γ0 l0 h2) (lw_V q1964 q1965 q1966 q171 q1967) (by decide +kernel) (t := 24) h1 rfl rfl (by decide) rfl (Nat.le_of_ble_eq_true rfl) dJ28_previous_1 ?_
  refine r_aload_n hκ 0 rfl rfl dJ28_previous_4 ?_
  obtain ⟨h3, h⟩ := bck_i h
  obtain ⟨s2, v2, h4, h⟩ := bcl_i h
  refine r_callV hκ (n' := 0) (index := 56) (w_J28_hasPrevious Γ0 l0 h4) (lw_V q1968 q1708 q1709 q171 q1710) (by decide +kernel) (t := 24) h3 rfl rfl (by decide) rfl (Nat.le_of_ble_eq_true rfl) dJ28_previous_5 ?_
  refine r_if_ne hκ (tgt := 19) (by decide) dJ28_previous_8 (fun h5 => ?_) (fun h5 => ?_)
  · replace h := (bte_i h).2 h5
    refine r_aload_n hκ 0 rfl rfl dJ28_previous_19 ?_
    refine r_aload_n hκ 0 rfl rfl dJ28_previous_20 ?_
    refine r_aload_n hκ 0 rfl rfl dJ28_previous_21 ?_
    obtain ⟨h6, h⟩ := bck_i h
    refine r_get hκ (t := 24) (k := 1) (r := 490) h6 rfl in_J28 (by decide) rfl q2589 (Or.inl rfl) dJ28_previous_22 ?_
    refine r_ifnonnull hκ (tgt := 38) (by decide) dJ28_previous_25 (fun h7 => ?_) (fun h7 => ?_)
    · replace h := (bte_i h).2 h7
      refine r_aload_n hκ 0 rfl rfl dJ28_previous_38 ?_
      obtain ⟨h8, h⟩ := bck_i h
      refine r_get hκ (t := 24) (k := 1) (r := 490) h8 rfl in_J28 (by decide) rfl q2589 (Or.inl rfl) dJ28_previous_39 ?_
      obtain ⟨h9, h⟩ := bck_i h
      refine r_get hκ (t := 22) (k := 2) (r := 474) h9 rfl in_J26 (by decide) rfl q2333 (Or.inl rfl) dJ28_previous_42 ?_
      exact r_sub [0] rfl (w_J28_previous_r hκ hi hf 0 _ _ _ _ _ h)
    · replace h := (bte_i h).1 h7
      refine r_aload_n hκ 0 rfl rfl dJ28_previous_28 ?_
      obtain ⟨h10, h⟩ := bck_i h
      refine r_get hκ (t := 24) (k := 4) (r := 502) h10 rfl in_J28 (by decide) rfl q2592 (Or.inl rfl) dJ28_previous_29 ?_
      obtain ⟨h11, h⟩ := bck_i h
      refine r_get hκ (t := 21) (k := 3) (r := 462) h11 rfl in_J12 (by decide) rfl q463 (Or.inl rfl) dJ28_previous_32 ?_
      refine r_goto hκ (tgt := 45) (by decide) dJ28_previous_35 ?_
      exact r_sub [0] rfl (w_J28_previous_r hκ hi hf 0 _ _ _ _ _ h)
  · replace h := (bte_i h).1 h5
    cases h
/-- java/util/LinkedList$DescendingIterator.next()Ljava/lang/Object; -/
def F_J27_next (s0 : bS) (a0 : Int) : Option (bS × Int) :=
  bck (bg s0 0 a0 0 = 24) <|
  bck (bg s0 0 (bg s0 478 a0 0) 0 = 25) <|
  bcl (F_J28_previous s0 (bg s0 478 a0 0)) fun s1 v1 =>
  some (s1, v1)
set_option maxHeartbeats 4000000 in
set_option maxRecDepth 100000 in
theorem w_J27_next (Γ0 : bG) (l0 : Launch) {s0 st' : bS} {v a0 : Int} (h : F_J27_next s0 a0 = some (st', v)) : bCt Γ0 l0 yJ27_next cJ27_next 1 (some (.object "java/lang/Object")) 2 40 [(2, a0)] s0 st' (some (2, v)) := by
  refine b_ent (own := RJ27) (by decide +kernel) rfl (Nat.le_of_ble_eq_true rfl) (L := [(0, (2, a0))]) rfl ?_
  intro κ hκ hi hf
  unfold F_J27_next at h
  refine r_aload_n hκ 0 rfl rfl dJ27_next_0 ?_
  obtain ⟨h1, h⟩ := bck_i h
  refine r_get hκ (t := 23) (k := 0) (r := 478) h1 rfl in_J27 (by decide) rfl q2604 (Or.inl rfl) dJ27_next_1 ?_
  obtain ⟨h2, h⟩ := bck_i h
  obtain ⟨s1, v1, h3, h⟩ := bcl_i h
  refine r_callV hκ (n' := 0) (index := 32) (w_J28_previous Γ0 l0 h3) (lw_V q1960 q1961 q1962 q171 q1963) (by decide +kernel) (t := 24) h2 rfl rfl (by decide) rfl (Nat.le_of_ble_eq_true rfl) dJ27_next_4 ?_
  exact r_aretH hκ hf h rt_o dJ27_next_7
/-- java/util/LinkedList$ListItr.next()Ljava/lang/Object; -/
def F_J28_next (s0 : bS) (a0 : Int) : Option (bS × Int) :=
  bck (bg s0 0 a0 0 = 25) <|
  bcl (F_J28_checkForComodification s0 a0) fun s1 v1 =>
  bck (bg s1 0 a0 0 = 25) <|
  bcl (F_J28_hasNext s1 a0) fun s2 v2 =>
  bte (i32 v2 = 0)
  (none)
  (bck (bg s2 0 a0 0 = 25) <|
  bck ((bg s2 0 a0 0 = 25)) <|
  bst (bw s2 486 a0 0 (bg s2 490 a0 0)) fun s3 =>
  bck (bg s3 0 a0 0 = 25) <|
  bck (bg s3 0 (bg s3 490 a0 0) 0 = 23) <|
  bck ((bg s3 0 a0 0 = 25)) <|
  bst (bw s3 490 a0 0 (bg s3 470 (bg s3 490 a0 0) 0)) fun s4 =>
  bck (bg s4 0 a0 0 = 25) <|
  bck ((bg s4 0 a0 0 = 25)) <|
  bst (bw s4 492 a0 0 ((bg s4 492 a0 0) + 1)) fun s5 =>
  bck (bg s5 0 a0 0 = 25) <|
  bck (bg s5 0 (bg s5 486 a0 0) 0 = 23) <|
  some (s5, (bg s5 466 (bg s5 486 a0 0) 0)))
set_option maxHeartbeats 4000000 in
set_option maxRecDepth 100000 in
theorem w_J28_next (Γ0 : bG) (l0 : Launch) {s0 st' : bS} {v a0 : Int} (h : F_J28_next s0 a0 = some (st', v)) : bCt Γ0 l0 yJ28_next cJ28_next 1 (some (.object "java/lang/Object")) 1 20 [(2, a0)] s0 st' (some (2, v)) := by
  refine b_ent (own := RJ28) (by decide +kernel) rfl (Nat.le_of_ble_eq_true rfl) (L := [(0, (2, a0))]) rfl ?_
  intro κ hκ hi hf
  unfold F_J28_next at h
  refine r_aload_n hκ 0 rfl rfl dJ28_next_0 ?_
  obtain ⟨h1, h⟩ := bck_i h
  obtain ⟨s1, v1, h2, h⟩ := bcl_i h
  refine r_callV hκ (n' := 0) (index := 36) (w_J28_checkForComodification Γ0 l0 h2) (lw_V q1964 q1965 q1966 q171 q1967) (by decide +kernel) (t := 24) h1 rfl rfl (by decide) rfl (Nat.le_of_ble_eq_true rfl) dJ28_next_1 ?_
  refine r_aload_n hκ 0 rfl rfl dJ28_next_4 ?_
  obtain ⟨h3, h⟩ := bck_i h
  obtain ⟨s2, v2, h4, h⟩ := bcl_i h
  refine r_callV hκ (n' := 0) (index := 39) (w_J28_hasNext Γ0 l0 h4) (lw_V q1974 q1714 q3598 q171 q1716) (by decide +kernel) (t := 24) h3 rfl rfl (by decide) rfl (Nat.le_of_ble_eq_true rfl) dJ28_next_5 ?_
  refine r_if_ne hκ (tgt := 19) (by decide) dJ28_next_8 (fun h5 => ?_) (fun h5 => ?_)
  · replace h := (bte_i h).2 h5
    refine r_aload_n hκ 0 rfl rfl dJ28_next_19 ?_
    refine r_aload_n hκ 0 rfl rfl dJ28_next_20 ?_
    obtain ⟨h6, h⟩ := bck_i h
    refine r_get hκ (t := 24) (k := 1) (r := 490) h6 rfl in_J28 (by decide) rfl q2589 (Or.inl rfl) dJ28_next_21 ?_
    obtain ⟨h7, h⟩ := bck_i h
    refine r_put hκ (t := 24) (k := 0) (r := 486) (ty := (.object "java/util/LinkedList$Node")) tyJ28 tyJ28_ok nmJ28 h7 rfl in_J28 (by decide) rfl q2588 (Or.inl rfl) rfl rfl rfl trivial (Or.inl (by decide)) dJ28_next_24 (fun s3 es3 => ?_)
    replace h := bst_i h s3 es3
    refine r_aload_n hκ 0 rfl rfl dJ28_next_27 ?_
    refine r_aload_n hκ 0 rfl rfl dJ28_next_28 ?_
    obtain ⟨h8, h⟩ := bck_i h
    refine r_get hκ (t := 24) (k := 1) (r := 490) h8 rfl in_J28 (by decide) rfl q2589 (Or.inl rfl) dJ28_next_29 ?_
    obtain ⟨h9, h⟩ := bck_i h
    refine r_get hκ (t := 22) (k := 1) (r := 470) h9 rfl in_J26 (by decide) rfl q2330 (Or.inl rfl) dJ28_next_32 ?_
    obtain ⟨h10, h⟩ := bck_i h
    refine r_put hκ (t := 24) (k := 1) (r := 490) (ty := (.object "java/util/LinkedList$Node")) tyJ28 tyJ28_ok nmJ28 h10 rfl in_J28 (by decide) rfl q2589 (Or.inl rfl) rfl rfl rfl trivial (Or.inl (by decide)) dJ28_next_35 (fun s4 es4 => ?_)
    replace h := bst_i h s4 es4
    refine r_aload_n hκ 0 rfl rfl dJ28_next_38 ?_
    refine r_dup hκ (bd_cat2k _) dJ28_next_39 ?_
    obtain ⟨h11, h⟩ := bck_i h
    refine r_get hκ (t := 24) (k := 2) (r := 492) h11 rfl in_J28 (by decide) rfl q2590 (Or.inl rfl) dJ28_next_40 ?_
    refine r_iconst hκ dJ28_next_43 ?_
    refine r_iadd hκ dJ28_next_44 ?_
    obtain ⟨h12, h⟩ := bck_i h
    refine r_put hκ (t := 24) (k := 2) (r := 492) (ty := .int) tyJ28 tyJ28_ok nmJ28 h12 rfl in_J28 (by decide) rfl q2590 (Or.inl rfl) rfl rfl rfl trivial (Or.inl (by decide)) dJ28_next_45 (fun s5 es5 => ?_)
    replace h := bst_i h s5 es5
    refine r_aload_n hκ 0 rfl rfl dJ28_next_48 ?_
    obtain ⟨h13, h⟩ := bck_i h
    refine r_get hκ (t := 24) (k := 0) (r := 486) h13 rfl in_J28 (by decide) rfl q2588 (Or.inl rfl) dJ28_next_49 ?_
    obtain ⟨h14, h⟩ := bck_i h
    refine r_get hκ (t := 22) (k := 0) (r := 466) h14 rfl in_J26 (by decide) rfl q2327 (Or.inl rfl) dJ28_next_52 ?_
    exact r_aretH hκ hf h rt_o dJ28_next_55
  · replace h := (bte_i h).1 h5
    cases h
/-- java/lang/String.<init>([BB)V -/
def F_J2_init_3 (s0 : bS) (a0 a1 a2 : Int) : Option (bS × Int) :=
  bck ((0 : Int) ≤ a0) <|
  bck ((bg s0 0 a0 0 = 20) ∧ bg s0 1 (-1) 0 ≤ a0) <|
  bst (bw s0 426 a0 0 a1) fun s1 =>
  bck ((bg s1 0 a0 0 = 20) ∧ (-128 ≤ (a2 : Int) ∧ (a2 : Int) < 128) ∧ bg s1 1 (-1) 0 ≤ a0) <|
  bst (bw s1 428 a0 0 a2) fun s2 =>
  some (s2, 0)
set_option maxHeartbeats 4000000 in
set_option maxRecDepth 100000 in
theorem w_J2_init_3 (Γ0 : bG) (l0 : Launch) {s0 st' : bS} {v a0 a1 a2 : Int} (h : F_J2_init_3 s0 a0 a1 a2 = some (st', v)) : bCt Γ0 l0 yJ2_init_3 cJ2_init_3 3 none 1 20 [(2, a0), (2, a1), (0, a2)] s0 st' none := by
  refine b_ent (own := RJ2) (by decide +kernel) rfl (Nat.le_of_ble_eq_true rfl) (L := [(0, (2, a0)), (1, (2, a1)), (2, (0, a2))]) rfl ?_
  intro κ hκ hi hf
  unfold F_J2_init_3 at h
  refine r_aload_n hκ 0 rfl rfl dJ2_init_3_0 ?_
  obtain ⟨h1, h⟩ := bck_i h
  refine r_oinit hκ h1 q1137 q183 q184 (by decide) (Nat.le_of_ble_eq_true rfl) dJ2_init_3_1 ?_
  refine r_aload_n hκ 0 rfl rfl dJ2_init_3_4 ?_
  refine r_aload_n hκ 1 rfl rfl dJ2_init_3_5 ?_
  obtain ⟨⟨h2, h3⟩, h⟩ := bck_i h
  refine r_putF hκ (hi.init rfl) (t := 19) (k := 0) (r := 426) (ty := (.array .byte)) tyJ2 tyJ2_ok nmJ2 h2 rfl in_J2 (by decide) rfl q1171 rfl rfl rfl rfl rfl trivial (Or.inr h3) dJ2_init_3_6 (fun s1 es1 => ?_)
  replace h := bst_i h s1 es1
  refine r_aload_n hκ 0 rfl rfl dJ2_init_3_9 ?_
  refine r_iload_n hκ 2 rfl rfl dJ2_init_3_10 ?_
  obtain ⟨⟨h4, h5, h6⟩, h⟩ := bck_i h
  refine r_putF hκ (hi.init rfl) (t := 19) (k := 1) (r := 428) (ty := .byte) tyJ2 tyJ2_ok nmJ2 h4 rfl in_J2 (by decide) rfl q1172 rfl rfl rfl rfl rfl h5 (Or.inr h6) dJ2_init_3_11 (fun s2 es2 => ?_)
  replace h := bst_i h s2 es2
  exact r_vretH hκ hf h dJ2_init_3_14
/-- java/lang/StringLatin1.newString([BII)Ljava/lang/String; -/
def F_J20_newString (s0 : bS) (a0 a1 a2 : Int) : Option (bS × Int) :=
  bte (i32 a2 = 0)
  (some (s0, (bg s0 1 (-(2 + 17)) 0)))
  (bck (bc s0 + 1 ≤ bCM ∧ bk s0 + 4 ≤ bKM) <|
  bst (bnw s0 20 0 4) fun s1 =>
  bcl (F_J24_copyOfRange s1 a0 a1 (a1 + a2)) fun s2 v1 =>
  bck (bg s2 0 (bnx s0 : Int) 0 = 20) <|
  bcl (F_J2_init_3 s2 (bnx s0 : Int) v1 0) fun s3 v2 =>
  some (s3, (bnx s0 : Int)))
set_option maxHeartbeats 4000000 in
set_option maxRecDepth 100000 in
theorem w_J20_newString (Γ0 : bG) (l0 : Launch) {s0 st' : bS} {v a0 a1 a2 : Int} (h : F_J20_newString s0 a0 a1 a2 = some (st', v)) : bCt Γ0 l0 yJ20_newString cJ20_newString 3 (some (.object "java/lang/String")) 3 86 [(2, a0), (0, a1), (0, a2)] s0 st' (some (2, v)) := by
  refine b_ent (own := RJ20) (by decide +kernel) rfl (Nat.le_of_ble_eq_true rfl) (L := [(0, (2, a0)), (1, (0, a1)), (2, (0, a2))]) rfl ?_
  intro κ hκ hi hf
  unfold F_J20_newString at h
  refine r_iload_n hκ 2 rfl rfl dJ20_newString_0 ?_
  refine r_if_ne hκ (tgt := 7) (by decide) dJ20_newString_1 (fun h1 => ?_) (fun h1 => ?_)
  · replace h := (bte_i h).2 h1
    obtain ⟨h2, h⟩ := bck_i h
    refine r_new hκ (t := 19) tyJ2 tyJ2_ok dfJ2 rfl in_J2 q1771 q616 q126 h2 dJ20_newString_7 (fun s1 es1 => ?_)
    replace h := bst_i h s1 es1
    refine r_dup hκ (bd_cat2k _) dJ20_newString_10 ?_
    refine r_aload_n hκ 0 rfl rfl dJ20_newString_11 ?_
    refine r_iload_n hκ 1 rfl rfl dJ20_newString_12 ?_
    refine r_iload_n hκ 1 rfl rfl dJ20_newString_13 ?_
    refine r_iload_n hκ 2 rfl rfl dJ20_newString_14 ?_
    refine r_iadd hκ dJ20_newString_15 ?_
    obtain ⟨s2, v1, h3, h⟩ := bcl_i h
    refine r_callS hκ (n' := 3) (index := 232) (w_J24_copyOfRange Γ0 l0 h3) (lw_S q1772 q1153 q162 q1154) (by decide +kernel) rfl (by decide) rfl (Nat.le_of_ble_eq_true rfl) dJ20_newString_16 ?_
    refine r_iconst hκ dJ20_newString_19 ?_
    obtain ⟨h4, h⟩ := bck_i h
    obtain ⟨s3, v2, h5, h⟩ := bcl_i h
    refine r_callI hκ (n' := 2) (index := 112) (w_J2_init_3 Γ0 l0 h5) (lw_meth q1775) q126 q1773 q1774 rfl (by decide +kernel) (t := 19) h4 rfl rfl (by decide) rfl (Nat.le_of_ble_eq_true rfl) dJ20_newString_20 ?_
    exact r_aretH hκ hf h rt_o dJ20_newString_23
  · replace h := (bte_i h).1 h1
    refine r_ldcs hκ (j := 17) (tx := "") (by decide +kernel) dJ20_newString_4 ?_
    exact r_aretH hκ hf h rt_o dJ20_newString_6
/-- java/lang/String.substring(II)Ljava/lang/String; -/
def F_J2_substring_r (b : Nat) (x0 x1 x2 : Int) (s0 : bS) : Option (bS × Int) :=
  match b with
  | 0 =>
    bck (bg s0 0 x0 0 = 20) <|
    bcl (F_J2_isLatin1 s0 x0) fun s3 v3 =>
    bte (i32 v3 = 0)
    (bck (bg s3 0 x0 0 = 20) <|
    none)
    (bck (bg s3 0 x0 0 = 20) <|
    bcl (F_J20_newString s3 (bg s3 426 x0 0) x1 (x2 - x1)) fun s4 v4 =>
    some (s4, v4))
  | _ => none
def F_J2_substring (s0 : bS) (a0 a1 a2 : Int) : Option (bS × Int) :=
  bck (bg s0 0 a0 0 = 20) <|
  bcl (F_J2_length s0 a0) fun s1 v1 =>
  bcl (F_J2_checkBoundsBeginEnd s1 a1 a2 v1) fun s2 v2 =>
  bte (i32 a1 = 0)
  (bte (i32 a2 = i32 v1)
  (some (s2, a0))
  (F_J2_substring_r 0 a0 a1 a2 s2))
  (F_J2_substring_r 0 a0 a1 a2 s2)
set_option maxHeartbeats 4000000 in
set_option maxRecDepth 100000 in
set_option synthInstance.maxHeartbeats 4000000 in
theorem w_J2_substring_r {Γ0 : bG} {l0 : Launch} {κ : bK} {st' : bS} {v : Int} (hκ : bOk κ Γ0 l0 cJ2_substring RJ2 5 4 108) (hi : bIn κ yJ2_substring) (hf : bFin κ (some (.object "java/lang/String")) st' (some (2, v))) (b : Nat) (x0 x1 x2 : Int) (s0 : bS) (h : F_J2_substring_r b x0 x1 x2 s0 = some (st', v)) : match (generalizing := false) b with | 0 => bJ κ s0 22 [(0, (2, x0)), (1, (0, x1)), (2, (0, x2))] [] | _ => True := by
  unfold F_J2_substring_r at h
  match b, h with
  | 0, h =>
      refine r_iload_n hκ 2 rfl rfl dJ2_substring_22 ?_
      refine r_iload_n hκ 1 rfl rfl dJ2_substring_23 ?_
      refine r_isub hκ dJ2_substring_24 ?_
      refine r_istore hκ (L2 := [(4, (0, (x2 - x1))), (0, (2, x0)), (1, (0, x1)), (2, (0, x2))]) (by decide) rfl dJ2_substring_25 ?_
      refine r_aload_n hκ 1 rfl rfl dJ2_substring_27 ?_
      obtain ⟨h6, h⟩ := bck_i h
      obtain ⟨s3, v3, h7, h⟩ := bcl_i h
      refine r_callV hκ (n' := 0) (index := 492) (w_J2_isLatin1 Γ0 l0 h7) (lw_V q895 q896 q897 q126 q898) (by decide +kernel) (t := 19) h6 rfl rfl (by decide) rfl (Nat.le_of_ble_eq_true rfl) dJ2_substring_28 ?_
      refine r_if_eq hκ (tgt := 47) (by decide) dJ2_substring_31 (fun h8 => ?_) (fun h8 => ?_)
      · replace h := (bte_i h).1 h8
        refine r_aload_n hκ 1 rfl rfl dJ2_substring_47 ?_
        obtain ⟨h9, h⟩ := bck_i h
        refine r_get hκ (t := 19) (k := 0) (r := 426) h9 rfl in_J2 (by decide) rfl q1171 (Or.inl rfl) dJ2_substring_48 ?_
        refine r_iload_n hκ 2 rfl rfl dJ2_substring_51 ?_
        refine r_iload hκ 0 rfl dJ2_substring_52 ?_
        cases h
      · replace h := (bte_i h).2 h8
        refine r_aload_n hκ 1 rfl rfl dJ2_substring_34 ?_
        obtain ⟨h10, h⟩ := bck_i h
        refine r_get hκ (t := 19) (k := 0) (r := 426) h10 rfl in_J2 (by decide) rfl q1171 (Or.inl rfl) dJ2_substring_35 ?_
        refine r_iload_n hκ 2 rfl rfl dJ2_substring_38 ?_
        refine r_iload hκ 0 rfl dJ2_substring_39 ?_
        obtain ⟨s4, v4, h11, h⟩ := bcl_i h
        refine r_callS hκ (n' := 3) (index := 685) (w_J20_newString Γ0 l0 h11) (lw_S q1767 q1768 q156 q1769) (by decide +kernel) rfl (by decide) rfl (Nat.le_of_ble_eq_true rfl) dJ2_substring_41 ?_
        refine r_goto hκ (tgt := 57) (by decide) dJ2_substring_44 ?_
        exact r_aretH hκ hf h rt_o dJ2_substring_57
  | b + 1, h => trivial
set_option maxHeartbeats 4000000 in
set_option maxRecDepth 100000 in
theorem w_J2_substring (Γ0 : bG) (l0 : Launch) {s0 st' : bS} {v a0 a1 a2 : Int} (h : F_J2_substring s0 a0 a1 a2 = some (st', v)) : bCt Γ0 l0 yJ2_substring cJ2_substring 5 (some (.object "java/lang/String")) 4 108 [(2, a0), (0, a1), (0, a2)] s0 st' (some (2, v)) := by
  refine b_ent (own := RJ2) (by decide +kernel) rfl (Nat.le_of_ble_eq_true rfl) (L := [(0, (2, a0)), (1, (0, a1)), (2, (0, a2))]) rfl ?_
  intro κ hκ hi hf
  unfold F_J2_substring at h
  refine r_aload_n hκ 0 rfl rfl dJ2_substring_0 ?_
  obtain ⟨h1, h⟩ := bck_i h
  obtain ⟨s1, v1, h2, h⟩ := bcl_i h
  refine r_callV hκ (n' := 0) (index := 505) (w_J2_length Γ0 l0 h2) (lw_V q1765 q874 q875 q126 q876) (by decide +kernel) (t := 19) h1 rfl rfl (by decide) rfl (Nat.le_of_ble_eq_true rfl) dJ2_substring_1 ?_
  refine r_istore_n hκ (L2 := [(3, (0, v1)), (0, (2, a0)), (1, (0, a1)), (2, (0, a2))]) (by decide) rfl rfl dJ2_substring_4 ?_
  refine r_iload_n hκ 2 rfl rfl dJ2_substring_5 ?_
  refine r_iload_n hκ 3 rfl rfl dJ2_substring_6 ?_
  refine r_iload_n hκ 0 rfl rfl dJ2_substring_7 ?_
  obtain ⟨s2, v2, h3, h⟩ := bcl_i h
  refine r_callS hκ (n' := 3) (index := 521) (w_J2_checkBoundsBeginEnd Γ0 l0 h3) (lw_S q1766 q1070 q126 q1071) (by decide +kernel) rfl (by decide) rfl (Nat.le_of_ble_eq_true rfl) dJ2_substring_8 ?_
  refine r_iload_n hκ 2 rfl rfl dJ2_substring_11 ?_
  refine r_if_ne hκ (tgt := 22) (by decide) dJ2_substring_12 (fun h4 => ?_) (fun h4 => ?_)
  · replace h := (bte_i h).2 h4
    exact r_sub [1, 2, 3] rfl (w_J2_substring_r hκ hi hf 0 _ _ _ _ h)
  · replace h := (bte_i h).1 h4
    refine r_iload_n hκ 3 rfl rfl dJ2_substring_15 ?_
    refine r_iload_n hκ 0 rfl rfl dJ2_substring_16 ?_
    refine r_icmp_ne hκ (tgt := 22) (by decide) dJ2_substring_17 (fun h5 => ?_) (fun h5 => ?_)
    · replace h := (bte_i h).2 h5
      exact r_sub [1, 2, 3] rfl (w_J2_substring_r hκ hi hf 0 _ _ _ _ h)
    · replace h := (bte_i h).1 h5
      refine r_aload_n hκ 1 rfl rfl dJ2_substring_20 ?_
      exact r_aretH hκ hf h rt_o dJ2_substring_21
/-- java/lang/String.toString()Ljava/lang/String; -/
def F_J2_toString (s0 : bS) (a0 : Int) : Option (bS × Int) :=
  some (s0, a0)
set_option maxHeartbeats 4000000 in
set_option maxRecDepth 100000 in
theorem w_J2_toString (Γ0 : bG) (l0 : Launch) {s0 st' : bS} {v a0 : Int} (h : F_J2_toString s0 a0 = some (st', v)) : bCt Γ0 l0 yJ2_toString cJ2_toString 1 (some (.object "java/lang/String")) 0 0 [(2, a0)] s0 st' (some (2, v)) := by
  refine b_ent (own := RJ2) (by decide +kernel) rfl (Nat.le_of_ble_eq_true rfl) (L := [(0, (2, a0))]) rfl ?_
  intro κ hκ hi hf
  unfold F_J2_toString at h
  refine r_aload_n hκ 0 rfl rfl dJ2_toString_0 ?_
  exact r_aretH hκ hf h rt_o dJ2_toString_1
/-- java/util/LinkedList.isElementIndex(I)Z -/
def F_J12_isElementIndex (s0 : bS) (a0 a1 : Int) : Option (bS × Int) :=
  bte (i32 a1 < 0)
  (some (s0, 0))
  (bck (bg s0 0 a0 0 = 22) <|
  bte (i32 (bg s0 452 a0 0) ≤ i32 a1)
  (some (s0, 0))
  (some (s0, 1)))
set_option maxHeartbeats 4000000 in
set_option maxRecDepth 100000 in
theorem w_J12_isElementIndex (Γ0 : bG) (l0 : Launch) {s0 st' : bS} {v a0 a1 : Int} (h : F_J12_isElementIndex s0 a0 a1 = some (st', v)) : bCt Γ0 l0 yJ12_isElementIndex cJ12_isElementIndex 2 (some .boolean) 0 0 [(2, a0), (0, a1)] s0 st' (some (0, v)) := by
  refine b_ent (own := RJ12) (by decide +kernel) rfl (Nat.le_of_ble_eq_true rfl) (L := [(0, (2, a0)), (1, (0, a1))]) rfl ?_
  intro κ hκ hi hf
  unfold F_J12_isElementIndex at h
  refine r_iload_n hκ 1 rfl rfl dJ12_isElementIndex_0 ?_
  refine r_if_lt hκ (tgt := 16) (by decide) dJ12_isElementIndex_1 (fun h1 => ?_) (fun h1 => ?_)
  · replace h := (bte_i h).1 h1
    refine r_iconst hκ dJ12_isElementIndex_16 ?_
    exact r_iretH hκ hf h (nar_bool (by decide)) dJ12_isElementIndex_17
  · replace h := (bte_i h).2 h1
    refine r_iload_n hκ 1 rfl rfl dJ12_isElementIndex_4 ?_
    refine r_aload_n hκ 0 rfl rfl dJ12_isElementIndex_5 ?_
    obtain ⟨h2, h⟩ := bck_i h
    refine r_get hκ (t := 21) (k := 1) (r := 452) h2 rfl in_J12 (by decide) rfl q459 (Or.inl rfl) dJ12_isElementIndex_6 ?_
    refine r_icmp_ge hκ (tgt := 16) (by decide) dJ12_isElementIndex_9 (fun h3 => ?_) (fun h3 => ?_)
    · replace h := (bte_i h).1 h3
      refine r_iconst hκ dJ12_isElementIndex_16 ?_
      exact r_iretH hκ hf h (nar_bool (by decide)) dJ12_isElementIndex_17
    · replace h := (bte_i h).2 h3
      refine r_iconst hκ dJ12_isElementIndex_12 ?_
      refine r_goto hκ (tgt := 17) (by decide) dJ12_isElementIndex_13 ?_
      exact r_iretH hκ hf h (nar_bool (by decide)) dJ12_isElementIndex_17
/-- java/util/LinkedList.checkElementIndex(I)V -/
def F_J12_checkElementIndex (s0 : bS) (a0 a1 : Int) : Option (bS × Int) :=
  bck (bg s0 0 a0 0 = 22) <|
  bcl (F_J12_isElementIndex s0 a0 a1) fun s1 v1 =>
  bte (i32 v1 = 0)
  (none)
  (some (s1, 0))
set_option maxHeartbeats 4000000 in
set_option maxRecDepth 100000 in
theorem w_J12_checkElementIndex (Γ0 : bG) (l0 : Launch) {s0 st' : bS} {v a0 a1 : Int} (h : F_J12_checkElementIndex s0 a0 a1 = some (st', v)) : bCt Γ0 l0 yJ12_checkElementIndex cJ12_checkElementIndex 2 none 1 21 [(2, a0), (0, a1)] s0 st' none := by
  refine b_ent (own := RJ12) (by decide +kernel) rfl (Nat.le_of_ble_eq_true rfl) (L := [(0, (2, a0)), (1, (0, a1))]) rfl ?_
  intro κ hκ hi hf
  unfold F_J12_checkElementIndex at h
  refine r_aload_n hκ 0 rfl rfl dJ12_checkElementIndex_0 ?_
  refine r_iload_n hκ 1 rfl rfl dJ12_checkElementIndex_1 ?_
  obtain ⟨h1, h⟩ := bck_i h
  obtain ⟨s1, v1, h2, h⟩ := bcl_i h
  refine r_callV hκ (n' := 1) (index := 115) (w_J12_isElementIndex Γ0 l0 h2) (lw_V q1814 q1816 qs27 q144 q1817) (by decide +kernel) (t := 21) h1 rfl rfl (by decide) rfl (Nat.le_of_ble_eq_true rfl) dJ12_checkElementIndex_2 ?_
  refine r_if_ne hκ (tgt := 21) (by decide) dJ12_checkElementIndex_5 (fun h3 => ?_) (fun h3 => ?_)
  · replace h := (bte_i h).2 h3
    exact r_vretH hκ hf h dJ12_checkElementIndex_21
  · replace h := (bte_i h).1 h3
    cases h
/-- java/util/LinkedList.node(I)Ljava/util/LinkedList$Node; -/
def F_J12_node_r (b : Nat) (x0 x1 x2 : Int) (s0 : bS) : Option (bS × Int) :=
  match b with
  | 0 =>
    bte (i32 x0 ≤ i32 x2)
    (some (s0, x1))
    (bck (bg s0 0 x1 0 = 23) <|
    F_J12_node_r 0 x0 (bg s0 470 x1 0) (x2 + 1) s0)
  | 1 =>
    bte (i32 x2 ≤ i32 x0)
    (some (s0, x1))
    (bck (bg s0 0 x1 0 = 23) <|
    F_J12_node_r 1 x0 (bg s0 474 x1 0) (x2 + (-1)) s0)
  | _ => none
partial_fixpoint
def F_J12_node (s0 : bS) (a0 a1 : Int) : Option (bS × Int) :=
  bck (bg s0 0 a0 0 = 22) <|
  bte (i32 (b_ishr (bg s0 452 a0 0) 1) ≤ i32 a1)
  (bck (bg s0 0 a0 0 = 22) <|
  bck (bg s0 0 a0 0 = 22) <|
  F_J12_node_r 1 a1 (bg s0 462 a0 0) ((bg s0 452 a0 0) - 1) s0)
  (bck (bg s0 0 a0 0 = 22) <|
  F_J12_node_r 0 a1 (bg s0 458 a0 0) 0 s0)
set_option maxHeartbeats 4000000 in
set_option maxRecDepth 100000 in
set_option synthInstance.maxHeartbeats 4000000 in
theorem w_J12_node_r {Γ0 : bG} {l0 : Launch} {κ : bK} {st' : bS} {v : Int} (hκ : bOk κ Γ0 l0 cJ12_node RJ12 4 0 0) (hi : bIn κ yJ12_node) (hf : bFin κ (some (.object "java/util/LinkedList$Node")) st' (some (2, v))) (b : Nat) (x0 x1 x2 : Int) (s0 : bS) (h : F_J12_node_r b x0 x1 x2 s0 = some (st', v)) : match (generalizing := false) b with | 0 => bJ κ s0 17 [(1, (0, x0)), (2, (2, x1)), (3, (0, x2))] [] | 1 => bJ κ s0 47 [(1, (0, x0)), (2, (2, x1)), (3, (0, x2))] [] | _ => True := by
  refine F_J12_node_r.partial_correctness x0 s0 (fun b x1 x2 r => r = (st', v) → match (generalizing := false) b with | 0 => bJ κ s0 17 [(1, (0, x0)), (2, (2, x1)), (3, (0, x2))] [] | 1 => bJ κ s0 47 [(1, (0, x0)), (2, (2, x1)), (3, (0, x2))] [] | _ => True) ?_ b x1 x2 _ h rfl
  intro f' ih b x1 x2 r h hr
  subst hr
  match b, h with
  | 0, h =>
      refine r_iload_n hκ 2 rfl rfl dJ12_node_17 ?_
      refine r_iload_n hκ 0 rfl rfl dJ12_node_18 ?_
      refine r_icmp_ge hκ (tgt := 33) (by decide) dJ12_node_19 (fun h8 => ?_) (fun h8 => ?_)
      · replace h := (bte_i h).1 h8
        refine r_aload_n hκ 1 rfl rfl dJ12_node_33 ?_
        exact r_aretH hκ hf h rt_o dJ12_node_34
      · replace h := (bte_i h).2 h8
        refine r_aload_n hκ 1 rfl rfl dJ12_node_22 ?_
        obtain ⟨h9, h⟩ := bck_i h
        refine r_get hκ (t := 22) (k := 1) (r := 470) h9 rfl in_J26 (by decide) rfl q2331 (Or.inl rfl) dJ12_node_23 ?_
        refine r_astore_n hκ (L2 := [(2, (2, (bg s0 470 x1 0))), (1, (0, x0)), (3, (0, x2))]) (by decide) rfl rfl dJ12_node_26 ?_
        refine r_iinc hκ (L2 := [(3, (0, (x2 + 1))), (2, (2, (bg s0 470 x1 0))), (1, (0, x0))]) 2 rfl (by decide) rfl dJ12_node_27 ?_
        refine r_goto hκ (tgt := 17) (by decide) dJ12_node_30 ?_
        exact r_sub [2, 1, 0] rfl (ih 0 _ _ _ h rfl)
  | 1, h =>
      refine r_iload_n hκ 2 rfl rfl dJ12_node_47 ?_
      refine r_iload_n hκ 0 rfl rfl dJ12_node_48 ?_
      refine r_icmp_le hκ (tgt := 63) (by decide) dJ12_node_49 (fun h6 => ?_) (fun h6 => ?_)
      · replace h := (bte_i h).1 h6
        refine r_aload_n hκ 1 rfl rfl dJ12_node_63 ?_
        exact r_aretH hκ hf h rt_o dJ12_node_64
      · replace h := (bte_i h).2 h6
        refine r_aload_n hκ 1 rfl rfl dJ12_node_52 ?_
        obtain ⟨h7, h⟩ := bck_i h
        refine r_get hκ (t := 22) (k := 2) (r := 474) h7 rfl in_J26 (by decide) rfl q2334 (Or.inl rfl) dJ12_node_53 ?_
        refine r_astore_n hκ (L2 := [(2, (2, (bg s0 474 x1 0))), (1, (0, x0)), (3, (0, x2))]) (by decide) rfl rfl dJ12_node_56 ?_
        refine r_iinc hκ (L2 := [(3, (0, (x2 + (-1)))), (2, (2, (bg s0 474 x1 0))), (1, (0, x0))]) 2 rfl (by decide) rfl dJ12_node_57 ?_
        refine r_goto hκ (tgt := 47) (by decide) dJ12_node_60 ?_
        exact r_sub [2, 1, 0] rfl (ih 1 _ _ _ h rfl)
  | b + 2, h => trivial
set_option maxHeartbeats 4000000 in
set_option maxRecDepth 100000 in
theorem w_J12_node (Γ0 : bG) (l0 : Launch) {s0 st' : bS} {v a0 a1 : Int} (h : F_J12_node s0 a0 a1 = some (st', v)) : bCt Γ0 l0 yJ12_node cJ12_node 4 (some (.object "java/util/LinkedList$Node")) 0 0 [(2, a0), (0, a1)] s0 st' (some (2, v)) := by
  refine b_ent (own := RJ12) (by decide +kernel) rfl (Nat.le_of_ble_eq_true rfl) (L := [(0, (2, a0)), (1, (0, a1))]) rfl ?_
  intro κ hκ hi hf
  unfold F_J12_node at h
  refine r_iload_n hκ 1 rfl rfl dJ12_node_0 ?_
  refine r_aload_n hκ 0 rfl rfl dJ12_node_1 ?_
  obtain ⟨h1, h⟩ := bck_i h
  refine r_get hκ (t := 21) (k := 1) (r := 452) h1 rfl in_J12 (by decide) rfl q459 (Or.inl rfl) dJ12_node_2 ?_
  refine r_iconst hκ dJ12_node_5 ?_
  refine r_ishr hκ dJ12_node_6 ?_
  refine r_icmp_ge hκ (tgt := 35) (by decide) dJ12_node_7 (fun h2 => ?_) (fun h2 => ?_)
  · replace h := (bte_i h).1 h2
    refine r_aload_n hκ 0 rfl rfl dJ12_node_35 ?_
    obtain ⟨h3, h⟩ := bck_i h
    refine r_get hκ (t := 21) (k := 3) (r := 462) h3 rfl in_J12 (by decide) rfl q462 (Or.inl rfl) dJ12_node_36 ?_
    refine r_astore_n hκ (L2 := [(2, (2, (bg s0 462 a0 0))), (0, (2, a0)), (1, (0, a1))]) (by decide) rfl rfl dJ12_node_39 ?_
    refine r_aload_n hκ 1 rfl rfl dJ12_node_40 ?_
    obtain ⟨h4, h⟩ := bck_i h
    refine r_get hκ (t := 21) (k := 1) (r := 452) h4 rfl in_J12 (by decide) rfl q459 (Or.inl rfl) dJ12_node_41 ?_
    refine r_iconst hκ dJ12_node_44 ?_
    refine r_isub hκ dJ12_node_45 ?_
    refine r_istore_n hκ (L2 := [(3, (0, ((bg s0 452 a0 0) - 1))), (2, (2, (bg s0 462 a0 0))), (0, (2, a0)), (1, (0, a1))]) (by decide) rfl rfl dJ12_node_46 ?_
    exact r_sub [3, 1, 0] rfl (w_J12_node_r hκ hi hf 1 _ _ _ _ h)
  · replace h := (bte_i h).2 h2
    refine r_aload_n hκ 0 rfl rfl dJ12_node_10 ?_
    obtain ⟨h5, h⟩ := bck_i h
    refine r_get hκ (t := 21) (k := 2) (r := 458) h5 rfl in_J12 (by decide) rfl q461 (Or.inl rfl) dJ12_node_11 ?_
    refine r_astore_n hκ (L2 := [(2, (2, (bg s0 458 a0 0))), (0, (2, a0)), (1, (0, a1))]) (by decide) rfl rfl dJ12_node_14 ?_
    refine r_iconst hκ dJ12_node_15 ?_
    refine r_istore_n hκ (L2 := [(3, (0, 0)), (2, (2, (bg s0 458 a0 0))), (0, (2, a0)), (1, (0, a1))]) (by decide) rfl rfl dJ12_node_16 ?_
    exact r_sub [3, 1, 0] rfl (w_J12_node_r hκ hi hf 0 _ _ _ _ h)
/-- java/util/LinkedList.get(I)Ljava/lang/Object; -/
def F_J12_get (s0 : bS) (a0 a1 : Int) : Option (bS × Int) :=
  bck (bg s0 0 a0 0 = 22) <|
  bcl (F_J12_checkElementIndex s0 a0 a1) fun s1 v1 =>
  bck (bg s1 0 a0 0 = 22) <|
  bcl (F_J12_node s1 a0 a1) fun s2 v2 =>
  bck (bg s2 0 v2 0 = 23) <|
  some (s2, (bg s2 466 v2 0))
set_option maxHeartbeats 4000000 in
set_option maxRecDepth 100000 in
theorem w_J12_get (Γ0 : bG) (l0 : Launch) {s0 st' : bS} {v a0 a1 : Int} (h : F_J12_get s0 a0 a1 = some (st', v)) : bCt Γ0 l0 yJ12_get cJ12_get 2 (some (.object "java/lang/Object")) 2 42 [(2, a0), (0, a1)] s0 st' (some (2, v)) := by
  refine b_ent (own := RJ12) (by decide +kernel) rfl (Nat.le_of_ble_eq_true rfl) (L := [(0, (2, a0)), (1, (0, a1))]) rfl ?_
  intro κ hκ hi hf
  unfold F_J12_get at h
  refine r_aload_n hκ 0 rfl rfl dJ12_get_0 ?_
  refine r_iload_n hκ 1 rfl rfl dJ12_get_1 ?_
  obtain ⟨h1, h⟩ := bck_i h
  obtain ⟨s1, v1, h2, h⟩ := bcl_i h
  refine r_callV hκ (n' := 1) (index := 90) (w_J12_checkElementIndex Γ0 l0 h2) (lw_V q1810 q1812 qs26 q144 q1813) (by decide +kernel) (t := 21) h1 rfl rfl (by decide) rfl (Nat.le_of_ble_eq_true rfl) dJ12_get_2 ?_
  refine r_aload_n hκ 0 rfl rfl dJ12_get_5 ?_
  refine r_iload_n hκ 1 rfl rfl dJ12_get_6 ?_
  obtain ⟨h3, h⟩ := bck_i h
  obtain ⟨s2, v2, h4, h⟩ := bcl_i h
  refine r_callV hκ (n' := 1) (index := 86) (w_J12_node Γ0 l0 h4) (lw_V q1865 q1866 q1867 q144 q1868) (by decide +kernel) (t := 21) h3 rfl rfl (by decide) rfl (Nat.le_of_ble_eq_true rfl) dJ12_get_7 ?_
  obtain ⟨h5, h⟩ := bck_i h
  refine r_get hκ (t := 22) (k := 0) (r := 466) h5 rfl in_J26 (by decide) rfl q2328 (Or.inl rfl) dJ12_get_10 ?_
  exact r_aretH hκ hf h rt_o dJ12_get_13
/-- java/lang/StringLatin1.canEncode(C)Z -/
def F_J20_canEncode (s0 : bS) (a0 : Int) : Option (bS × Int) :=
  bte (i32 255 < i32 a0)
  (some (s0, 0))
  (some (s0, 1))
set_option maxHeartbeats 4000000 in
set_option maxRecDepth 100000 in
theorem w_J20_canEncode (Γ0 : bG) (l0 : Launch) {s0 st' : bS} {v a0 : Int} (h : F_J20_canEncode s0 a0 = some (st', v)) : bCt Γ0 l0 yJ20_canEncode cJ20_canEncode 1 (some .boolean) 0 0 [(0, a0)] s0 st' (some (0, v)) := by
  refine b_ent (own := RJ20) (by decide +kernel) rfl (Nat.le_of_ble_eq_true rfl) (L := [(0, (0, a0))]) rfl ?_
  intro κ hκ hi hf
  unfold F_J20_canEncode at h
  refine r_iload_n hκ 0 rfl rfl dJ20_canEncode_0 ?_
  refine r_sipush hκ (by decide) dJ20_canEncode_1 ?_
  refine r_icmp_gt hκ (tgt := 11) (by decide) dJ20_canEncode_4 (fun h1 => ?_) (fun h1 => ?_)
  · replace h := (bte_i h).1 h1
    refine r_iconst hκ dJ20_canEncode_11 ?_
    exact r_iretH hκ hf h (nar_bool (by decide)) dJ20_canEncode_12
  · replace h := (bte_i h).2 h1
    refine r_iconst hκ dJ20_canEncode_7 ?_
    refine r_goto hκ (tgt := 12) (by decide) dJ20_canEncode_8 ?_
    exact r_iretH hκ hf h (nar_bool (by decide)) dJ20_canEncode_12
/-- java/lang/AbstractStringBuilder.append(C)Ljava/lang/AbstractStringBuilder; -/
def F_J0_append_2_r (b : Nat) (x0 x1 : Int) (s0 : bS) : Option (bS × Int) :=
  match b with
  | 0 =>
    bck (bg s0 0 x0 0 = 19) <|
    bcl (F_J0_isLatin1 s0 x0) fun s6 v4 =>
    bte (i32 v4 = 0)
    (F_J0_append_2_r 1 x0 x1 s6)
    (bck (bg s6 0 x0 0 = 19) <|
    bcl (F_J0_inflate s6 x0) fun s7 v5 =>
    F_J0_append_2_r 1 x0 x1 s7)
  | 1 =>
    bck (bg s0 0 x0 0 = 19) <|
    bck (bg s0 0 x0 0 = 19) <|
    bck ((bg s0 0 x0 0 = 19)) <|
    bst (bw s0 420 x0 0 ((bg s0 420 x0 0) + 1)) fun s8 =>
    none
  | _ => none
partial_fixpoint
def F_J0_append_2 (s0 : bS) (a0 a1 : Int) : Option (bS × Int) :=
  bck (bg s0 0 a0 0 = 19) <|
  bck (bg s0 0 a0 0 = 19) <|
  bcl (F_J0_ensureCapacityInternal s0 a0 ((bg s0 420 a0 0) + 1)) fun s1 v1 =>
  bck (bg s1 0 a0 0 = 19) <|
  bcl (F_J0_isLatin1 s1 a0) fun s2 v2 =>
  bte (i32 v2 = 0)
  (F_J0_append_2_r 0 a0 a1 s2)
  (bcl (F_J20_canEncode s2 a1) fun s3 v3 =>
  bte (i32 v3 = 0)
  (F_J0_append_2_r 0 a0 a1 s3)
  (bck (bg s3 0 a0 0 = 19) <|
  bck (bg s3 0 a0 0 = 19) <|
  bck ((bg s3 0 a0 0 = 19)) <|
  bst (bw s3 420 a0 0 ((bg s3 420 a0 0) + 1)) fun s4 =>
  bck ((bg s4 0 (bg s3 410 a0 0) 0 = 1000 ∧ (0 : Int) ≤ (bg s3 420 a0 0) ∧ (bg s3 420 a0 0) < bg s4 4 (bg s3 410 a0 0) 0) ∧ bg s4 1 (-1) 0 ≤ (bg s3 410 a0 0)) <|
  bst (bw s4 8 (bg s3 410 a0 0) (bg s3 420 a0 0) (b_i2b (b_i2b a1))) fun s5 =>
  some (s5, a0)))
set_option maxHeartbeats 4000000 in
set_option maxRecDepth 100000 in
set_option synthInstance.maxHeartbeats 4000000 in
theorem w_J0_append_2_r {Γ0 : bG} {l0 : Launch} {κ : bK} {st' : bS} {v : Int} (hκ : bOk κ Γ0 l0 cJ0_append_2 RJ0 2 4 91) (hi : bIn κ yJ0_append_2) (hf : bFin κ (some (.object "java/lang/AbstractStringBuilder")) st' (some (2, v))) (b : Nat) (x0 x1 : Int) (s0 : bS) (h : F_J0_append_2_r b x0 x1 s0 = some (st', v)) : match (generalizing := false) b with | 0 => bJ κ s0 45 [(0, (2, x0)), (1, (0, x1))] [] | 1 => bJ κ s0 56 [(0, (2, x0)), (1, (0, x1))] [] | _ => True := by
  refine F_J0_append_2_r.partial_correctness x0 x1 (fun b s0 r => r = (st', v) → match (generalizing := false) b with | 0 => bJ κ s0 45 [(0, (2, x0)), (1, (0, x1))] [] | 1 => bJ κ s0 56 [(0, (2, x0)), (1, (0, x1))] [] | _ => True) ?_ b s0 _ h rfl
  intro f' ih b s0 r h hr
  subst hr
  match b, h with
  | 0, h =>
      refine r_aload_n hκ 0 rfl rfl dJ0_append_2_45 ?_
      obtain ⟨h15, h⟩ := bck_i h
      obtain ⟨s6, v4, h16, h⟩ := bcl_i h
      refine r_callU hκ (index := 83) (C := "java/lang/StringBuilder") (owner := "java/lang/AbstractStringBuilder") (n' := 0) (w_J0_isLatin1 Γ0 l0 h16) (fun R s args hts hRR => va_cwU 0 hts (lw_app (lw_l5 q1058 q1060 q1061 q1059 q124) (lw_meth q1062)) rfl rfl rfl rfl (by decide +kernel) hRR) (t := 18) h15 rfl rfl (by decide) rfl (Nat.le_of_ble_eq_true rfl) dJ0_append_2_46 ?_
      refine r_if_eq hκ (tgt := 56) (by decide) dJ0_append_2_49 (fun h17 => ?_) (fun h17 => ?_)
      · replace h := (bte_i h).1 h17
        exact r_sub [0, 1] rfl (ih 1  _ _ h rfl)
      · replace h := (bte_i h).2 h17
        refine r_aload_n hκ 0 rfl rfl dJ0_append_2_52 ?_
        obtain ⟨h18, h⟩ := bck_i h
        obtain ⟨s7, v5, h19, h⟩ := bcl_i h
        refine r_callP hκ (index := 195) (C := "java/lang/StringBuilder") (owner := "java/lang/AbstractStringBuilder") (n' := 0) (w_J0_inflate Γ0 l0 h19) (fun R s args hts hsl hRR => va_cwU 0 (List.forall_mem_cons.mpr ⟨hsl ("java/lang/StringBuilder", ⟨"java/lang/AbstractStringBuilder", "inflate", "()V"⟩) (by decide +kernel), hts⟩) (b_gP rfl q1088 q3590 q1090 q124 (lw_meth q1091)) rfl rfl rfl rfl (by decide +kernel) hRR) (t := 18) h18 rfl rfl (by decide) rfl (Nat.le_of_ble_eq_true rfl) dJ0_append_2_53 ?_
        exact r_sub [0, 1] rfl (ih 1  _ _ h rfl)
  | 1, h =>
      refine r_aload_n hκ 0 rfl rfl dJ0_append_2_56 ?_
      obtain ⟨h20, h⟩ := bck_i h
      refine r_get hκ (t := 18) (k := 0) (r := 410) h20 rfl in_J1 (by decide) rfl q302 (Or.inl rfl) dJ0_append_2_57 ?_
      refine r_aload_n hκ 0 rfl rfl dJ0_append_2_60 ?_
      refine r_dup hκ (bd_cat2k _) dJ0_append_2_61 ?_
      obtain ⟨h21, h⟩ := bck_i h
      refine r_get hκ (t := 18) (k := 3) (r := 420) h21 rfl in_J1 (by decide) rfl q306 (Or.inl rfl) dJ0_append_2_62 ?_
      refine r_dup_x1 hκ (bd_cat0k _) (bd_cat2k _) dJ0_append_2_65 ?_
      refine r_iconst hκ dJ0_append_2_66 ?_
      refine r_iadd hκ dJ0_append_2_67 ?_
      obtain ⟨h22, h⟩ := bck_i h
      refine r_put hκ (t := 18) (k := 3) (r := 420) (ty := .int) tyJ1 tyJ1_ok nmJ1 h22 rfl in_J1 (by decide) rfl q306 (Or.inl rfl) rfl rfl rfl trivial (Or.inl (by decide)) dJ0_append_2_68 (fun s8 es8 => ?_)
      replace h := bst_i h s8 es8
      refine r_iload_n hκ 1 rfl rfl dJ0_append_2_71 ?_
      cases h
  | b + 2, h => trivial
set_option maxHeartbeats 4000000 in
set_option maxRecDepth 100000 in
theorem w_J0_append_2 (Γ0 : bG) (l0 : Launch) {s0 st' : bS} {v a0 a1 : Int} (h : F_J0_append_2 s0 a0 a1 = some (st', v)) : bCt Γ0 l0 yJ0_append_2 cJ0_append_2 2 (some (.object "java/lang/AbstractStringBuilder")) 4 91 [(2, a0), (0, a1)] s0 st' (some (2, v)) := by
  refine b_ent (own := RJ0) (by decide +kernel) rfl (Nat.le_of_ble_eq_true rfl) (L := [(0, (2, a0)), (1, (0, a1))]) rfl ?_
  intro κ hκ hi hf
  unfold F_J0_append_2 at h
  refine r_aload_n hκ 0 rfl rfl dJ0_append_2_0 ?_
  refine r_aload_n hκ 0 rfl rfl dJ0_append_2_1 ?_
  obtain ⟨h1, h⟩ := bck_i h
  refine r_get hκ (t := 18) (k := 3) (r := 420) h1 rfl in_J1 (by decide) rfl q306 (Or.inl rfl) dJ0_append_2_2 ?_
  refine r_iconst hκ dJ0_append_2_5 ?_
  refine r_iadd hκ dJ0_append_2_6 ?_
  obtain ⟨h2, h⟩ := bck_i h
  obtain ⟨s1, v1, h3, h⟩ := bcl_i h
  refine r_callP hκ (index := 100) (C := "java/lang/StringBuilder") (owner := "java/lang/AbstractStringBuilder") (n' := 1) (w_J0_ensureCapacityInternal Γ0 l0 h3) (fun R s args hts hsl hRR => va_cwU 1 (List.forall_mem_cons.mpr ⟨hsl ("java/lang/StringBuilder", ⟨"java/lang/AbstractStringBuilder", "ensureCapacityInternal", "(I)V"⟩) (by decide +kernel), hts⟩) (b_gP rfl q1025 q3586 q1027 q124 (lw_meth q1028)) rfl rfl rfl rfl (by decide +kernel) hRR) (t := 18) h2 rfl rfl (by decide) rfl (Nat.le_of_ble_eq_true rfl) dJ0_append_2_7 ?_
  refine r_aload_n hκ 0 rfl rfl dJ0_append_2_10 ?_
  obtain ⟨h4, h⟩ := bck_i h
  obtain ⟨s2, v2, h5, h⟩ := bcl_i h
  refine r_callU hκ (index := 83) (C := "java/lang/StringBuilder") (owner := "java/lang/AbstractStringBuilder") (n' := 0) (w_J0_isLatin1 Γ0 l0 h5) (fun R s args hts hRR => va_cwU 0 hts (lw_app (lw_l5 q1058 q1060 q1061 q1059 q124) (lw_meth q1062)) rfl rfl rfl rfl (by decide +kernel) hRR) (t := 18) h4 rfl rfl (by decide) rfl (Nat.le_of_ble_eq_true rfl) dJ0_append_2_11 ?_
  refine r_if_eq hκ (tgt := 45) (by decide) dJ0_append_2_14 (fun h6 => ?_) (fun h6 => ?_)
  · replace h := (bte_i h).1 h6
    exact r_sub [0, 1] rfl (w_J0_append_2_r hκ hi hf 0 _ _ _ h)
  · replace h := (bte_i h).2 h6
    refine r_iload_n hκ 1 rfl rfl dJ0_append_2_17 ?_
    obtain ⟨s3, v3, h7, h⟩ := bcl_i h
    refine r_callS hκ (n' := 1) (index := 191) (w_J20_canEncode Γ0 l0 h7) (lw_S q1120 q1121 q156 q1122) (by decide +kernel) rfl (by decide) rfl (Nat.le_of_ble_eq_true rfl) dJ0_append_2_18 ?_
    refine r_if_eq hκ (tgt := 45) (by decide) dJ0_append_2_21 (fun h8 => ?_) (fun h8 => ?_)
    · replace h := (bte_i h).1 h8
      exact r_sub [0, 1] rfl (w_J0_append_2_r hκ hi hf 0 _ _ _ h)
    · replace h := (bte_i h).2 h8
      refine r_aload_n hκ 0 rfl rfl dJ0_append_2_24 ?_
      obtain ⟨h9, h⟩ := bck_i h
      refine r_get hκ (t := 18) (k := 0) (r := 410) h9 rfl in_J1 (by decide) rfl q302 (Or.inl rfl) dJ0_append_2_25 ?_
      refine r_aload_n hκ 0 rfl rfl dJ0_append_2_28 ?_
      refine r_dup hκ (bd_cat2k _) dJ0_append_2_29 ?_
      obtain ⟨h10, h⟩ := bck_i h
      refine r_get hκ (t := 18) (k := 3) (r := 420) h10 rfl in_J1 (by decide) rfl q306 (Or.inl rfl) dJ0_append_2_30 ?_
      refine r_dup_x1 hκ (bd_cat0k _) (bd_cat2k _) dJ0_append_2_33 ?_
      refine r_iconst hκ dJ0_append_2_34 ?_
      refine r_iadd hκ dJ0_append_2_35 ?_
      obtain ⟨h11, h⟩ := bck_i h
      refine r_put hκ (t := 18) (k := 3) (r := 420) (ty := .int) tyJ1 tyJ1_ok nmJ1 h11 rfl in_J1 (by decide) rfl q306 (Or.inl rfl) rfl rfl rfl trivial (Or.inl (by decide)) dJ0_append_2_36 (fun s4 es4 => ?_)
      replace h := bst_i h s4 es4
      refine r_iload_n hκ 1 rfl rfl dJ0_append_2_39 ?_
      refine r_i2b hκ dJ0_append_2_40 ?_
      obtain ⟨⟨⟨h12, h13⟩, h14⟩, h⟩ := bck_i h
      refine r_bast hκ h12 h13 h14 dJ0_append_2_41 (fun s5 es5 => ?_)
      replace h := bst_i h s5 es5
      refine r_goto hκ (tgt := 75) (by decide) dJ0_append_2_42 ?_
      refine r_aload_n hκ 0 rfl rfl dJ0_append_2_75 ?_
      exact r_aretH hκ hf h rt_o dJ0_append_2_76
/-- java/lang/StringBuilder.append(C)Ljava/lang/StringBuilder; -/
def F_J1_append_2 (s0 : bS) (a0 a1 : Int) : Option (bS × Int) :=
  bck (bg s0 0 a0 0 = 19) <|
  bcl (F_J0_append_2 s0 a0 a1) fun s1 v1 =>
  some (s1, a0)
set_option maxHeartbeats 4000000 in
set_option maxRecDepth 100000 in
theorem w_J1_append_2 (Γ0 : bG) (l0 : Launch) {s0 st' : bS} {v a0 a1 : Int} (h : F_J1_append_2 s0 a0 a1 = some (st', v)) : bCt Γ0 l0 yJ1_append_2 cJ1_append_2 2 (some (.object "java/lang/StringBuilder")) 5 112 [(2, a0), (0, a1)] s0 st' (some (2, v)) := by
  refine b_ent (own := RJ1) (by decide +kernel) rfl (Nat.le_of_ble_eq_true rfl) (L := [(0, (2, a0)), (1, (0, a1))]) rfl ?_
  intro κ hκ hi hf
  unfold F_J1_append_2 at h
  refine r_aload_n hκ 0 rfl rfl dJ1_append_2_0 ?_
  refine r_iload_n hκ 1 rfl rfl dJ1_append_2_1 ?_
  obtain ⟨h1, h⟩ := bck_i h
  obtain ⟨s1, v1, h2, h⟩ := bcl_i h
  refine r_callSU hκ (n' := 1) (index := 50) (w_J0_append_2 Γ0 l0 h2) (lw_app (lw_l5 q1117 q3591 q315 q1118 q124) (lw_meth q1119)) (by decide +kernel) (t := 18) h1 rfl rfl (by decide) rfl (Nat.le_of_ble_eq_true rfl) dJ1_append_2_2 ?_
  refine r_pop hκ (bd_cat2k _) dJ1_append_2_5 ?_
  refine r_aload_n hκ 0 rfl rfl dJ1_append_2_6 ?_
  exact r_aretH hκ hf h rt_o dJ1_append_2_7
/-- java/lang/AbstractStringBuilder.charAt(I)C -/
def F_J0_charAt (s0 : bS) (a0 a1 : Int) : Option (bS × Int) :=
  bck (bg s0 0 a0 0 = 19) <|
  bck (bg s0 0 a0 0 = 19) <|
  bck (bg s0 0 a0 0 = 19) <|
  bck (bg s0 0 (bg s0 410 a0 0) 0 = 1000) <|
  bvl ((b_min (bg s0 420 a0 0) (b_ishr (bg s0 4 (bg s0 410 a0 0) 0) (bg s0 412 a0 0)))) fun t1 =>
  bcl (F_J2_checkIndex s0 a1 t1) fun s1 v1 =>
  bte (i32 (bg s0 412 a0 0) = 0)
  (bck (bg s1 0 (bg s0 410 a0 0) 0 = 1000 ∧ (0 : Int) ≤ a1 ∧ a1 < bg s1 4 (bg s0 410 a0 0) 0) <|
  bck (0 ≤ ((b_i2c (b_iand (bg s1 8 (bg s0 410 a0 0) a1) 255)) : Int) ∧ ((b_i2c (b_iand (bg s1 8 (bg s0 410 a0 0) a1) 255)) : Int) < 65536) <|
  some (s1, (b_i2c (b_iand (bg s1 8 (bg s0 410 a0 0) a1) 255))))
  (none)
set_option maxHeartbeats 4000000 in
set_option maxRecDepth 100000 in
theorem w_J0_charAt (Γ0 : bG) (l0 : Launch) {s0 st' : bS} {v a0 a1 : Int} (h : F_J0_charAt s0 a0 a1 = some (st', v)) : bCt Γ0 l0 yJ0_charAt cJ0_charAt 5 (some .char) 2 43 [(2, a0), (0, a1)] s0 st' (some (0, v)) := by
  refine b_ent (own := RJ0) (by decide +kernel) rfl (Nat.le_of_ble_eq_true rfl) (L := [(0, (2, a0)), (1, (0, a1))]) rfl ?_
  intro κ hκ hi hf
  unfold F_J0_charAt at h
  refine r_aload_n hκ 0 rfl rfl dJ0_charAt_0 ?_
  obtain ⟨h1, h⟩ := bck_i h
  refine r_get hκ (t := 18) (k := 1) (r := 412) h1 rfl in_J1 (by decide) rfl q303 (Or.inl rfl) dJ0_charAt_1 ?_
  refine r_istore_n hκ (L2 := [(2, (0, (bg s0 412 a0 0))), (0, (2, a0)), (1, (0, a1))]) (by decide) rfl rfl dJ0_charAt_4 ?_
  refine r_aload_n hκ 1 rfl rfl dJ0_charAt_5 ?_
  obtain ⟨h2, h⟩ := bck_i h
  refine r_get hκ (t := 18) (k := 0) (r := 410) h2 rfl in_J1 (by decide) rfl q302 (Or.inl rfl) dJ0_charAt_6 ?_
  refine r_astore_n hκ (L2 := [(3, (2, (bg s0 410 a0 0))), (2, (0, (bg s0 412 a0 0))), (0, (2, a0)), (1, (0, a1))]) (by decide) rfl rfl dJ0_charAt_9 ?_
  refine r_aload_n hκ 2 rfl rfl dJ0_charAt_10 ?_
  obtain ⟨h3, h⟩ := bck_i h
  refine r_get hκ (t := 18) (k := 3) (r := 420) h3 rfl in_J1 (by decide) rfl q306 (Or.inl rfl) dJ0_charAt_11 ?_
  refine r_aload_n hκ 0 rfl rfl dJ0_charAt_14 ?_
  obtain ⟨h4, h⟩ := bck_i h
  refine r_alen hκ (t := 0) h4 rfl dJ0_charAt_15 ?_
  refine r_iload_n hκ 1 rfl rfl dJ0_charAt_16 ?_
  refine r_ishr hκ dJ0_charAt_17 ?_
  refine r_mmin hκ q2040 q1055 q161 q1056 (by decide) (Nat.le_of_ble_eq_true rfl) dJ0_charAt_18 ?_
  refine r_nm (fun t1 et1 => ?_)
  replace h := bvl_i h t1 et1
  refine r_istore hκ (L2 := [(4, (0, t1)), (3, (2, (bg s0 410 a0 0))), (2, (0, (bg s0 412 a0 0))), (0, (2, a0)), (1, (0, a1))]) (by decide) rfl dJ0_charAt_21 ?_
  refine r_iload_n hκ 4 rfl rfl dJ0_charAt_23 ?_
  refine r_iload hκ 0 rfl dJ0_charAt_24 ?_
  obtain ⟨s1, v1, h5, h⟩ := bcl_i h
  refine r_callS hκ (n' := 2) (index := 144) (w_J2_checkIndex Γ0 l0 h5) (lw_S q2041 q903 q126 q904) (by decide +kernel) rfl (by decide) rfl (Nat.le_of_ble_eq_true rfl) dJ0_charAt_26 ?_
  refine r_iload_n hκ 2 rfl rfl dJ0_charAt_29 ?_
  refine r_if_ne hκ (tgt := 42) (by decide) dJ0_charAt_30 (fun h6 => ?_) (fun h6 => ?_)
  · replace h := (bte_i h).2 h6
    refine r_aload_n hκ 1 rfl rfl dJ0_charAt_42 ?_
    refine r_iload_n hκ 4 rfl rfl dJ0_charAt_43 ?_
    cases h
  · replace h := (bte_i h).1 h6
    refine r_aload_n hκ 1 rfl rfl dJ0_charAt_33 ?_
    refine r_iload_n hκ 4 rfl rfl dJ0_charAt_34 ?_
    obtain ⟨⟨h7, h8⟩, h⟩ := bck_i h
    refine r_bald hκ h7 h8 dJ0_charAt_35 ?_
    refine r_sipush hκ (by decide) dJ0_charAt_36 ?_
    refine r_iand hκ dJ0_charAt_39 ?_
    refine r_i2c hκ dJ0_charAt_40 ?_
    obtain ⟨h9, h⟩ := bck_i h
    exact r_iretH hκ hf h (nar_char h9) dJ0_charAt_41
/-- java/lang/StringBuilder.charAt(I)C -/
def F_J1_charAt (s0 : bS) (a0 a1 : Int) : Option (bS × Int) :=
  bck (bg s0 0 a0 0 = 19) <|
  bcl (F_J0_charAt s0 a0 a1) fun s1 v1 =>
  bck (0 ≤ (v1 : Int) ∧ (v1 : Int) < 65536) <|
  some (s1, v1)
set_option maxHeartbeats 4000000 in
set_option maxRecDepth 100000 in
theorem w_J1_charAt (Γ0 : bG) (l0 : Launch) {s0 st' : bS} {v a0 a1 : Int} (h : F_J1_charAt s0 a0 a1 = some (st', v)) : bCt Γ0 l0 yJ1_charAt cJ1_charAt 2 (some .char) 3 67 [(2, a0), (0, a1)] s0 st' (some (0, v)) := by
  refine b_ent (own := RJ1) (by decide +kernel) rfl (Nat.le_of_ble_eq_true rfl) (L := [(0, (2, a0)), (1, (0, a1))]) rfl ?_
  intro κ hκ hi hf
  unfold F_J1_charAt at h
  refine r_aload_n hκ 0 rfl rfl dJ1_charAt_0 ?_
  refine r_iload_n hκ 1 rfl rfl dJ1_charAt_1 ?_
  obtain ⟨h1, h⟩ := bck_i h
  obtain ⟨s1, v1, h2, h⟩ := bcl_i h
  refine r_callSU hκ (n' := 1) (index := 329) (w_J0_charAt Γ0 l0 h2) (lw_app (lw_l5 q2037 q3599 q315 q2038 q124) (lw_meth q2039)) (by decide +kernel) (t := 18) h1 rfl rfl (by decide) rfl (Nat.le_of_ble_eq_true rfl) dJ1_charAt_2 ?_
  obtain ⟨h3, h⟩ := bck_i h
  exact r_iretH hκ hf h (nar_char h3) dJ1_charAt_5
/-- java/util/ArrayList.clear()V -/
def F_J10_clear_r (b : Nat) (x0 x1 x2 : Int) (s0 : bS) : Option (bS × Int) :=
  match b with
  | 0 =>
    bte (i32 x1 ≤ i32 x2)
    (some (s0, 0))
    (bck ((bg s0 0 x0 0 = 1006 ∧ (0 : Int) ≤ x2 ∧ x2 < bg s0 4 x0 0) ∧ ((-1) < 0 ∨ bg s0 0 (-1) 0 = 1 ∨ bg s0 0 (-1) 0 = 2 ∨ bg s0 0 (-1) 0 = 3 ∨ bg s0 0 (-1) 0 = 4 ∨ bg s0 0 (-1) 0 = 5 ∨ bg s0 0 (-1) 0 = 6 ∨ bg s0 0 (-1) 0 = 7 ∨ bg s0 0 (-1) 0 = 8 ∨ bg s0 0 (-1) 0 = 9 ∨ bg s0 0 (-1) 0 = 10 ∨ bg s0 0 (-1) 0 = 11 ∨ bg s0 0 (-1) 0 = 12 ∨ bg s0 0 (-1) 0 = 13 ∨ bg s0 0 (-1) 0 = 14 ∨ bg s0 0 (-1) 0 = 15 ∨ bg s0 0 (-1) 0 = 16 ∨ bg s0 0 (-1) 0 = 17 ∨ bg s0 0 (-1) 0 = 18 ∨ bg s0 0 (-1) 0 = 19 ∨ bg s0 0 (-1) 0 = 20 ∨ bg s0 0 (-1) 0 = 21 ∨ bg s0 0 (-1) 0 = 22 ∨ bg s0 0 (-1) 0 = 23 ∨ bg s0 0 (-1) 0 = 24 ∨ bg s0 0 (-1) 0 = 25) ∧ bg s0 1 (-1) 0 ≤ x0) <|
    bst (bw s0 10 x0 x2 (-1)) fun s3 =>
    F_J10_clear_r 0 x0 x1 (x2 + 1) s3)
  | _ => none
partial_fixpoint
def F_J10_clear (s0 : bS) (a0 : Int) : Option (bS × Int) :=
  bck (bg s0 0 a0 0 = 21) <|
  bck ((bg s0 0 a0 0 = 21)) <|
  bst (bw s0 440 a0 0 ((bg s0 440 a0 0) + 1)) fun s1 =>
  bck (bg s1 0 a0 0 = 21) <|
  bck (bg s1 0 a0 0 = 21) <|
  bck ((bg s1 0 a0 0 = 21)) <|
  bst (bw s1 448 a0 0 0) fun s2 =>
  F_J10_clear_r 0 (bg s1 446 a0 0) (bg s1 448 a0 0) 0 s2
set_option maxHeartbeats 4000000 in
set_option maxRecDepth 100000 in
set_option synthInstance.maxHeartbeats 4000000 in
theorem w_J10_clear_r {Γ0 : bG} {l0 : Launch} {κ : bK} {st' : bS} {v : Int} (hκ : bOk κ Γ0 l0 cJ10_clear RJ10 4 0 0) (hi : bIn κ yJ10_clear) (hf : bFin κ none st' none) (b : Nat) (x0 x1 x2 : Int) (s0 : bS) (h : F_J10_clear_r b x0 x1 x2 s0 = some (st', v)) : match (generalizing := false) b with | 0 => bJ κ s0 27 [(1, (2, x0)), (2, (0, x1)), (3, (0, x2))] [] | _ => True := by
  refine F_J10_clear_r.partial_correctness x0 x1 (fun b x2 s0 r => r = (st', v) → match (generalizing := false) b with | 0 => bJ κ s0 27 [(1, (2, x0)), (2, (0, x1)), (3, (0, x2))] [] | _ => True) ?_ b x2 s0 _ h rfl
  intro f' ih b x2 s0 r h hr
  subst hr
  match b, h with
  | 0, h =>
      refine r_iload_n hκ 2 rfl rfl dJ10_clear_27 ?_
      refine r_iload_n hκ 1 rfl rfl dJ10_clear_28 ?_
      refine r_icmp_ge hκ (tgt := 42) (by decide) dJ10_clear_29 (fun h6 => ?_) (fun h6 => ?_)
      · replace h := (bte_i h).1 h6
        exact r_vretH hκ hf h dJ10_clear_42
      · replace h := (bte_i h).2 h6
        refine r_aload_n hκ 0 rfl rfl dJ10_clear_32 ?_
        refine r_iload_n hκ 2 rfl rfl dJ10_clear_33 ?_
        refine r_null hκ dJ10_clear_34 ?_
        obtain ⟨⟨⟨h7, h8⟩, h9, h10⟩, h⟩ := bck_i h
        refine r_aast hκ (t := 6) rfl (by decide) (Or.inr h10) h7 h8 (Or.elim h9 (fun h9 => Or.inl h9) (fun h9 => Or.elim h9 (fun h9 => Or.inr ⟨0, _, h9, rfl, Or.inr (by decide +kernel)⟩) (fun h9 => Or.elim h9 (fun h9 => Or.inr ⟨1, _, h9, rfl, Or.inr (by decide +kernel)⟩) (fun h9 => Or.elim h9 (fun h9 => Or.inr ⟨2, _, h9, rfl, Or.inr (by decide +kernel)⟩) (fun h9 => Or.elim h9 (fun h9 => Or.inr ⟨3, _, h9, rfl, Or.inr (by decide +kernel)⟩) (fun h9 => Or.elim h9 (fun h9 => Or.inr ⟨4, _, h9, rfl, Or.inr (by decide +kernel)⟩) (fun h9 => Or.elim h9 (fun h9 => Or.inr ⟨5, _, h9, rfl, Or.inr (by decide +kernel)⟩) (fun h9 => Or.elim h9 (fun h9 => Or.inr ⟨6, _, h9, rfl, Or.inr (by decide +kernel)⟩) (fun h9 => Or.elim h9 (fun h9 => Or.inr ⟨7, _, h9, rfl, Or.inr (by decide +kernel)⟩) (fun h9 => Or.elim h9 (fun h9 => Or.inr ⟨8, _, h9, rfl, Or.inr (by decide +kernel)⟩) (fun h9 => Or.elim h9 (fun h9 => Or.inr ⟨9, _, h9, rfl, Or.inr (by decide +kernel)⟩) (fun h9 => Or.elim h9 (fun h9 => Or.inr ⟨10, _, h9, rfl, Or.inr (by decide +kernel)⟩) (fun h9 => Or.elim h9 (fun h9 => Or.inr ⟨11, _, h9, rfl, Or.inr (by decide +kernel)⟩) (fun h9 => Or.elim h9 (fun h9 => Or.inr ⟨12, _, h9, rfl, Or.inr (by decide +kernel)⟩) (fun h9 => Or.elim h9 (fun h9 => Or.inr ⟨13, _, h9, rfl, Or.inr (by decide +kernel)⟩) (fun h9 => Or.elim h9 (fun h9 => Or.inr ⟨14, _, h9, rfl, Or.inr (by decide +kernel)⟩) (fun h9 => Or.elim h9 (fun h9 => Or.inr ⟨15, _, h9, rfl, Or.inr (by decide +kernel)⟩) (fun h9 => Or.elim h9 (fun h9 => Or.inr ⟨16, _, h9, rfl, Or.inr (by decide +kernel)⟩) (fun h9 => Or.elim h9 (fun h9 => Or.inr ⟨17, _, h9, rfl, Or.inr (by decide +kernel)⟩) (fun h9 => Or.elim h9 (fun h9 => Or.inr ⟨18, _, h9, rfl, Or.inr (by decide +kernel)⟩) (fun h9 => Or.elim h9 (fun h9 => Or.inr ⟨19, _, h9, rfl, Or.inr (by decide +kernel)⟩) (fun h9 => Or.elim h9 (fun h9 => Or.inr ⟨20, _, h9, rfl, Or.inr (by decide +kernel)⟩) (fun h9 => Or.elim h9 (fun h9 => Or.inr ⟨21, _, h9, rfl, Or.inr (by decide +kernel)⟩) (fun h9 => Or.elim h9 (fun h9 => Or.inr ⟨22, _, h9, rfl, Or.inr (by decide +kernel)⟩) (fun h9 => Or.elim h9 (fun h9 => Or.inr ⟨23, _, h9, rfl, Or.inr (by decide +kernel)⟩) (fun h9 => Or.inr ⟨24, _, h9, rfl, Or.inr (by decide +kernel)⟩)))))))))))))))))))))))))) dJ10_clear_35 (fun s3 es3 => ?_)
        replace h := bst_i h s3 es3
        refine r_iinc hκ (L2 := [(3, (0, (x2 + 1))), (1, (2, x0)), (2, (0, x1))]) 2 rfl (by decide) rfl dJ10_clear_36 ?_
        refine r_goto hκ (tgt := 27) (by decide) dJ10_clear_39 ?_
        exact r_sub [1, 2, 0] rfl (ih 0 _ _ _ h rfl)
  | b + 1, h => trivial
set_option maxHeartbeats 4000000 in
set_option maxRecDepth 100000 in
theorem w_J10_clear (Γ0 : bG) (l0 : Launch) {s0 st' : bS} {v a0 : Int} (h : F_J10_clear s0 a0 = some (st', v)) : bCt Γ0 l0 yJ10_clear cJ10_clear 4 none 0 0 [(2, a0)] s0 st' none := by
  refine b_ent (own := RJ10) (by decide +kernel) rfl (Nat.le_of_ble_eq_true rfl) (L := [(0, (2, a0))]) rfl ?_
  intro κ hκ hi hf
  unfold F_J10_clear at h
  refine r_aload_n hκ 0 rfl rfl dJ10_clear_0 ?_
  refine r_dup hκ (bd_cat2k _) dJ10_clear_1 ?_
  obtain ⟨h1, h⟩ := bck_i h
  refine r_get hκ (t := 20) (k := 0) (r := 440) h1 rfl in_J10 (by decide) rfl q348 (Or.inr q345) dJ10_clear_2 ?_
  refine r_iconst hκ dJ10_clear_5 ?_
  refine r_iadd hκ dJ10_clear_6 ?_
  obtain ⟨h2, h⟩ := bck_i h
  refine r_put hκ (t := 20) (k := 0) (r := 440) (ty := .int) tyJ10 tyJ10_ok nmJ10 h2 rfl in_J10 (by decide) rfl q348 (Or.inr q345) rfl rfl rfl trivial (Or.inl (by decide)) dJ10_clear_7 (fun s1 es1 => ?_)
  replace h := bst_i h s1 es1
  refine r_aload_n hκ 0 rfl rfl dJ10_clear_10 ?_
  obtain ⟨h3, h⟩ := bck_i h
  refine r_get hκ (t := 20) (k := 1) (r := 446) h3 rfl in_J10 (by decide) rfl q337 (Or.inl rfl) dJ10_clear_11 ?_
  refine r_astore_n hκ (L2 := [(1, (2, (bg s1 446 a0 0))), (0, (2, a0))]) (by decide) rfl rfl dJ10_clear_14 ?_
  refine r_aload_n hκ 1 rfl rfl dJ10_clear_15 ?_
  obtain ⟨h4, h⟩ := bck_i h
  refine r_get hκ (t := 20) (k := 2) (r := 448) h4 rfl in_J10 (by decide) rfl q340 (Or.inl rfl) dJ10_clear_16 ?_
  refine r_istore_n hκ (L2 := [(2, (0, (bg s1 448 a0 0))), (1, (2, (bg s1 446 a0 0))), (0, (2, a0))]) (by decide) rfl rfl dJ10_clear_19 ?_
  refine r_aload_n hκ 2 rfl rfl dJ10_clear_20 ?_
  refine r_iconst hκ dJ10_clear_21 ?_
  refine r_dup_x1 hκ (bd_cat0k _) (bd_cat2k _) dJ10_clear_22 ?_
  obtain ⟨h5, h⟩ := bck_i h
  refine r_put hκ (t := 20) (k := 2) (r := 448) (ty := .int) tyJ10 tyJ10_ok nmJ10 h5 rfl in_J10 (by decide) rfl q340 (Or.inl rfl) rfl rfl rfl trivial (Or.inl (by decide)) dJ10_clear_23 (fun s2 es2 => ?_)
  replace h := bst_i h s2 es2
  refine r_istore_n hκ (L2 := [(3, (0, 0)), (2, (0, (bg s1 448 a0 0))), (1, (2, (bg s1 446 a0 0))), (0, (2, a0))]) (by decide) rfl rfl dJ10_clear_26 ?_
  exact r_sub [2, 1, 0] rfl (w_J10_clear_r hκ hi hf 0 _ _ _ _ h)
