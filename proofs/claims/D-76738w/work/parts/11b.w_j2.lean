/-! walks, printed by dec.py: 11b.w_j2 -/
/-- java/util/Arrays.copyOf([Ljava/lang/Object;ILjava/lang/Class;)[Ljava/lang/Object; -/
def F_J24_copyOf_3_r (b : Nat) (x0 x1 x2 : Int) (s0 : bS) : Option (bS × Int) :=
  match b with
  | 0 =>
    bck (bg s0 0 x0 0 = 1006) <|
    bck ((bg s0 0 x0 0 = 1006 ∧ bg s0 0 x2 0 = 1006) ∧ ((0 : Int) ≤ 0 ∧ (0 : Int) ≤ 0 ∧ (0 : Int) ≤ (b_min (bg s0 4 x0 0) x1)) ∧ (0 + (b_min (bg s0 4 x0 0) x1) ≤ bg s0 4 x0 0 ∧ 0 + (b_min (bg s0 4 x0 0) x1) ≤ bg s0 4 x2 0) ∧ bg s0 1 (-1) 0 ≤ x2 ∧ (∀ j9 : Nat, j9 < ((b_min (bg s0 4 x0 0) x1) : Int).toNat → bob s0 (bg s0 10 x0 (0 + j9)))) <|
    bst (bcp s0 10 x0 0 x2 0 (b_min (bg s0 4 x0 0) x1)) fun s2 =>
    some (s2, x2)
  | _ => none
def F_J24_copyOf_3 (s0 : bS) (a0 a1 a2 : Int) : Option (bS × Int) :=
  bte (bReq a2 (bg s0 1 (-(2 + 20)) 0))
  (bck (((0 : Int) ≤ a1 ∧ (a1 : Int) ≤ 67108864) ∧ bc s0 + 1 ≤ bCM ∧ bk s0 + (a1 : Int).toNat ≤ bKM) <|
  bst (bnw s0 1006 a1 (a1 : Int).toNat) fun s1 =>
  F_J24_copyOf_3_r 0 a0 a1 (bnx s0 : Int) s1)
  (none)
set_option maxHeartbeats 4000000 in
set_option maxRecDepth 100000 in
set_option synthInstance.maxHeartbeats 4000000 in
theorem w_J24_copyOf_3_r {Γ0 : bG} {l0 : Launch} {κ : bK} {st' : bS} {v : Int} (hκ : bOk κ Γ0 l0 cJ24_copyOf_3 RJ24 4 1 40) (hi : bIn κ yJ24_copyOf_3) (hf : bFin κ (some (.array (.object "java/lang/Object"))) st' (some (2, v))) (b : Nat) (x0 x1 x2 : Int) (s0 : bS) (h : F_J24_copyOf_3_r b x0 x1 x2 s0 = some (st', v)) : match (generalizing := false) b with | 0 => bJ κ s0 24 [(0, (2, x0)), (1, (0, x1))] [(2, x2)] | _ => True := by
  unfold F_J24_copyOf_3_r at h
  match b, h with
  | 0, h =>
      refine r_astore_n hκ (L2 := [(3, (2, x2)), (0, (2, x0)), (1, (0, x1))]) (by decide) rfl rfl dJ24_copyOf_3_24 ?_
      refine r_aload_n hκ 1 rfl rfl dJ24_copyOf_3_25 ?_
      refine r_iconst hκ dJ24_copyOf_3_26 ?_
      refine r_aload_n hκ 0 rfl rfl dJ24_copyOf_3_27 ?_
      refine r_iconst hκ dJ24_copyOf_3_28 ?_
      refine r_aload_n hκ 1 rfl rfl dJ24_copyOf_3_29 ?_
      obtain ⟨h4, h⟩ := bck_i h
      refine r_alen hκ (t := 6) h4 rfl dJ24_copyOf_3_30 ?_
      refine r_iload_n hκ 2 rfl rfl dJ24_copyOf_3_31 ?_
      refine r_mmin hκ q1054 q1055 q161 q1056 (by decide) (Nat.le_of_ble_eq_true rfl) dJ24_copyOf_3_32 ?_
      obtain ⟨⟨⟨h5, h6⟩, ⟨h7, h8, h9⟩, ⟨h10, h11⟩, h12, h13⟩, h⟩ := bck_i h
      refine r_acopy hκ (t := 6) (er := 10) h5 h6 (Or.inr rfl) rfl h7 h8 h9 h10 h11 h12 (fun _ => bob_all h13) q1057 q743 q742 q152 (by decide) (Nat.le_of_ble_eq_true rfl) dJ24_copyOf_3_35 (fun s2 es2 => ?_)
      replace h := bst_i h s2 es2
      refine r_aload_n hκ 0 rfl rfl dJ24_copyOf_3_38 ?_
      exact r_aretH hκ hf h rt_a dJ24_copyOf_3_39
  | b + 1, h => trivial
set_option maxHeartbeats 4000000 in
set_option maxRecDepth 100000 in
theorem w_J24_copyOf_3 (Γ0 : bG) (l0 : Launch) {s0 st' : bS} {v a0 a1 a2 : Int} (h : F_J24_copyOf_3 s0 a0 a1 a2 = some (st', v)) : bCt Γ0 l0 yJ24_copyOf_3 cJ24_copyOf_3 4 (some (.array (.object "java/lang/Object"))) 1 40 [(2, a0), (0, a1), (2, a2)] s0 st' (some (2, v)) := by
  refine b_ent (own := RJ24) (by decide +kernel) rfl (Nat.le_of_ble_eq_true rfl) (L := [(0, (2, a0)), (1, (0, a1)), (2, (2, a2))]) rfl ?_
  intro κ hκ hi hf
  unfold F_J24_copyOf_3 at h
  refine r_aload_n hκ 2 rfl rfl dJ24_copyOf_3_0 ?_
  refine r_ldcM hκ q1482 dJ24_copyOf_3_1 ?_
  refine r_acmp_ne hκ (tgt := 13) (by decide) dJ24_copyOf_3_3 (fun h1 => ?_) (fun h1 => ?_)
  · replace h := (bte_i h).2 h1
    refine r_aload_n hκ 2 rfl rfl dJ24_copyOf_3_13 ?_
    cases h
  · replace h := (bte_i h).1 h1
    refine r_iload_n hκ 1 rfl rfl dJ24_copyOf_3_6 ?_
    obtain ⟨⟨h2, h3⟩, h⟩ := bck_i h
    refine r_anew hκ (t := 6) q1483 (by decide +kernel) rfl (by decide) h2 h3 dJ24_copyOf_3_7 (fun s1 es1 => ?_)
    replace h := bst_i h s1 es1
    refine r_goto hκ (tgt := 24) (by decide) dJ24_copyOf_3_10 ?_
    exact r_sub [0, 1] rfl (w_J24_copyOf_3_r hκ hi hf 0 _ _ _ _ h)
/-- java/util/Arrays.copyOf([Ljava/lang/Object;I)[Ljava/lang/Object; -/
def F_J24_copyOf_2 (s0 : bS) (a0 a1 : Int) : Option (bS × Int) :=
  bck (bg s0 0 a0 0 = 1006) <|
  bcl (F_J24_copyOf_3 s0 a0 a1 (bg s0 1 (-(2 + 20)) 0)) fun s1 v1 =>
  some (s1, v1)
set_option maxHeartbeats 4000000 in
set_option maxRecDepth 100000 in
theorem w_J24_copyOf_2 (Γ0 : bG) (l0 : Launch) {s0 st' : bS} {v a0 a1 : Int} (h : F_J24_copyOf_2 s0 a0 a1 = some (st', v)) : bCt Γ0 l0 yJ24_copyOf_2 cJ24_copyOf_2 2 (some (.array (.object "java/lang/Object"))) 2 63 [(2, a0), (0, a1)] s0 st' (some (2, v)) := by
  refine b_ent (own := RJ24) (by decide +kernel) rfl (Nat.le_of_ble_eq_true rfl) (L := [(0, (2, a0)), (1, (0, a1))]) rfl ?_
  intro κ hκ hi hf
  unfold F_J24_copyOf_2 at h
  refine r_aload_n hκ 0 rfl rfl dJ24_copyOf_2_0 ?_
  refine r_iload_n hκ 1 rfl rfl dJ24_copyOf_2_1 ?_
  refine r_aload_n hκ 0 rfl rfl dJ24_copyOf_2_2 ?_
  obtain ⟨h1, h⟩ := bck_i h
  refine r_getC hκ h1 q1439 q1440 q1478 q3663 (by decide) (Nat.le_of_ble_eq_true rfl) dJ24_copyOf_2_3 ?_
  obtain ⟨s1, v1, h2, h⟩ := bcl_i h
  refine r_callS hκ (n' := 3) (index := 300) (w_J24_copyOf_3 Γ0 l0 h2) (lw_S q1479 q1480 q162 q1481) (by decide +kernel) rfl (by decide) rfl (Nat.le_of_ble_eq_true rfl) dJ24_copyOf_2_6 ?_
  exact r_aretH hκ hf h rt_a dJ24_copyOf_2_9
/-- java/util/ArrayList.grow(I)[Ljava/lang/Object; -/
def F_J10_grow_2_r (b : Nat) (x0 x1 x2 : Int) (s0 : bS) : Option (bS × Int) :=
  match b with
  | 0 =>
    bcl (F_J22_newLength s0 x2 (x1 - x2) (b_ishr x2 1)) fun s3 v1 =>
    bck (bg s3 0 x0 0 = 21) <|
    bcl (F_J24_copyOf_2 s3 (bg s3 446 x0 0) v1) fun s4 v2 =>
    bck ((bg s4 0 x0 0 = 21)) <|
    bst (bw s4 446 x0 0 v2) fun s5 =>
    some (s5, v2)
  | _ => none
def F_J10_grow_2 (s0 : bS) (a0 a1 : Int) : Option (bS × Int) :=
  bck (bg s0 0 a0 0 = 21) <|
  bck (bg s0 0 (bg s0 446 a0 0) 0 = 1006) <|
  bvl ((bg s0 4 (bg s0 446 a0 0) 0)) fun t1 =>
  bte (0 < i32 t1)
  (F_J10_grow_2_r 0 a0 a1 t1 s0)
  (bck (bg s0 0 a0 0 = 21) <|
  bte (bReq (bg s0 446 a0 0) (bg s0 1 (-(2 + 6)) 0))
  (bck (((0 : Int) ≤ (b_max 10 a1) ∧ ((b_max 10 a1) : Int) ≤ 67108864) ∧ bc s0 + 1 ≤ bCM ∧ bk s0 + ((b_max 10 a1) : Int).toNat ≤ bKM) <|
  bst (bnw s0 1006 (b_max 10 a1) ((b_max 10 a1) : Int).toNat) fun s1 =>
  bck ((bg s1 0 a0 0 = 21)) <|
  bst (bw s1 446 a0 0 (bnx s0 : Int)) fun s2 =>
  some (s2, (bnx s0 : Int)))
  (F_J10_grow_2_r 0 a0 a1 t1 s0))
set_option maxHeartbeats 4000000 in
set_option maxRecDepth 100000 in
set_option synthInstance.maxHeartbeats 4000000 in
theorem w_J10_grow_2_r {Γ0 : bG} {l0 : Launch} {κ : bK} {st' : bS} {v : Int} (hκ : bOk κ Γ0 l0 cJ10_grow_2 RJ10 4 3 84) (hi : bIn κ yJ10_grow_2) (hf : bFin κ (some (.array (.object "java/lang/Object"))) st' (some (2, v))) (b : Nat) (x0 x1 x2 : Int) (s0 : bS) (h : F_J10_grow_2_r b x0 x1 x2 s0 = some (st', v)) : match (generalizing := false) b with | 0 => bJ κ s0 20 [(0, (2, x0)), (1, (0, x1)), (2, (0, x2))] [] | _ => True := by
  unfold F_J10_grow_2_r at h
  match b, h with
  | 0, h =>
      refine r_iload_n hκ 2 rfl rfl dJ10_grow_2_20 ?_
      refine r_iload_n hκ 1 rfl rfl dJ10_grow_2_21 ?_
      refine r_iload_n hκ 2 rfl rfl dJ10_grow_2_22 ?_
      refine r_isub hκ dJ10_grow_2_23 ?_
      refine r_iload_n hκ 2 rfl rfl dJ10_grow_2_24 ?_
      refine r_iconst hκ dJ10_grow_2_25 ?_
      refine r_ishr hκ dJ10_grow_2_26 ?_
      obtain ⟨s3, v1, h9, h⟩ := bcl_i h
      refine r_callS hκ (n' := 3) (index := 73) (w_J22_newLength Γ0 l0 h9) (lw_S q1435 q1034 q160 q1035) (by decide +kernel) rfl (by decide) rfl (Nat.le_of_ble_eq_true rfl) dJ10_grow_2_27 ?_
      refine r_istore_n hκ (L2 := [(3, (0, v1)), (0, (2, x0)), (1, (0, x1)), (2, (0, x2))]) (by decide) rfl rfl dJ10_grow_2_30 ?_
      refine r_aload_n hκ 1 rfl rfl dJ10_grow_2_31 ?_
      refine r_aload_n hκ 1 rfl rfl dJ10_grow_2_32 ?_
      obtain ⟨h10, h⟩ := bck_i h
      refine r_get hκ (t := 20) (k := 1) (r := 446) h10 rfl in_J10 (by decide) rfl q337 (Or.inl rfl) dJ10_grow_2_33 ?_
      refine r_iload_n hκ 0 rfl rfl dJ10_grow_2_36 ?_
      obtain ⟨s4, v2, h11, h⟩ := bcl_i h
      refine r_callS hκ (n' := 2) (index := 66) (w_J24_copyOf_2 Γ0 l0 h11) (lw_S q1436 q1437 q162 q1438) (by decide +kernel) rfl (by decide) rfl (Nat.le_of_ble_eq_true rfl) dJ10_grow_2_37 ?_
      refine r_dup_x1 hκ (bd_cat2k _) (bd_cat2k _) dJ10_grow_2_40 ?_
      obtain ⟨h12, h⟩ := bck_i h
      refine r_put hκ (t := 20) (k := 1) (r := 446) (ty := (.array (.object "java/lang/Object"))) tyJ10 tyJ10_ok nmJ10 h12 rfl in_J10 (by decide) rfl q337 (Or.inl rfl) rfl rfl rfl trivial (Or.inl (by decide)) dJ10_grow_2_41 (fun s5 es5 => ?_)
      replace h := bst_i h s5 es5
      exact r_aretH hκ hf h rt_a dJ10_grow_2_44
  | b + 1, h => trivial
set_option maxHeartbeats 4000000 in
set_option maxRecDepth 100000 in
theorem w_J10_grow_2 (Γ0 : bG) (l0 : Launch) {s0 st' : bS} {v a0 a1 : Int} (h : F_J10_grow_2 s0 a0 a1 = some (st', v)) : bCt Γ0 l0 yJ10_grow_2 cJ10_grow_2 4 (some (.array (.object "java/lang/Object"))) 3 84 [(2, a0), (0, a1)] s0 st' (some (2, v)) := by
  refine b_ent (own := RJ10) (by decide +kernel) rfl (Nat.le_of_ble_eq_true rfl) (L := [(0, (2, a0)), (1, (0, a1))]) rfl ?_
  intro κ hκ hi hf
  unfold F_J10_grow_2 at h
  refine r_aload_n hκ 0 rfl rfl dJ10_grow_2_0 ?_
  obtain ⟨h1, h⟩ := bck_i h
  refine r_get hκ (t := 20) (k := 1) (r := 446) h1 rfl in_J10 (by decide) rfl q337 (Or.inl rfl) dJ10_grow_2_1 ?_
  obtain ⟨h2, h⟩ := bck_i h
  refine r_alen hκ (t := 6) h2 rfl dJ10_grow_2_4 ?_
  refine r_nm (fun t1 et1 => ?_)
  replace h := bvl_i h t1 et1
  refine r_istore_n hκ (L2 := [(2, (0, t1)), (0, (2, a0)), (1, (0, a1))]) (by decide) rfl rfl dJ10_grow_2_5 ?_
  refine r_iload_n hκ 0 rfl rfl dJ10_grow_2_6 ?_
  refine r_if_gt hκ (tgt := 20) (by decide) dJ10_grow_2_7 (fun h3 => ?_) (fun h3 => ?_)
  · replace h := (bte_i h).1 h3
    exact r_sub [1, 2, 0] rfl (w_J10_grow_2_r hκ hi hf 0 _ _ _ _ h)
  · replace h := (bte_i h).2 h3
    refine r_aload_n hκ 1 rfl rfl dJ10_grow_2_10 ?_
    obtain ⟨h4, h⟩ := bck_i h
    refine r_get hκ (t := 20) (k := 1) (r := 446) h4 rfl in_J10 (by decide) rfl q337 (Or.inl rfl) dJ10_grow_2_11 ?_
    refine r_getsR hκ (j := 6) (by decide +kernel) q335 dJ10_grow_2_14 ?_
    refine r_acmp_eq hκ (tgt := 45) (by decide) dJ10_grow_2_17 (fun h5 => ?_) (fun h5 => ?_)
    · replace h := (bte_i h).1 h5
      refine r_aload_n hκ 1 rfl rfl dJ10_grow_2_45 ?_
      refine r_bipush hκ (by decide) dJ10_grow_2_46 ?_
      refine r_iload_n hκ 2 rfl rfl dJ10_grow_2_48 ?_
      refine r_mmax hκ q1484 q1037 q161 q1038 (by decide) (Nat.le_of_ble_eq_true rfl) dJ10_grow_2_49 ?_
      obtain ⟨⟨h6, h7⟩, h⟩ := bck_i h
      refine r_anew hκ (t := 6) q404 (by decide +kernel) rfl (by decide) h6 h7 dJ10_grow_2_52 (fun s1 es1 => ?_)
      replace h := bst_i h s1 es1
      refine r_dup_x1 hκ (bd_cat2k _) (bd_cat2k _) dJ10_grow_2_55 ?_
      obtain ⟨h8, h⟩ := bck_i h
      refine r_put hκ (t := 20) (k := 1) (r := 446) (ty := (.array (.object "java/lang/Object"))) tyJ10 tyJ10_ok nmJ10 h8 rfl in_J10 (by decide) rfl q337 (Or.inl rfl) rfl rfl rfl trivial (Or.inl (by decide)) dJ10_grow_2_56 (fun s2 es2 => ?_)
      replace h := bst_i h s2 es2
      exact r_aretH hκ hf h rt_a dJ10_grow_2_59
    · replace h := (bte_i h).2 h5
      exact r_sub [1, 2, 0] rfl (w_J10_grow_2_r hκ hi hf 0 _ _ _ _ h)
/-- java/util/ArrayList.grow()[Ljava/lang/Object; -/
def F_J10_grow (s0 : bS) (a0 : Int) : Option (bS × Int) :=
  bck (bg s0 0 a0 0 = 21) <|
  bck (bg s0 0 a0 0 = 21) <|
  bcl (F_J10_grow_2 s0 a0 ((bg s0 448 a0 0) + 1)) fun s1 v1 =>
  some (s1, v1)
set_option maxHeartbeats 4000000 in
set_option maxRecDepth 100000 in
theorem w_J10_grow (Γ0 : bG) (l0 : Launch) {s0 st' : bS} {v a0 : Int} (h : F_J10_grow s0 a0 = some (st', v)) : bCt Γ0 l0 yJ10_grow cJ10_grow 1 (some (.array (.object "java/lang/Object"))) 4 107 [(2, a0)] s0 st' (some (2, v)) := by
  refine b_ent (own := RJ10) (by decide +kernel) rfl (Nat.le_of_ble_eq_true rfl) (L := [(0, (2, a0))]) rfl ?_
  intro κ hκ hi hf
  unfold F_J10_grow at h
  refine r_aload_n hκ 0 rfl rfl dJ10_grow_0 ?_
  refine r_aload_n hκ 0 rfl rfl dJ10_grow_1 ?_
  obtain ⟨h1, h⟩ := bck_i h
  refine r_get hκ (t := 20) (k := 2) (r := 448) h1 rfl in_J10 (by decide) rfl q340 (Or.inl rfl) dJ10_grow_2 ?_
  refine r_iconst hκ dJ10_grow_5 ?_
  refine r_iadd hκ dJ10_grow_6 ?_
  obtain ⟨h2, h⟩ := bck_i h
  obtain ⟨s1, v1, h3, h⟩ := bcl_i h
  refine r_callV hκ (n' := 1) (index := 69) (w_J10_grow_2 Γ0 l0 h3) (lw_V q1431 q1433 qs18 q134 q1434) (by decide +kernel) (t := 20) h2 rfl rfl (by decide) rfl (Nat.le_of_ble_eq_true rfl) dJ10_grow_7 ?_
  exact r_aretH hκ hf h rt_a dJ10_grow_10
/-- java/util/ArrayList.add(Ljava/lang/Object;[Ljava/lang/Object;I)V -/
def F_J10_add_2_r (b : Nat) (x0 x1 x2 x3 : Int) (s0 : bS) : Option (bS × Int) :=
  match b with
  | 0 =>
    bck ((bg s0 0 x2 0 = 1006 ∧ (0 : Int) ≤ x3 ∧ x3 < bg s0 4 x2 0) ∧ (x1 < 0 ∨ bg s0 0 x1 0 = 1 ∨ bg s0 0 x1 0 = 2 ∨ bg s0 0 x1 0 = 3 ∨ bg s0 0 x1 0 = 4 ∨ bg s0 0 x1 0 = 5 ∨ bg s0 0 x1 0 = 6 ∨ bg s0 0 x1 0 = 7 ∨ bg s0 0 x1 0 = 8 ∨ bg s0 0 x1 0 = 9 ∨ bg s0 0 x1 0 = 10 ∨ bg s0 0 x1 0 = 11 ∨ bg s0 0 x1 0 = 12 ∨ bg s0 0 x1 0 = 13 ∨ bg s0 0 x1 0 = 14 ∨ bg s0 0 x1 0 = 15 ∨ bg s0 0 x1 0 = 16 ∨ bg s0 0 x1 0 = 17 ∨ bg s0 0 x1 0 = 18 ∨ bg s0 0 x1 0 = 19 ∨ bg s0 0 x1 0 = 20 ∨ bg s0 0 x1 0 = 21 ∨ bg s0 0 x1 0 = 22 ∨ bg s0 0 x1 0 = 23 ∨ bg s0 0 x1 0 = 24 ∨ bg s0 0 x1 0 = 25) ∧ bg s0 1 (-1) 0 ≤ x2) <|
    bst (bw s0 10 x2 x3 x1) fun s2 =>
    bck ((bg s2 0 x0 0 = 21)) <|
    bst (bw s2 448 x0 0 (x3 + 1)) fun s3 =>
    some (s3, 0)
  | _ => none
def F_J10_add_2 (s0 : bS) (a0 a1 a2 a3 : Int) : Option (bS × Int) :=
  bck (bg s0 0 a2 0 = 1006) <|
  bte (i32 a3 = i32 (bg s0 4 a2 0))
  (bck (bg s0 0 a0 0 = 21) <|
  bcl (F_J10_grow s0 a0) fun s1 v1 =>
  F_J10_add_2_r 0 a0 a1 v1 a3 s1)
  (F_J10_add_2_r 0 a0 a1 a2 a3 s0)
set_option maxHeartbeats 4000000 in
set_option maxRecDepth 100000 in
set_option synthInstance.maxHeartbeats 4000000 in
theorem w_J10_add_2_r {Γ0 : bG} {l0 : Launch} {κ : bK} {st' : bS} {v : Int} (hκ : bOk κ Γ0 l0 cJ10_add_2 RJ10 4 5 127) (hi : bIn κ yJ10_add_2) (hf : bFin κ none st' none) (b : Nat) (x0 x1 x2 x3 : Int) (s0 : bS) (h : F_J10_add_2_r b x0 x1 x2 x3 s0 = some (st', v)) : match (generalizing := false) b with | 0 => bJ κ s0 11 [(0, (2, x0)), (1, (2, x1)), (2, (2, x2)), (3, (0, x3))] [] | _ => True := by
  unfold F_J10_add_2_r at h
  match b, h with
  | 0, h =>
      refine r_aload_n hκ 2 rfl rfl dJ10_add_2_11 ?_
      refine r_iload_n hκ 3 rfl rfl dJ10_add_2_12 ?_
      refine r_aload_n hκ 1 rfl rfl dJ10_add_2_13 ?_
      obtain ⟨⟨⟨h5, h6⟩, h7, h8⟩, h⟩ := bck_i h
      refine r_aast hκ (t := 6) rfl (by decide) (Or.inr h8) h5 h6 (Or.elim h7 (fun h7 => Or.inl h7) (fun h7 => Or.elim h7 (fun h7 => Or.inr ⟨0, _, h7, rfl, Or.inr (by decide +kernel)⟩) (fun h7 => Or.elim h7 (fun h7 => Or.inr ⟨1, _, h7, rfl, Or.inr (by decide +kernel)⟩) (fun h7 => Or.elim h7 (fun h7 => Or.inr ⟨2, _, h7, rfl, Or.inr (by decide +kernel)⟩) (fun h7 => Or.elim h7 (fun h7 => Or.inr ⟨3, _, h7, rfl, Or.inr (by decide +kernel)⟩) (fun h7 => Or.elim h7 (fun h7 => Or.inr ⟨4, _, h7, rfl, Or.inr (by decide +kernel)⟩) (fun h7 => Or.elim h7 (fun h7 => Or.inr ⟨5, _, h7, rfl, Or.inr (by decide +kernel)⟩) (fun h7 => Or.elim h7 (fun h7 => Or.inr ⟨6, _, h7, rfl, Or.inr (by decide +kernel)⟩) (fun h7 => Or.elim h7 (fun h7 => Or.inr ⟨7, _, h7, rfl, Or.inr (by decide +kernel)⟩) (fun h7 => Or.elim h7 (fun h7 => Or.inr ⟨8, _, h7, rfl, Or.inr (by decide +kernel)⟩) (fun h7 => Or.elim h7 (fun h7 => Or.inr ⟨9, _, h7, rfl, Or.inr (by decide +kernel)⟩) (fun h7 => Or.elim h7 (fun h7 => Or.inr ⟨10, _, h7, rfl, Or.inr (by decide +kernel)⟩) (fun h7 => Or.elim h7 (fun h7 => Or.inr ⟨11, _, h7, rfl, Or.inr (by decide +kernel)⟩) (fun h7 => Or.elim h7 (fun h7 => Or.inr ⟨12, _, h7, rfl, Or.inr (by decide +kernel)⟩) (fun h7 => Or.elim h7 (fun h7 => Or.inr ⟨13, _, h7, rfl, Or.inr (by decide +kernel)⟩) (fun h7 => Or.elim h7 (fun h7 => Or.inr ⟨14, _, h7, rfl, Or.inr (by decide +kernel)⟩) (fun h7 => Or.elim h7 (fun h7 => Or.inr ⟨15, _, h7, rfl, Or.inr (by decide +kernel)⟩) (fun h7 => Or.elim h7 (fun h7 => Or.inr ⟨16, _, h7, rfl, Or.inr (by decide +kernel)⟩) (fun h7 => Or.elim h7 (fun h7 => Or.inr ⟨17, _, h7, rfl, Or.inr (by decide +kernel)⟩) (fun h7 => Or.elim h7 (fun h7 => Or.inr ⟨18, _, h7, rfl, Or.inr (by decide +kernel)⟩) (fun h7 => Or.elim h7 (fun h7 => Or.inr ⟨19, _, h7, rfl, Or.inr (by decide +kernel)⟩) (fun h7 => Or.elim h7 (fun h7 => Or.inr ⟨20, _, h7, rfl, Or.inr (by decide +kernel)⟩) (fun h7 => Or.elim h7 (fun h7 => Or.inr ⟨21, _, h7, rfl, Or.inr (by decide +kernel)⟩) (fun h7 => Or.elim h7 (fun h7 => Or.inr ⟨22, _, h7, rfl, Or.inr (by decide +kernel)⟩) (fun h7 => Or.elim h7 (fun h7 => Or.inr ⟨23, _, h7, rfl, Or.inr (by decide +kernel)⟩) (fun h7 => Or.inr ⟨24, _, h7, rfl, Or.inr (by decide +kernel)⟩)))))))))))))))))))))))))) dJ10_add_2_14 (fun s2 es2 => ?_)
      replace h := bst_i h s2 es2
      refine r_aload_n hκ 0 rfl rfl dJ10_add_2_15 ?_
      refine r_iload_n hκ 3 rfl rfl dJ10_add_2_16 ?_
      refine r_iconst hκ dJ10_add_2_17 ?_
      refine r_iadd hκ dJ10_add_2_18 ?_
      obtain ⟨h9, h⟩ := bck_i h
      refine r_put hκ (t := 20) (k := 2) (r := 448) (ty := .int) tyJ10 tyJ10_ok nmJ10 h9 rfl in_J10 (by decide) rfl q340 (Or.inl rfl) rfl rfl rfl trivial (Or.inl (by decide)) dJ10_add_2_19 (fun s3 es3 => ?_)
      replace h := bst_i h s3 es3
      exact r_vretH hκ hf h dJ10_add_2_22
  | b + 1, h => trivial
set_option maxHeartbeats 4000000 in
set_option maxRecDepth 100000 in
theorem w_J10_add_2 (Γ0 : bG) (l0 : Launch) {s0 st' : bS} {v a0 a1 a2 a3 : Int} (h : F_J10_add_2 s0 a0 a1 a2 a3 = some (st', v)) : bCt Γ0 l0 yJ10_add_2 cJ10_add_2 4 none 5 127 [(2, a0), (2, a1), (2, a2), (0, a3)] s0 st' none := by
  refine b_ent (own := RJ10) (by decide +kernel) rfl (Nat.le_of_ble_eq_true rfl) (L := [(0, (2, a0)), (1, (2, a1)), (2, (2, a2)), (3, (0, a3))]) rfl ?_
  intro κ hκ hi hf
  unfold F_J10_add_2 at h
  refine r_iload_n hκ 3 rfl rfl dJ10_add_2_0 ?_
  refine r_aload_n hκ 2 rfl rfl dJ10_add_2_1 ?_
  obtain ⟨h1, h⟩ := bck_i h
  refine r_alen hκ (t := 6) h1 rfl dJ10_add_2_2 ?_
  refine r_icmp_ne hκ (tgt := 11) (by decide) dJ10_add_2_3 (fun h2 => ?_) (fun h2 => ?_)
  · replace h := (bte_i h).2 h2
    exact r_sub [0, 1, 2, 3] rfl (w_J10_add_2_r hκ hi hf 0 _ _ _ _ _ h)
  · replace h := (bte_i h).1 h2
    refine r_aload_n hκ 0 rfl rfl dJ10_add_2_6 ?_
    obtain ⟨h3, h⟩ := bck_i h
    obtain ⟨s1, v1, h4, h⟩ := bcl_i h
    refine r_callV hκ (n' := 0) (index := 129) (w_J10_grow Γ0 l0 h4) (lw_V q1427 q1429 qs17 q134 q1430) (by decide +kernel) (t := 20) h3 rfl rfl (by decide) rfl (Nat.le_of_ble_eq_true rfl) dJ10_add_2_7 ?_
    refine r_astore_n hκ (L2 := [(2, (2, v1)), (0, (2, a0)), (1, (2, a1)), (3, (0, a3))]) (by decide) rfl rfl dJ10_add_2_10 ?_
    exact r_sub [1, 2, 0, 3] rfl (w_J10_add_2_r hκ hi hf 0 _ _ _ _ _ h)
/-- java/util/ArrayList.add(Ljava/lang/Object;)Z -/
def F_J10_add (s0 : bS) (a0 a1 : Int) : Option (bS × Int) :=
  bck (bg s0 0 a0 0 = 21) <|
  bck ((bg s0 0 a0 0 = 21)) <|
  bst (bw s0 440 a0 0 ((bg s0 440 a0 0) + 1)) fun s1 =>
  bck (bg s1 0 a0 0 = 21) <|
  bck (bg s1 0 a0 0 = 21) <|
  bck (bg s1 0 a0 0 = 21) <|
  bcl (F_J10_add_2 s1 a0 a1 (bg s1 446 a0 0) (bg s1 448 a0 0)) fun s2 v1 =>
  some (s2, 1)
set_option maxHeartbeats 4000000 in
set_option maxRecDepth 100000 in
theorem w_J10_add (Γ0 : bG) (l0 : Launch) {s0 st' : bS} {v a0 a1 : Int} (h : F_J10_add s0 a0 a1 = some (st', v)) : bCt Γ0 l0 yJ10_add cJ10_add 2 (some .boolean) 6 150 [(2, a0), (2, a1)] s0 st' (some (0, v)) := by
  refine b_ent (own := RJ10) (by decide +kernel) rfl (Nat.le_of_ble_eq_true rfl) (L := [(0, (2, a0)), (1, (2, a1))]) rfl ?_
  intro κ hκ hi hf
  unfold F_J10_add at h
  refine r_aload_n hκ 0 rfl rfl dJ10_add_0 ?_
  refine r_dup hκ (bd_cat2k _) dJ10_add_1 ?_
  obtain ⟨h1, h⟩ := bck_i h
  refine r_get hκ (t := 20) (k := 0) (r := 440) h1 rfl in_J10 (by decide) rfl q348 (Or.inr q345) dJ10_add_2 ?_
  refine r_iconst hκ dJ10_add_5 ?_
  refine r_iadd hκ dJ10_add_6 ?_
  obtain ⟨h2, h⟩ := bck_i h
  refine r_put hκ (t := 20) (k := 0) (r := 440) (ty := .int) tyJ10 tyJ10_ok nmJ10 h2 rfl in_J10 (by decide) rfl q348 (Or.inr q345) rfl rfl rfl trivial (Or.inl (by decide)) dJ10_add_7 (fun s1 es1 => ?_)
  replace h := bst_i h s1 es1
  refine r_aload_n hκ 0 rfl rfl dJ10_add_10 ?_
  refine r_aload_n hκ 1 rfl rfl dJ10_add_11 ?_
  refine r_aload_n hκ 0 rfl rfl dJ10_add_12 ?_
  obtain ⟨h3, h⟩ := bck_i h
  refine r_get hκ (t := 20) (k := 1) (r := 446) h3 rfl in_J10 (by decide) rfl q337 (Or.inl rfl) dJ10_add_13 ?_
  refine r_aload_n hκ 0 rfl rfl dJ10_add_16 ?_
  obtain ⟨h4, h⟩ := bck_i h
  refine r_get hκ (t := 20) (k := 2) (r := 448) h4 rfl in_J10 (by decide) rfl q340 (Or.inl rfl) dJ10_add_17 ?_
  obtain ⟨h5, h⟩ := bck_i h
  obtain ⟨s2, v1, h6, h⟩ := bcl_i h
  refine r_callV hκ (n' := 3) (index := 131) (w_J10_add_2 Γ0 l0 h6) (lw_V q1423 q1425 qs16 q134 q1426) (by decide +kernel) (t := 20) h5 rfl rfl (by decide) rfl (Nat.le_of_ble_eq_true rfl) dJ10_add_20 ?_
  refine r_iconst hκ dJ10_add_23 ?_
  exact r_iretH hκ hf h (nar_bool (by decide)) dJ10_add_24
/-- java/util/ArrayList.set(ILjava/lang/Object;)Ljava/lang/Object; -/
def F_J10_set (s0 : bS) (a0 a1 a2 : Int) : Option (bS × Int) :=
  bck (bg s0 0 a0 0 = 21) <|
  bcl (F_J17_checkIndex s0 a1 (bg s0 448 a0 0)) fun s1 v1 =>
  bck (bg s1 0 a0 0 = 21) <|
  bcl (F_J10_elementData s1 a0 a1) fun s2 v2 =>
  bck (bg s2 0 a0 0 = 21) <|
  bck ((bg s2 0 (bg s2 446 a0 0) 0 = 1006 ∧ (0 : Int) ≤ a1 ∧ a1 < bg s2 4 (bg s2 446 a0 0) 0) ∧ (a2 < 0 ∨ bg s2 0 a2 0 = 1 ∨ bg s2 0 a2 0 = 2 ∨ bg s2 0 a2 0 = 3 ∨ bg s2 0 a2 0 = 4 ∨ bg s2 0 a2 0 = 5 ∨ bg s2 0 a2 0 = 6 ∨ bg s2 0 a2 0 = 7 ∨ bg s2 0 a2 0 = 8 ∨ bg s2 0 a2 0 = 9 ∨ bg s2 0 a2 0 = 10 ∨ bg s2 0 a2 0 = 11 ∨ bg s2 0 a2 0 = 12 ∨ bg s2 0 a2 0 = 13 ∨ bg s2 0 a2 0 = 14 ∨ bg s2 0 a2 0 = 15 ∨ bg s2 0 a2 0 = 16 ∨ bg s2 0 a2 0 = 17 ∨ bg s2 0 a2 0 = 18 ∨ bg s2 0 a2 0 = 19 ∨ bg s2 0 a2 0 = 20 ∨ bg s2 0 a2 0 = 21 ∨ bg s2 0 a2 0 = 22 ∨ bg s2 0 a2 0 = 23 ∨ bg s2 0 a2 0 = 24 ∨ bg s2 0 a2 0 = 25) ∧ bg s2 1 (-1) 0 ≤ (bg s2 446 a0 0)) <|
  bst (bw s2 10 (bg s2 446 a0 0) a1 a2) fun s3 =>
  some (s3, v2)
set_option maxHeartbeats 4000000 in
set_option maxRecDepth 100000 in
theorem w_J10_set (Γ0 : bG) (l0 : Launch) {s0 st' : bS} {v a0 a1 a2 : Int} (h : F_J10_set s0 a0 a1 a2 = some (st', v)) : bCt Γ0 l0 yJ10_set cJ10_set 4 (some (.object "java/lang/Object")) 2 43 [(2, a0), (0, a1), (2, a2)] s0 st' (some (2, v)) := by
  refine b_ent (own := RJ10) (by decide +kernel) rfl (Nat.le_of_ble_eq_true rfl) (L := [(0, (2, a0)), (1, (0, a1)), (2, (2, a2))]) rfl ?_
  intro κ hκ hi hf
  unfold F_J10_set at h
  refine r_iload_n hκ 1 rfl rfl dJ10_set_0 ?_
  refine r_aload_n hκ 0 rfl rfl dJ10_set_1 ?_
  obtain ⟨h1, h⟩ := bck_i h
  refine r_get hκ (t := 20) (k := 2) (r := 448) h1 rfl in_J10 (by decide) rfl q340 (Or.inl rfl) dJ10_set_2 ?_
  obtain ⟨s1, v1, h2, h⟩ := bcl_i h
  refine r_callS hκ (n' := 2) (index := 118) (w_J17_checkIndex Γ0 l0 h2) (lw_S q822 q823 q153 q824) (by decide +kernel) rfl (by decide) rfl (Nat.le_of_ble_eq_true rfl) dJ10_set_5 ?_
  refine r_pop hκ (bd_cat0k _) dJ10_set_8 ?_
  refine r_aload_n hκ 0 rfl rfl dJ10_set_9 ?_
  refine r_iload_n hκ 1 rfl rfl dJ10_set_10 ?_
  obtain ⟨h3, h⟩ := bck_i h
  obtain ⟨s2, v2, h4, h⟩ := bcl_i h
  refine r_callV hκ (n' := 1) (index := 123) (w_J10_elementData Γ0 l0 h4) (lw_V q828 q829 q830 q134 q831) (by decide +kernel) (t := 20) h3 rfl rfl (by decide) rfl (Nat.le_of_ble_eq_true rfl) dJ10_set_11 ?_
  refine r_astore_n hκ (L2 := [(3, (2, v2)), (0, (2, a0)), (1, (0, a1)), (2, (2, a2))]) (by decide) rfl rfl dJ10_set_14 ?_
  refine r_aload_n hκ 1 rfl rfl dJ10_set_15 ?_
  obtain ⟨h5, h⟩ := bck_i h
  refine r_get hκ (t := 20) (k := 1) (r := 446) h5 rfl in_J10 (by decide) rfl q337 (Or.inl rfl) dJ10_set_16 ?_
  refine r_iload_n hκ 2 rfl rfl dJ10_set_19 ?_
  refine r_aload_n hκ 3 rfl rfl dJ10_set_20 ?_
  obtain ⟨⟨⟨h6, h7⟩, h8, h9⟩, h⟩ := bck_i h
  refine r_aast hκ (t := 6) rfl (by decide) (Or.inr h9) h6 h7 (Or.elim h8 (fun h8 => Or.inl h8) (fun h8 => Or.elim h8 (fun h8 => Or.inr ⟨0, _, h8, rfl, Or.inr (by decide +kernel)⟩) (fun h8 => Or.elim h8 (fun h8 => Or.inr ⟨1, _, h8, rfl, Or.inr (by decide +kernel)⟩) (fun h8 => Or.elim h8 (fun h8 => Or.inr ⟨2, _, h8, rfl, Or.inr (by decide +kernel)⟩) (fun h8 => Or.elim h8 (fun h8 => Or.inr ⟨3, _, h8, rfl, Or.inr (by decide +kernel)⟩) (fun h8 => Or.elim h8 (fun h8 => Or.inr ⟨4, _, h8, rfl, Or.inr (by decide +kernel)⟩) (fun h8 => Or.elim h8 (fun h8 => Or.inr ⟨5, _, h8, rfl, Or.inr (by decide +kernel)⟩) (fun h8 => Or.elim h8 (fun h8 => Or.inr ⟨6, _, h8, rfl, Or.inr (by decide +kernel)⟩) (fun h8 => Or.elim h8 (fun h8 => Or.inr ⟨7, _, h8, rfl, Or.inr (by decide +kernel)⟩) (fun h8 => Or.elim h8 (fun h8 => Or.inr ⟨8, _, h8, rfl, Or.inr (by decide +kernel)⟩) (fun h8 => Or.elim h8 (fun h8 => Or.inr ⟨9, _, h8, rfl, Or.inr (by decide +kernel)⟩) (fun h8 => Or.elim h8 (fun h8 => Or.inr ⟨10, _, h8, rfl, Or.inr (by decide +kernel)⟩) (fun h8 => Or.elim h8 (fun h8 => Or.inr ⟨11, _, h8, rfl, Or.inr (by decide +kernel)⟩) (fun h8 => Or.elim h8 (fun h8 => Or.inr ⟨12, _, h8, rfl, Or.inr (by decide +kernel)⟩) (fun h8 => Or.elim h8 (fun h8 => Or.inr ⟨13, _, h8, rfl, Or.inr (by decide +kernel)⟩) (fun h8 => Or.elim h8 (fun h8 => Or.inr ⟨14, _, h8, rfl, Or.inr (by decide +kernel)⟩) (fun h8 => Or.elim h8 (fun h8 => Or.inr ⟨15, _, h8, rfl, Or.inr (by decide +kernel)⟩) (fun h8 => Or.elim h8 (fun h8 => Or.inr ⟨16, _, h8, rfl, Or.inr (by decide +kernel)⟩) (fun h8 => Or.elim h8 (fun h8 => Or.inr ⟨17, _, h8, rfl, Or.inr (by decide +kernel)⟩) (fun h8 => Or.elim h8 (fun h8 => Or.inr ⟨18, _, h8, rfl, Or.inr (by decide +kernel)⟩) (fun h8 => Or.elim h8 (fun h8 => Or.inr ⟨19, _, h8, rfl, Or.inr (by decide +kernel)⟩) (fun h8 => Or.elim h8 (fun h8 => Or.inr ⟨20, _, h8, rfl, Or.inr (by decide +kernel)⟩) (fun h8 => Or.elim h8 (fun h8 => Or.inr ⟨21, _, h8, rfl, Or.inr (by decide +kernel)⟩) (fun h8 => Or.elim h8 (fun h8 => Or.inr ⟨22, _, h8, rfl, Or.inr (by decide +kernel)⟩) (fun h8 => Or.elim h8 (fun h8 => Or.inr ⟨23, _, h8, rfl, Or.inr (by decide +kernel)⟩) (fun h8 => Or.inr ⟨24, _, h8, rfl, Or.inr (by decide +kernel)⟩)))))))))))))))))))))))))) dJ10_set_21 (fun s3 es3 => ?_)
  replace h := bst_i h s3 es3
  refine r_aload_n hκ 0 rfl rfl dJ10_set_22 ?_
  exact r_aretH hκ hf h rt_o dJ10_set_23
/-- java/lang/AbstractStringBuilder.substring(II)Ljava/lang/String; -/
def F_J0_substring (s0 : bS) (a0 a1 a2 : Int) : Option (bS × Int) :=
  bck (bg s0 0 a0 0 = 19) <|
  bcl (F_J18_checkFromToIndex s0 a1 a2 (bg s0 420 a0 0) (bg s0 1 (-(2 + 0)) 0)) fun s1 v1 =>
  bck (bg s1 0 a0 0 = 19) <|
  bcl (F_J0_isLatin1 s1 a0) fun s2 v2 =>
  bte (i32 v2 = 0)
  (bck (bg s2 0 a0 0 = 19) <|
  none)
  (bck (bg s2 0 a0 0 = 19) <|
  bcl (F_J20_newString s2 (bg s2 410 a0 0) a1 (a2 - a1)) fun s3 v3 =>
  some (s3, v3))
set_option maxHeartbeats 4000000 in
set_option maxRecDepth 100000 in
theorem w_J0_substring (Γ0 : bG) (l0 : Launch) {s0 st' : bS} {v a0 a1 a2 : Int} (h : F_J0_substring s0 a0 a1 a2 = some (st', v)) : bCt Γ0 l0 yJ0_substring cJ0_substring 3 (some (.object "java/lang/String")) 4 108 [(2, a0), (0, a1), (0, a2)] s0 st' (some (2, v)) := by
  refine b_ent (own := RJ0) (by decide +kernel) rfl (Nat.le_of_ble_eq_true rfl) (L := [(0, (2, a0)), (1, (0, a1)), (2, (0, a2))]) rfl ?_
  intro κ hκ hi hf
  unfold F_J0_substring at h
  refine r_iload_n hκ 1 rfl rfl dJ0_substring_0 ?_
  refine r_iload_n hκ 2 rfl rfl dJ0_substring_1 ?_
  refine r_aload_n hκ 0 rfl rfl dJ0_substring_2 ?_
  obtain ⟨h1, h⟩ := bck_i h
  refine r_get hκ (t := 18) (k := 3) (r := 420) h1 rfl in_J1 (by decide) rfl q306 (Or.inl rfl) dJ0_substring_3 ?_
  refine r_getsR hκ (j := 0) (by decide +kernel) q2201 dJ0_substring_6 ?_
  obtain ⟨s1, v1, h2, h⟩ := bcl_i h
  refine r_callS hκ (n' := 4) (index := 161) (w_J18_checkFromToIndex Γ0 l0 h2) (lw_S q2202 q1073 q154 q1074) (by decide +kernel) rfl (by decide) rfl (Nat.le_of_ble_eq_true rfl) dJ0_substring_9 ?_
  refine r_pop hκ (bd_cat0k _) dJ0_substring_12 ?_
  refine r_aload_n hκ 0 rfl rfl dJ0_substring_13 ?_
  obtain ⟨h3, h⟩ := bck_i h
  obtain ⟨s2, v2, h4, h⟩ := bcl_i h
  refine r_callU hκ (index := 83) (C := "java/lang/StringBuilder") (owner := "java/lang/AbstractStringBuilder") (n' := 0) (w_J0_isLatin1 Γ0 l0 h4) (fun R s args hts hRR => va_cwU 0 hts (lw_app (lw_l5 q1058 q1060 q1061 q1059 q124) (lw_meth q1062)) rfl rfl rfl rfl (by decide +kernel) hRR) (t := 18) h3 rfl rfl (by decide) rfl (Nat.le_of_ble_eq_true rfl) dJ0_substring_14 ?_
  refine r_if_eq hκ (tgt := 32) (by decide) dJ0_substring_17 (fun h5 => ?_) (fun h5 => ?_)
  · replace h := (bte_i h).1 h5
    refine r_aload_n hκ 0 rfl rfl dJ0_substring_32 ?_
    obtain ⟨h6, h⟩ := bck_i h
    refine r_get hκ (t := 18) (k := 0) (r := 410) h6 rfl in_J1 (by decide) rfl q302 (Or.inl rfl) dJ0_substring_33 ?_
    refine r_iload_n hκ 1 rfl rfl dJ0_substring_36 ?_
    refine r_iload_n hκ 2 rfl rfl dJ0_substring_37 ?_
    refine r_iload_n hκ 1 rfl rfl dJ0_substring_38 ?_
    refine r_isub hκ dJ0_substring_39 ?_
    cases h
  · replace h := (bte_i h).2 h5
    refine r_aload_n hκ 0 rfl rfl dJ0_substring_20 ?_
    obtain ⟨h7, h⟩ := bck_i h
    refine r_get hκ (t := 18) (k := 0) (r := 410) h7 rfl in_J1 (by decide) rfl q302 (Or.inl rfl) dJ0_substring_21 ?_
    refine r_iload_n hκ 1 rfl rfl dJ0_substring_24 ?_
    refine r_iload_n hκ 2 rfl rfl dJ0_substring_25 ?_
    refine r_iload_n hκ 1 rfl rfl dJ0_substring_26 ?_
    refine r_isub hκ dJ0_substring_27 ?_
    obtain ⟨s3, v3, h8, h⟩ := bcl_i h
    refine r_callS hκ (n' := 3) (index := 304) (w_J20_newString Γ0 l0 h8) (lw_S q2203 q1768 q156 q1769) (by decide +kernel) rfl (by decide) rfl (Nat.le_of_ble_eq_true rfl) dJ0_substring_28 ?_
    exact r_aretH hκ hf h rt_o dJ0_substring_31
/-- java/lang/StringBuilder.substring(II)Ljava/lang/String; -/
def F_J1_substring (s0 : bS) (a0 a1 a2 : Int) : Option (bS × Int) :=
  bck (bg s0 0 a0 0 = 19) <|
  bcl (F_J0_substring s0 a0 a1 a2) fun s1 v1 =>
  some (s1, v1)
set_option maxHeartbeats 4000000 in
set_option maxRecDepth 100000 in
theorem w_J1_substring (Γ0 : bG) (l0 : Launch) {s0 st' : bS} {v a0 a1 a2 : Int} (h : F_J1_substring s0 a0 a1 a2 = some (st', v)) : bCt Γ0 l0 yJ1_substring cJ1_substring 3 (some (.object "java/lang/String")) 5 130 [(2, a0), (0, a1), (0, a2)] s0 st' (some (2, v)) := by
  refine b_ent (own := RJ1) (by decide +kernel) rfl (Nat.le_of_ble_eq_true rfl) (L := [(0, (2, a0)), (1, (0, a1)), (2, (0, a2))]) rfl ?_
  intro κ hκ hi hf
  unfold F_J1_substring at h
  refine r_aload_n hκ 0 rfl rfl dJ1_substring_0 ?_
  refine r_iload_n hκ 1 rfl rfl dJ1_substring_1 ?_
  refine r_iload_n hκ 2 rfl rfl dJ1_substring_2 ?_
  obtain ⟨h1, h⟩ := bck_i h
  obtain ⟨s1, v1, h2, h⟩ := bcl_i h
  refine r_callSU hκ (n' := 2) (index := 252) (w_J0_substring Γ0 l0 h2) (lw_app (lw_l5 q2199 q2195 q315 q2194 q124) (lw_meth q2200)) (by decide +kernel) (t := 18) h1 rfl rfl (by decide) rfl (Nat.le_of_ble_eq_true rfl) dJ1_substring_3 ?_
  exact r_aretH hκ hf h rt_o dJ1_substring_6
/-- java/lang/AbstractStringBuilder.subSequence(II)Ljava/lang/CharSequence; -/
def F_J0_subSequence (s0 : bS) (a0 a1 a2 : Int) : Option (bS × Int) :=
  bck (bg s0 0 a0 0 = 19) <|
  bcl (F_J1_substring s0 a0 a1 a2) fun s1 v1 =>
  some (s1, v1)
set_option maxHeartbeats 4000000 in
set_option maxRecDepth 100000 in
theorem w_J0_subSequence (Γ0 : bG) (l0 : Launch) {s0 st' : bS} {v a0 a1 a2 : Int} (h : F_J0_subSequence s0 a0 a1 a2 = some (st', v)) : bCt Γ0 l0 yJ0_subSequence cJ0_subSequence 3 (some (.object "java/lang/CharSequence")) 6 152 [(2, a0), (0, a1), (0, a2)] s0 st' (some (2, v)) := by
  refine b_ent (own := RJ0) (by decide +kernel) rfl (Nat.le_of_ble_eq_true rfl) (L := [(0, (2, a0)), (1, (0, a1)), (2, (0, a2))]) rfl ?_
  intro κ hκ hi hf
  unfold F_J0_subSequence at h
  refine r_aload_n hκ 0 rfl rfl dJ0_subSequence_0 ?_
  refine r_iload_n hκ 1 rfl rfl dJ0_subSequence_1 ?_
  refine r_iload_n hκ 2 rfl rfl dJ0_subSequence_2 ?_
  obtain ⟨h1, h⟩ := bck_i h
  obtain ⟨s1, v1, h2, h⟩ := bcl_i h
  refine r_callU hκ (index := 300) (C := "java/lang/StringBuilder") (owner := "java/lang/AbstractStringBuilder") (n' := 2) (w_J1_substring Γ0 l0 h2) (fun R s args hts hRR => va_cwO 2 hts (lw_app (lw_l6 q2193 q2195 q2194 q2196 q2197 q125) (lw_meth q2198)) rfl rfl rfl q2200 (by decide +kernel) hRR) (t := 18) h1 rfl rfl (by decide) rfl (Nat.le_of_ble_eq_true rfl) dJ0_subSequence_3 ?_
  exact r_aretH hκ hf h rt_o dJ0_subSequence_6
/-- java/lang/StringBuilder.subSequence(II)Ljava/lang/CharSequence; -/
def F_J1_subSequence (s0 : bS) (a0 a1 a2 : Int) : Option (bS × Int) :=
  bck (bg s0 0 a0 0 = 19) <|
  bcl (F_J0_subSequence s0 a0 a1 a2) fun s1 v1 =>
  some (s1, v1)
set_option maxHeartbeats 4000000 in
set_option maxRecDepth 100000 in
theorem w_J1_subSequence (Γ0 : bG) (l0 : Launch) {s0 st' : bS} {v a0 a1 a2 : Int} (h : F_J1_subSequence s0 a0 a1 a2 = some (st', v)) : bCt Γ0 l0 yJ1_subSequence cJ1_subSequence 3 (some (.object "java/lang/CharSequence")) 7 174 [(2, a0), (0, a1), (0, a2)] s0 st' (some (2, v)) := by
  refine b_ent (own := RJ1) (by decide +kernel) rfl (Nat.le_of_ble_eq_true rfl) (L := [(0, (2, a0)), (1, (0, a1)), (2, (0, a2))]) rfl ?_
  intro κ hκ hi hf
  unfold F_J1_subSequence at h
  refine r_aload_n hκ 0 rfl rfl dJ1_subSequence_0 ?_
  refine r_iload_n hκ 1 rfl rfl dJ1_subSequence_1 ?_
  refine r_iload_n hκ 2 rfl rfl dJ1_subSequence_2 ?_
  obtain ⟨h1, h⟩ := bck_i h
  obtain ⟨s1, v1, h2, h⟩ := bcl_i h
  refine r_callSU hκ (n' := 2) (index := 256) (w_J0_subSequence Γ0 l0 h2) (lw_app (lw_l5 q2190 q3601 q315 q2191 q124) (lw_meth q2192)) (by decide +kernel) (t := 18) h1 rfl rfl (by decide) rfl (Nat.le_of_ble_eq_true rfl) dJ1_subSequence_3 ?_
  exact r_aretH hκ hf h rt_o dJ1_subSequence_6
/-- java/lang/StringLatin1.equals([B[B)Z -/
def F_J20_equals_r (b : Nat) (x0 x1 x2 : Int) (s0 : bS) : Option (bS × Int) :=
  match b with
  | 0 =>
    bck (bg s0 0 x0 0 = 1000) <|
    bte (i32 (bg s0 4 x0 0) ≤ i32 x2)
    (some (s0, 1))
    (bck (bg s0 0 x0 0 = 1000 ∧ (0 : Int) ≤ x2 ∧ x2 < bg s0 4 x0 0) <|
    bck (bg s0 0 x1 0 = 1000 ∧ (0 : Int) ≤ x2 ∧ x2 < bg s0 4 x1 0) <|
    bte (i32 (bg s0 8 x0 x2) = i32 (bg s0 8 x1 x2))
    (F_J20_equals_r 0 x0 x1 (x2 + 1) s0)
    (some (s0, 0)))
  | _ => none
partial_fixpoint
def F_J20_equals (s0 : bS) (a0 a1 : Int) : Option (bS × Int) :=
  bck (bg s0 0 a0 0 = 1000) <|
  bck (bg s0 0 a1 0 = 1000) <|
  bte (i32 (bg s0 4 a0 0) = i32 (bg s0 4 a1 0))
  (F_J20_equals_r 0 a0 a1 0 s0)
  (some (s0, 0))
set_option maxHeartbeats 4000000 in
set_option maxRecDepth 100000 in
set_option synthInstance.maxHeartbeats 4000000 in
theorem w_J20_equals_r {Γ0 : bG} {l0 : Launch} {κ : bK} {st' : bS} {v : Int} (hκ : bOk κ Γ0 l0 cJ20_equals RJ20 3 0 0) (hi : bIn κ yJ20_equals) (hf : bFin κ (some .boolean) st' (some (0, v))) (b : Nat) (x0 x1 x2 : Int) (s0 : bS) (h : F_J20_equals_r b x0 x1 x2 s0 = some (st', v)) : match (generalizing := false) b with | 0 => bJ κ s0 9 [(0, (2, x0)), (1, (2, x1)), (2, (0, x2))] [] | _ => True := by
  refine F_J20_equals_r.partial_correctness x0 x1 s0 (fun b x2 r => r = (st', v) → match (generalizing := false) b with | 0 => bJ κ s0 9 [(0, (2, x0)), (1, (2, x1)), (2, (0, x2))] [] | _ => True) ?_ b x2 _ h rfl
  intro f' ih b x2 r h hr
  subst hr
  match b, h with
  | 0, h =>
      refine r_iload_n hκ 2 rfl rfl dJ20_equals_9 ?_
      refine r_aload_n hκ 0 rfl rfl dJ20_equals_10 ?_
      obtain ⟨h4, h⟩ := bck_i h
      refine r_alen hκ (t := 0) h4 rfl dJ20_equals_11 ?_
      refine r_icmp_ge hκ (tgt := 32) (by decide) dJ20_equals_12 (fun h5 => ?_) (fun h5 => ?_)
      · replace h := (bte_i h).1 h5
        refine r_iconst hκ dJ20_equals_32 ?_
        exact r_iretH hκ hf h (nar_bool (by decide)) dJ20_equals_33
      · replace h := (bte_i h).2 h5
        refine r_aload_n hκ 0 rfl rfl dJ20_equals_15 ?_
        refine r_iload_n hκ 2 rfl rfl dJ20_equals_16 ?_
        obtain ⟨⟨h6, h7⟩, h⟩ := bck_i h
        refine r_bald hκ h6 h7 dJ20_equals_17 ?_
        refine r_aload_n hκ 1 rfl rfl dJ20_equals_18 ?_
        refine r_iload_n hκ 2 rfl rfl dJ20_equals_19 ?_
        obtain ⟨⟨h8, h9⟩, h⟩ := bck_i h
        refine r_bald hκ h8 h9 dJ20_equals_20 ?_
        refine r_icmp_eq hκ (tgt := 26) (by decide) dJ20_equals_21 (fun h10 => ?_) (fun h10 => ?_)
        · replace h := (bte_i h).1 h10
          refine r_iinc hκ (L2 := [(2, (0, (x2 + 1))), (0, (2, x0)), (1, (2, x1))]) 2 rfl (by decide) rfl dJ20_equals_26 ?_
          refine r_goto hκ (tgt := 9) (by decide) dJ20_equals_29 ?_
          exact r_sub [1, 2, 0] rfl (ih 0 _ _ h rfl)
        · replace h := (bte_i h).2 h10
          refine r_iconst hκ dJ20_equals_24 ?_
          exact r_iretH hκ hf h (nar_bool (by decide)) dJ20_equals_25
  | b + 1, h => trivial
set_option maxHeartbeats 4000000 in
set_option maxRecDepth 100000 in
theorem w_J20_equals (Γ0 : bG) (l0 : Launch) {s0 st' : bS} {v a0 a1 : Int} (h : F_J20_equals s0 a0 a1 = some (st', v)) : bCt Γ0 l0 yJ20_equals cJ20_equals 3 (some .boolean) 0 0 [(2, a0), (2, a1)] s0 st' (some (0, v)) := by
  refine b_ent (own := RJ20) (by decide +kernel) rfl (Nat.le_of_ble_eq_true rfl) (L := [(0, (2, a0)), (1, (2, a1))]) rfl ?_
  intro κ hκ hi hf
  unfold F_J20_equals at h
  refine r_aload_n hκ 0 rfl rfl dJ20_equals_0 ?_
  obtain ⟨h1, h⟩ := bck_i h
  refine r_alen hκ (t := 0) h1 rfl dJ20_equals_1 ?_
  refine r_aload_n hκ 1 rfl rfl dJ20_equals_2 ?_
  obtain ⟨h2, h⟩ := bck_i h
  refine r_alen hκ (t := 0) h2 rfl dJ20_equals_3 ?_
  refine r_icmp_ne hκ (tgt := 34) (by decide) dJ20_equals_4 (fun h3 => ?_) (fun h3 => ?_)
  · replace h := (bte_i h).2 h3
    refine r_iconst hκ dJ20_equals_34 ?_
    exact r_iretH hκ hf h (nar_bool (by decide)) dJ20_equals_35
  · replace h := (bte_i h).1 h3
    refine r_iconst hκ dJ20_equals_7 ?_
    refine r_istore_n hκ (L2 := [(2, (0, 0)), (0, (2, a0)), (1, (2, a1))]) (by decide) rfl rfl dJ20_equals_8 ?_
    exact r_sub [1, 2, 0] rfl (w_J20_equals_r hκ hi hf 0 _ _ _ _ h)
/-- java/lang/String.equals(Ljava/lang/Object;)Z -/
def F_J2_equals_r (b : Nat) (x0 x1 : Int) (s0 : bS) : Option (bS × Int) :=
  match b with
  | 0 =>
    bck (bg s0 0 x0 0 = 20) <|
    bck (bg s0 0 x1 0 = 20) <|
    bcl (F_J20_equals s0 (bg s0 426 x0 0) (bg s0 426 x1 0)) fun s1 v1 =>
    bte (i32 v1 = 0)
    (some (s1, 0))
    (some (s1, 1))
  | _ => none
def F_J2_equals (s0 : bS) (a0 a1 : Int) : Option (bS × Int) :=
  bte (bReq a0 a1)
  (some (s0, 1))
  (bte (bg s0 0 a1 0 = 20) (bck (a1 < 0 ∨ bg s0 0 a1 0 = 20) <|
  bck (bg s0 0 a0 0 = 20) <|
  bck (bg s0 0 a1 0 = 20) <|
  bte (i32 (bg s0 428 a0 0) = i32 (bg s0 428 a1 0))
  (F_J2_equals_r 0 a0 a1 s0)
  (some (s0, 0))) (bck (a1 < 0 ∨ False) <| some (s0, 0)))
set_option maxHeartbeats 4000000 in
set_option maxRecDepth 100000 in
set_option synthInstance.maxHeartbeats 4000000 in
theorem w_J2_equals_r {Γ0 : bG} {l0 : Launch} {κ : bK} {st' : bS} {v : Int} (hκ : bOk κ Γ0 l0 cJ2_equals RJ2 3 1 22) (hi : bIn κ yJ2_equals) (hf : bFin κ (some .boolean) st' (some (0, v))) (b : Nat) (x0 x1 : Int) (s0 : bS) (h : F_J2_equals_r b x0 x1 s0 = some (st', v)) : match (generalizing := false) b with | 0 => bJ κ s0 36 [(0, (2, x0)), (2, (2, x1))] [] | _ => True := by
  unfold F_J2_equals_r at h
  match b, h with
  | 0, h =>
      refine r_aload_n hκ 0 rfl rfl dJ2_equals_36 ?_
      obtain ⟨h8, h⟩ := bck_i h
      refine r_get hκ (t := 19) (k := 0) (r := 426) h8 rfl in_J2 (by decide) rfl q1171 (Or.inl rfl) dJ2_equals_37 ?_
      refine r_aload_n hκ 1 rfl rfl dJ2_equals_40 ?_
      obtain ⟨h9, h⟩ := bck_i h
      refine r_get hκ (t := 19) (k := 0) (r := 426) h9 rfl in_J2 (by decide) rfl q1171 (Or.inl rfl) dJ2_equals_41 ?_
      obtain ⟨s1, v1, h10, h⟩ := bcl_i h
      refine r_callS hκ (n' := 2) (index := 541) (w_J20_equals Γ0 l0 h10) (lw_S q1236 q1237 q156 q1238) (by decide +kernel) rfl (by decide) rfl (Nat.le_of_ble_eq_true rfl) dJ2_equals_44 ?_
      refine r_if_eq hκ (tgt := 54) (by decide) dJ2_equals_47 (fun h11 => ?_) (fun h11 => ?_)
      · replace h := (bte_i h).1 h11
        refine r_iconst hκ dJ2_equals_54 ?_
        exact r_iretH hκ hf h (nar_bool (by decide)) dJ2_equals_55
      · replace h := (bte_i h).2 h11
        refine r_iconst hκ dJ2_equals_50 ?_
        refine r_goto hκ (tgt := 55) (by decide) dJ2_equals_51 ?_
        exact r_iretH hκ hf h (nar_bool (by decide)) dJ2_equals_55
  | b + 1, h => trivial
set_option maxHeartbeats 4000000 in
set_option maxRecDepth 100000 in
theorem w_J2_equals (Γ0 : bG) (l0 : Launch) {s0 st' : bS} {v a0 a1 : Int} (h : F_J2_equals s0 a0 a1 = some (st', v)) : bCt Γ0 l0 yJ2_equals cJ2_equals 3 (some .boolean) 1 22 [(2, a0), (2, a1)] s0 st' (some (0, v)) := by
  refine b_ent (own := RJ2) (by decide +kernel) rfl (Nat.le_of_ble_eq_true rfl) (L := [(0, (2, a0)), (1, (2, a1))]) rfl ?_
  intro κ hκ hi hf
  unfold F_J2_equals at h
  refine r_aload_n hκ 0 rfl rfl dJ2_equals_0 ?_
  refine r_aload_n hκ 1 rfl rfl dJ2_equals_1 ?_
  refine r_acmp_ne hκ (tgt := 7) (by decide) dJ2_equals_2 (fun h1 => ?_) (fun h1 => ?_)
  · replace h := (bte_i h).2 h1
    refine r_aload_n hκ 1 rfl rfl dJ2_equals_7 ?_
    by_cases h2 : bg s0 0 a1 0 = 20
    · replace h := (bte_i h).1 h2
      refine r_instGY hκ q1235 (⟨20, _, h2, by decide, rfl, Or.inl (by decide +kernel)⟩) dJ2_equals_8 ?_
      refine r_if_eq hκ (tgt := 54) (by decide) dJ2_equals_11 (fun hc => absurd hc (by decide)) (fun _ => ?_)
      refine r_aload_n hκ 1 rfl rfl dJ2_equals_14 ?_
      obtain ⟨h4, h⟩ := bck_i h
      refine r_cast hκ q1235 (Or.elim h4 (fun h4 => Or.inl h4) (fun h4 => Or.inr ⟨19, _, h4, rfl, Or.inl rfl⟩)) dJ2_equals_15 ?_
      refine r_astore_n hκ (L2 := [(2, (2, a1)), (0, (2, a0)), (1, (2, a1))]) (by decide) rfl rfl dJ2_equals_18 ?_
      refine r_getsI hκ (x := 1) (by decide +kernel) q881 dJ2_equals_19 ?_
      refine r_if_eq hκ (tgt := 36) (by decide) dJ2_equals_22 (fun hc => absurd hc (by decide)) (fun _ => ?_)
      refine r_aload_n hκ 1 rfl rfl dJ2_equals_25 ?_
      obtain ⟨h5, h⟩ := bck_i h
      refine r_get hκ (t := 19) (k := 1) (r := 428) h5 rfl in_J2 (by decide) rfl q1172 (Or.inl rfl) dJ2_equals_26 ?_
      refine r_aload_n hκ 0 rfl rfl dJ2_equals_29 ?_
      obtain ⟨h6, h⟩ := bck_i h
      refine r_get hκ (t := 19) (k := 1) (r := 428) h6 rfl in_J2 (by decide) rfl q1172 (Or.inl rfl) dJ2_equals_30 ?_
      refine r_icmp_ne hκ (tgt := 54) (by decide) dJ2_equals_33 (fun h7 => ?_) (fun h7 => ?_)
      · replace h := (bte_i h).2 h7
        refine r_iconst hκ dJ2_equals_54 ?_
        exact r_iretH hκ hf h (nar_bool (by decide)) dJ2_equals_55
      · replace h := (bte_i h).1 h7
        exact r_sub [1, 0] rfl (w_J2_equals_r hκ hi hf 0 _ _ _ h)
    · replace h := (bte_i h).2 h2
      obtain ⟨h3, h⟩ := bck_i h
      refine r_instGN hκ q1235 (Or.elim h3 (fun h3 => Or.inl h3) (fun h3 => h3.elim)) dJ2_equals_8 ?_
      refine r_if_eq hκ (tgt := 54) (by decide) dJ2_equals_11 (fun _ => ?_) (fun hc => absurd hc (by decide))
      refine r_iconst hκ dJ2_equals_54 ?_
      exact r_iretH hκ hf h (nar_bool (by decide)) dJ2_equals_55
  · replace h := (bte_i h).1 h1
    refine r_iconst hκ dJ2_equals_5 ?_
    exact r_iretH hκ hf h (nar_bool (by decide)) dJ2_equals_6
/-- java/util/ArrayList.toArray()[Ljava/lang/Object; -/
def F_J10_toArray (s0 : bS) (a0 : Int) : Option (bS × Int) :=
  bck (bg s0 0 a0 0 = 21) <|
  bck (bg s0 0 a0 0 = 21) <|
  bcl (F_J24_copyOf_2 s0 (bg s0 446 a0 0) (bg s0 448 a0 0)) fun s1 v1 =>
  some (s1, v1)
set_option maxHeartbeats 4000000 in
set_option maxRecDepth 100000 in
theorem w_J10_toArray (Γ0 : bG) (l0 : Launch) {s0 st' : bS} {v a0 : Int} (h : F_J10_toArray s0 a0 = some (st', v)) : bCt Γ0 l0 yJ10_toArray cJ10_toArray 1 (some (.array (.object "java/lang/Object"))) 3 84 [(2, a0)] s0 st' (some (2, v)) := by
  refine b_ent (own := RJ10) (by decide +kernel) rfl (Nat.le_of_ble_eq_true rfl) (L := [(0, (2, a0))]) rfl ?_
  intro κ hκ hi hf
  unfold F_J10_toArray at h
  refine r_aload_n hκ 0 rfl rfl dJ10_toArray_0 ?_
  obtain ⟨h1, h⟩ := bck_i h
  refine r_get hκ (t := 20) (k := 1) (r := 446) h1 rfl in_J10 (by decide) rfl q337 (Or.inl rfl) dJ10_toArray_1 ?_
  refine r_aload_n hκ 0 rfl rfl dJ10_toArray_4 ?_
  obtain ⟨h2, h⟩ := bck_i h
  refine r_get hκ (t := 20) (k := 2) (r := 448) h2 rfl in_J10 (by decide) rfl q340 (Or.inl rfl) dJ10_toArray_5 ?_
  obtain ⟨s1, v1, h3, h⟩ := bcl_i h
  refine r_callS hκ (n' := 2) (index := 66) (w_J24_copyOf_2 Γ0 l0 h3) (lw_S q1436 q1437 q162 q1438) (by decide +kernel) rfl (by decide) rfl (Nat.le_of_ble_eq_true rfl) dJ10_toArray_8 ?_
  exact r_aretH hκ hf h rt_a dJ10_toArray_11
/-- java/util/LinkedList.toArray()[Ljava/lang/Object; -/
def F_J12_toArray_r (b : Nat) (x0 x1 x2 : Int) (s0 : bS) : Option (bS × Int) :=
  match b with
  | 0 =>
    bte (x2 < 0)
    (some (s0, x0))
    (bck (bg s0 0 x2 0 = 23) <|
    bck ((bg s0 0 x0 0 = 1006 ∧ (0 : Int) ≤ x1 ∧ x1 < bg s0 4 x0 0) ∧ ((bg s0 466 x2 0) < 0 ∨ bg s0 0 (bg s0 466 x2 0) 0 = 1 ∨ bg s0 0 (bg s0 466 x2 0) 0 = 2 ∨ bg s0 0 (bg s0 466 x2 0) 0 = 3 ∨ bg s0 0 (bg s0 466 x2 0) 0 = 4 ∨ bg s0 0 (bg s0 466 x2 0) 0 = 5 ∨ bg s0 0 (bg s0 466 x2 0) 0 = 6 ∨ bg s0 0 (bg s0 466 x2 0) 0 = 7 ∨ bg s0 0 (bg s0 466 x2 0) 0 = 8 ∨ bg s0 0 (bg s0 466 x2 0) 0 = 9 ∨ bg s0 0 (bg s0 466 x2 0) 0 = 10 ∨ bg s0 0 (bg s0 466 x2 0) 0 = 11 ∨ bg s0 0 (bg s0 466 x2 0) 0 = 12 ∨ bg s0 0 (bg s0 466 x2 0) 0 = 13 ∨ bg s0 0 (bg s0 466 x2 0) 0 = 14 ∨ bg s0 0 (bg s0 466 x2 0) 0 = 15 ∨ bg s0 0 (bg s0 466 x2 0) 0 = 16 ∨ bg s0 0 (bg s0 466 x2 0) 0 = 17 ∨ bg s0 0 (bg s0 466 x2 0) 0 = 18 ∨ bg s0 0 (bg s0 466 x2 0) 0 = 19 ∨ bg s0 0 (bg s0 466 x2 0) 0 = 20 ∨ bg s0 0 (bg s0 466 x2 0) 0 = 21 ∨ bg s0 0 (bg s0 466 x2 0) 0 = 22 ∨ bg s0 0 (bg s0 466 x2 0) 0 = 23 ∨ bg s0 0 (bg s0 466 x2 0) 0 = 24 ∨ bg s0 0 (bg s0 466 x2 0) 0 = 25) ∧ bg s0 1 (-1) 0 ≤ x0) <|
    bst (bw s0 10 x0 x1 (bg s0 466 x2 0)) fun s2 =>
    bck (bg s2 0 x2 0 = 23) <|
    F_J12_toArray_r 0 x0 (x1 + 1) (bg s2 470 x2 0) s2)
  | _ => none
partial_fixpoint
def F_J12_toArray (s0 : bS) (a0 : Int) : Option (bS × Int) :=
  bck (bg s0 0 a0 0 = 22) <|
  bck (((0 : Int) ≤ (bg s0 452 a0 0) ∧ ((bg s0 452 a0 0) : Int) ≤ 67108864) ∧ bc s0 + 1 ≤ bCM ∧ bk s0 + ((bg s0 452 a0 0) : Int).toNat ≤ bKM) <|
  bst (bnw s0 1006 (bg s0 452 a0 0) ((bg s0 452 a0 0) : Int).toNat) fun s1 =>
  bck (bg s1 0 a0 0 = 22) <|
  F_J12_toArray_r 0 (bnx s0 : Int) 0 (bg s1 458 a0 0) s1
set_option maxHeartbeats 4000000 in
set_option maxRecDepth 100000 in
set_option synthInstance.maxHeartbeats 4000000 in
theorem w_J12_toArray_r {Γ0 : bG} {l0 : Launch} {κ : bK} {st' : bS} {v : Int} (hκ : bOk κ Γ0 l0 cJ12_toArray RJ12 4 0 0) (hi : bIn κ yJ12_toArray) (hf : bFin κ (some (.array (.object "java/lang/Object"))) st' (some (2, v))) (b : Nat) (x0 x1 x2 : Int) (s0 : bS) (h : F_J12_toArray_r b x0 x1 x2 s0 = some (st', v)) : match (generalizing := false) b with | 0 => bJ κ s0 15 [(1, (2, x0)), (2, (0, x1)), (3, (2, x2))] [] | _ => True := by
  refine F_J12_toArray_r.partial_correctness x0 (fun b x1 x2 s0 r => r = (st', v) → match (generalizing := false) b with | 0 => bJ κ s0 15 [(1, (2, x0)), (2, (0, x1)), (3, (2, x2))] [] | _ => True) ?_ b x1 x2 s0 _ h rfl
  intro f' ih b x1 x2 s0 r h hr
  subst hr
  match b, h with
  | 0, h =>
      refine r_aload_n hκ 2 rfl rfl dJ12_toArray_15 ?_
      refine r_ifnull hκ (tgt := 37) (by decide) dJ12_toArray_16 (fun h5 => ?_) (fun h5 => ?_)
      · replace h := (bte_i h).1 h5
        refine r_aload_n hκ 0 rfl rfl dJ12_toArray_37 ?_
        exact r_aretH hκ hf h rt_a dJ12_toArray_38
      · replace h := (bte_i h).2 h5
        refine r_aload_n hκ 0 rfl rfl dJ12_toArray_19 ?_
        refine r_iload_n hκ 1 rfl rfl dJ12_toArray_20 ?_
        refine r_iinc hκ (L2 := [(2, (0, (x1 + 1))), (1, (2, x0)), (3, (2, x2))]) 1 rfl (by decide) rfl dJ12_toArray_21 ?_
        refine r_aload_n hκ 2 rfl rfl dJ12_toArray_24 ?_
        obtain ⟨h6, h⟩ := bck_i h
        refine r_get hκ (t := 22) (k := 0) (r := 466) h6 rfl in_J26 (by decide) rfl q2328 (Or.inl rfl) dJ12_toArray_25 ?_
        obtain ⟨⟨⟨h7, h8⟩, h9, h10⟩, h⟩ := bck_i h
        refine r_aast hκ (t := 6) rfl (by decide) (Or.inr h10) h7 h8 (Or.elim h9 (fun h9 => Or.inl h9) (fun h9 => Or.elim h9 (fun h9 => Or.inr ⟨0, _, h9, rfl, Or.inr (by decide +kernel)⟩) (fun h9 => Or.elim h9 (fun h9 => Or.inr ⟨1, _, h9, rfl, Or.inr (by decide +kernel)⟩) (fun h9 => Or.elim h9 (fun h9 => Or.inr ⟨2, _, h9, rfl, Or.inr (by decide +kernel)⟩) (fun h9 => Or.elim h9 (fun h9 => Or.inr ⟨3, _, h9, rfl, Or.inr (by decide +kernel)⟩) (fun h9 => Or.elim h9 (fun h9 => Or.inr ⟨4, _, h9, rfl, Or.inr (by decide +kernel)⟩) (fun h9 => Or.elim h9 (fun h9 => Or.inr ⟨5, _, h9, rfl, Or.inr (by decide +kernel)⟩) (fun h9 => Or.elim h9 (fun h9 => Or.inr ⟨6, _, h9, rfl, Or.inr (by decide +kernel)⟩) (fun h9 => Or.elim h9 (fun h9 => Or.inr ⟨7, _, h9, rfl, Or.inr (by decide +kernel)⟩) (fun h9 => Or.elim h9 (fun h9 => Or.inr ⟨8, _, h9, rfl, Or.inr (by decide +kernel)⟩) (fun h9 => Or.elim h9 (fun h9 => Or.inr ⟨9, _, h9, rfl, Or.inr (by decide +kernel)⟩) (fun h9 => Or.elim h9 (fun h9 => Or.inr ⟨10, _, h9, rfl, Or.inr (by decide +kernel)⟩) (fun h9 => Or.elim h9 (fun h9 => Or.inr ⟨11, _, h9, rfl, Or.inr (by decide +kernel)⟩) (fun h9 => Or.elim h9 (fun h9 => Or.inr ⟨12, _, h9, rfl, Or.inr (by decide +kernel)⟩) (fun h9 => Or.elim h9 (fun h9 => Or.inr ⟨13, _, h9, rfl, Or.inr (by decide +kernel)⟩) (fun h9 => Or.elim h9 (fun h9 => Or.inr ⟨14, _, h9, rfl, Or.inr (by decide +kernel)⟩) (fun h9 => Or.elim h9 (fun h9 => Or.inr ⟨15, _, h9, rfl, Or.inr (by decide +kernel)⟩) (fun h9 => Or.elim h9 (fun h9 => Or.inr ⟨16, _, h9, rfl, Or.inr (by decide +kernel)⟩) (fun h9 => Or.elim h9 (fun h9 => Or.inr ⟨17, _, h9, rfl, Or.inr (by decide +kernel)⟩) (fun h9 => Or.elim h9 (fun h9 => Or.inr ⟨18, _, h9, rfl, Or.inr (by decide +kernel)⟩) (fun h9 => Or.elim h9 (fun h9 => Or.inr ⟨19, _, h9, rfl, Or.inr (by decide +kernel)⟩) (fun h9 => Or.elim h9 (fun h9 => Or.inr ⟨20, _, h9, rfl, Or.inr (by decide +kernel)⟩) (fun h9 => Or.elim h9 (fun h9 => Or.inr ⟨21, _, h9, rfl, Or.inr (by decide +kernel)⟩) (fun h9 => Or.elim h9 (fun h9 => Or.inr ⟨22, _, h9, rfl, Or.inr (by decide +kernel)⟩) (fun h9 => Or.elim h9 (fun h9 => Or.inr ⟨23, _, h9, rfl, Or.inr (by decide +kernel)⟩) (fun h9 => Or.inr ⟨24, _, h9, rfl, Or.inr (by decide +kernel)⟩)))))))))))))))))))))))))) dJ12_toArray_28 (fun s2 es2 => ?_)
        replace h := bst_i h s2 es2
        refine r_aload_n hκ 2 rfl rfl dJ12_toArray_29 ?_
        obtain ⟨h11, h⟩ := bck_i h
        refine r_get hκ (t := 22) (k := 1) (r := 470) h11 rfl in_J26 (by decide) rfl q2331 (Or.inl rfl) dJ12_toArray_30 ?_
        refine r_astore_n hκ (L2 := [(3, (2, (bg s2 470 x2 0))), (2, (0, (x1 + 1))), (1, (2, x0))]) (by decide) rfl rfl dJ12_toArray_33 ?_
        refine r_goto hκ (tgt := 15) (by decide) dJ12_toArray_34 ?_
        exact r_sub [2, 1, 0] rfl (ih 0 _ _ _ _ h rfl)
  | b + 1, h => trivial
set_option maxHeartbeats 4000000 in
set_option maxRecDepth 100000 in
theorem w_J12_toArray (Γ0 : bG) (l0 : Launch) {s0 st' : bS} {v a0 : Int} (h : F_J12_toArray s0 a0 = some (st', v)) : bCt Γ0 l0 yJ12_toArray cJ12_toArray 4 (some (.array (.object "java/lang/Object"))) 0 0 [(2, a0)] s0 st' (some (2, v)) := by
  refine b_ent (own := RJ12) (by decide +kernel) rfl (Nat.le_of_ble_eq_true rfl) (L := [(0, (2, a0))]) rfl ?_
  intro κ hκ hi hf
  unfold F_J12_toArray at h
  refine r_aload_n hκ 0 rfl rfl dJ12_toArray_0 ?_
  obtain ⟨h1, h⟩ := bck_i h
  refine r_get hκ (t := 21) (k := 1) (r := 452) h1 rfl in_J12 (by decide) rfl q459 (Or.inl rfl) dJ12_toArray_1 ?_
  obtain ⟨⟨h2, h3⟩, h⟩ := bck_i h
  refine r_anew hκ (t := 6) q2270 (by decide +kernel) rfl (by decide) h2 h3 dJ12_toArray_4 (fun s1 es1 => ?_)
  replace h := bst_i h s1 es1
  refine r_astore_n hκ (L2 := [(1, (2, (bnx s0 : Int))), (0, (2, a0))]) (by decide) rfl rfl dJ12_toArray_7 ?_
  refine r_iconst hκ dJ12_toArray_8 ?_
  refine r_istore_n hκ (L2 := [(2, (0, 0)), (1, (2, (bnx s0 : Int))), (0, (2, a0))]) (by decide) rfl rfl dJ12_toArray_9 ?_
  refine r_aload_n hκ 2 rfl rfl dJ12_toArray_10 ?_
  obtain ⟨h4, h⟩ := bck_i h
  refine r_get hκ (t := 21) (k := 2) (r := 458) h4 rfl in_J12 (by decide) rfl q461 (Or.inl rfl) dJ12_toArray_11 ?_
  refine r_astore_n hκ (L2 := [(3, (2, (bg s1 458 a0 0))), (2, (0, 0)), (1, (2, (bnx s0 : Int))), (0, (2, a0))]) (by decide) rfl rfl dJ12_toArray_14 ?_
  exact r_sub [2, 1, 0] rfl (w_J12_toArray_r hκ hi hf 0 _ _ _ _ h)
/-- java/util/ArrayList.addAll(Ljava/util/Collection;)Z -/
def F_J10_addAll_r (b : Nat) (x0 x1 x2 x3 x4 : Int) (s0 : bS) : Option (bS × Int) :=
  match b with
  | 0 =>
    bck ((bg s0 0 x1 0 = 1006 ∧ bg s0 0 x3 0 = 1006) ∧ ((0 : Int) ≤ 0 ∧ (0 : Int) ≤ x4 ∧ (0 : Int) ≤ x2) ∧ (0 + x2 ≤ bg s0 4 x1 0 ∧ x4 + x2 ≤ bg s0 4 x3 0) ∧ bg s0 1 (-1) 0 ≤ x3 ∧ (∀ j9 : Nat, j9 < (x2 : Int).toNat → bob s0 (bg s0 10 x1 (0 + j9)))) <|
    bst (bcp s0 10 x1 0 x3 x4 x2) fun s4 =>
    bck ((bg s4 0 x0 0 = 21)) <|
    bst (bw s4 448 x0 0 (x4 + x2)) fun s5 =>
    some (s5, 1)
  | _ => none
def F_J10_addAll (s0 : bS) (a0 a1 : Int) : Option (bS × Int) :=
  bcl (bte (bg s0 0 a1 0 = 21) (F_J10_toArray s0 a1) (bte (bg s0 0 a1 0 = 22) (F_J12_toArray s0 a1) (none))) fun s1 v1 =>
  bck (bg s1 0 a0 0 = 21) <|
  bck ((bg s1 0 a0 0 = 21)) <|
  bst (bw s1 440 a0 0 ((bg s1 440 a0 0) + 1)) fun s2 =>
  bck (bg s2 0 v1 0 = 1006) <|
  bte (i32 (bg s2 4 v1 0) = 0)
  (some (s2, 0))
  (bck (bg s2 0 a0 0 = 21) <|
  bck (bg s2 0 (bg s2 446 a0 0) 0 = 1006) <|
  bck (bg s2 0 a0 0 = 21) <|
  bte (i32 (bg s2 4 v1 0) ≤ i32 ((bg s2 4 (bg s2 446 a0 0) 0) - (bg s2 448 a0 0)))
  (F_J10_addAll_r 0 a0 v1 (bg s2 4 v1 0) (bg s2 446 a0 0) (bg s2 448 a0 0) s2)
  (bck (bg s2 0 a0 0 = 21) <|
  bcl (F_J10_grow_2 s2 a0 ((bg s2 448 a0 0) + (bg s2 4 v1 0))) fun s3 v2 =>
  F_J10_addAll_r 0 a0 v1 (bg s2 4 v1 0) v2 (bg s2 448 a0 0) s3))
set_option maxHeartbeats 4000000 in
set_option maxRecDepth 100000 in
set_option synthInstance.maxHeartbeats 4000000 in
theorem w_J10_addAll_r {Γ0 : bG} {l0 : Launch} {κ : bK} {st' : bS} {v : Int} (hκ : bOk κ Γ0 l0 cJ10_addAll RJ10 6 4 107) (hi : bIn κ yJ10_addAll) (hf : bFin κ (some .boolean) st' (some (0, v))) (b : Nat) (x0 x1 x2 x3 x4 : Int) (s0 : bS) (h : F_J10_addAll_r b x0 x1 x2 x3 x4 s0 = some (st', v)) : match (generalizing := false) b with | 0 => bJ κ s0 56 [(0, (2, x0)), (2, (2, x1)), (3, (0, x2)), (4, (2, x3)), (5, (0, x4))] [] | _ => True := by
  unfold F_J10_addAll_r at h
  match b, h with
  | 0, h =>
      refine r_aload_n hκ 1 rfl rfl dJ10_addAll_56 ?_
      refine r_iconst hκ dJ10_addAll_57 ?_
      refine r_aload hκ 3 rfl dJ10_addAll_58 ?_
      refine r_iload hκ 4 rfl dJ10_addAll_60 ?_
      refine r_iload_n hκ 2 rfl rfl dJ10_addAll_62 ?_
      obtain ⟨⟨⟨h14, h15⟩, ⟨h16, h17, h18⟩, ⟨h19, h20⟩, h21, h22⟩, h⟩ := bck_i h
      refine r_acopy hκ (t := 6) (er := 10) h14 h15 (Or.inr rfl) rfl h16 h17 h18 h19 h20 h21 (fun _ => bob_all h22) q2271 q743 q742 q152 (by decide) (Nat.le_of_ble_eq_true rfl) dJ10_addAll_63 (fun s4 es4 => ?_)
      replace h := bst_i h s4 es4
      refine r_aload_n hκ 0 rfl rfl dJ10_addAll_66 ?_
      refine r_iload hκ 4 rfl dJ10_addAll_67 ?_
      refine r_iload_n hκ 2 rfl rfl dJ10_addAll_69 ?_
      refine r_iadd hκ dJ10_addAll_70 ?_
      obtain ⟨h23, h⟩ := bck_i h
      refine r_put hκ (t := 20) (k := 2) (r := 448) (ty := .int) tyJ10 tyJ10_ok nmJ10 h23 rfl in_J10 (by decide) rfl q340 (Or.inl rfl) rfl rfl rfl trivial (Or.inl (by decide)) dJ10_addAll_71 (fun s5 es5 => ?_)
      replace h := bst_i h s5 es5
      refine r_iconst hκ dJ10_addAll_74 ?_
      exact r_iretH hκ hf h (nar_bool (by decide)) dJ10_addAll_75
  | b + 1, h => trivial
set_option maxHeartbeats 4000000 in
set_option maxRecDepth 100000 in
theorem w_J10_addAll (Γ0 : bG) (l0 : Launch) {s0 st' : bS} {v a0 a1 : Int} (h : F_J10_addAll s0 a0 a1 = some (st', v)) : bCt Γ0 l0 yJ10_addAll cJ10_addAll 6 (some .boolean) 4 107 [(2, a0), (2, a1)] s0 st' (some (0, v)) := by
  refine b_ent (own := RJ10) (by decide +kernel) rfl (Nat.le_of_ble_eq_true rfl) (L := [(0, (2, a0)), (1, (2, a1))]) rfl ?_
  intro κ hκ hi hf
  unfold F_J10_addAll at h
  refine r_aload_n hκ 1 rfl rfl dJ10_addAll_0 ?_
  obtain ⟨s1, v1, h1, h⟩ := bcl_i h
  refine r_seq (A := bJ κ s1 6 [(0, (2, a0)), (1, (2, a1))] [(2, v1)]) ?_ (fun k0 => ?_)
  case refine_2 =>
    by_cases h2 : bg s0 0 a1 0 = 21
    · have hq0 := (bte_i h1).1 h2
      exact r_callF hκ (n' := 0) (index := 42) (C := "java/util/ArrayList") (w_J10_toArray Γ0 l0 hq0) (lw_app (lw_l4 q2255 q2259 q2261 q134) (lw_meth q2263)) (by decide +kernel) (by decide +kernel) (t := 20) h2 rfl rfl (by decide) rfl (Nat.le_of_ble_eq_true rfl) dJ10_addAll_1 k0
    replace h1 := (bte_i h1).2 h2
    by_cases h3 : bg s0 0 a1 0 = 22
    · have hq0 := (bte_i h1).1 h3
      exact r_callF hκ (n' := 0) (index := 42) (C := "java/util/LinkedList") (w_J12_toArray Γ0 l0 hq0) (lw_app (lw_l4 q2255 q2265 q2267 q144) (lw_meth q2269)) (by decide +kernel) (by decide +kernel) (t := 21) h3 rfl rfl (by decide) rfl (Nat.le_of_ble_eq_true rfl) dJ10_addAll_1 k0
    replace h1 := (bte_i h1).2 h3
    cases h1
  refine r_astore_n hκ (L2 := [(2, (2, v1)), (0, (2, a0)), (1, (2, a1))]) (by decide) rfl rfl dJ10_addAll_6 ?_
  refine r_aload_n hκ 1 rfl rfl dJ10_addAll_7 ?_
  refine r_dup hκ (bd_cat2k _) dJ10_addAll_8 ?_
  obtain ⟨h4, h⟩ := bck_i h
  refine r_get hκ (t := 20) (k := 0) (r := 440) h4 rfl in_J10 (by decide) rfl q348 (Or.inr q345) dJ10_addAll_9 ?_
  refine r_iconst hκ dJ10_addAll_12 ?_
  refine r_iadd hκ dJ10_addAll_13 ?_
  obtain ⟨h5, h⟩ := bck_i h
  refine r_put hκ (t := 20) (k := 0) (r := 440) (ty := .int) tyJ10 tyJ10_ok nmJ10 h5 rfl in_J10 (by decide) rfl q348 (Or.inr q345) rfl rfl rfl trivial (Or.inl (by decide)) dJ10_addAll_14 (fun s2 es2 => ?_)
  replace h := bst_i h s2 es2
  refine r_aload_n hκ 0 rfl rfl dJ10_addAll_17 ?_
  obtain ⟨h6, h⟩ := bck_i h
  refine r_alen hκ (t := 6) h6 rfl dJ10_addAll_18 ?_
  refine r_istore_n hκ (L2 := [(3, (0, (bg s2 4 v1 0))), (2, (2, v1)), (0, (2, a0)), (1, (2, a1))]) (by decide) rfl rfl dJ10_addAll_19 ?_
  refine r_iload_n hκ 0 rfl rfl dJ10_addAll_20 ?_
  refine r_if_ne hκ (tgt := 26) (by decide) dJ10_addAll_21 (fun h7 => ?_) (fun h7 => ?_)
  · replace h := (bte_i h).2 h7
    refine r_iload_n hκ 0 rfl rfl dJ10_addAll_26 ?_
    refine r_aload_n hκ 2 rfl rfl dJ10_addAll_27 ?_
    obtain ⟨h8, h⟩ := bck_i h
    refine r_get hκ (t := 20) (k := 1) (r := 446) h8 rfl in_J10 (by decide) rfl q337 (Or.inl rfl) dJ10_addAll_28 ?_
    refine r_dup hκ (bd_cat2k _) dJ10_addAll_31 ?_
    refine r_astore hκ (L2 := [(4, (2, (bg s2 446 a0 0))), (3, (0, (bg s2 4 v1 0))), (2, (2, v1)), (0, (2, a0)), (1, (2, a1))]) (by decide) rfl dJ10_addAll_32 ?_
    obtain ⟨h9, h⟩ := bck_i h
    refine r_alen hκ (t := 6) h9 rfl dJ10_addAll_34 ?_
    refine r_aload_n hκ 3 rfl rfl dJ10_addAll_35 ?_
    obtain ⟨h10, h⟩ := bck_i h
    refine r_get hκ (t := 20) (k := 2) (r := 448) h10 rfl in_J10 (by decide) rfl q340 (Or.inl rfl) dJ10_addAll_36 ?_
    refine r_dup hκ (bd_cat0k _) dJ10_addAll_39 ?_
    refine r_istore hκ (L2 := [(5, (0, (bg s2 448 a0 0))), (4, (2, (bg s2 446 a0 0))), (3, (0, (bg s2 4 v1 0))), (2, (2, v1)), (0, (2, a0)), (1, (2, a1))]) (by decide) rfl dJ10_addAll_40 ?_
    refine r_isub hκ dJ10_addAll_42 ?_
    refine r_icmp_le hκ (tgt := 56) (by decide) dJ10_addAll_43 (fun h11 => ?_) (fun h11 => ?_)
    · replace h := (bte_i h).1 h11
      exact r_sub [4, 3, 2, 1, 0] rfl (w_J10_addAll_r hκ hi hf 0 _ _ _ _ _ _ h)
    · replace h := (bte_i h).2 h11
      refine r_aload_n hκ 4 rfl rfl dJ10_addAll_46 ?_
      refine r_iload hκ 0 rfl dJ10_addAll_47 ?_
      refine r_iload_n hκ 2 rfl rfl dJ10_addAll_49 ?_
      refine r_iadd hκ dJ10_addAll_50 ?_
      obtain ⟨h12, h⟩ := bck_i h
      obtain ⟨s3, v2, h13, h⟩ := bcl_i h
      refine r_callV hκ (n' := 1) (index := 69) (w_J10_grow_2 Γ0 l0 h13) (lw_V q1431 q1433 qs18 q134 q1434) (by decide +kernel) (t := 20) h12 rfl rfl (by decide) rfl (Nat.le_of_ble_eq_true rfl) dJ10_addAll_51 ?_
      refine r_astore hκ (L2 := [(4, (2, v2)), (5, (0, (bg s2 448 a0 0))), (3, (0, (bg s2 4 v1 0))), (2, (2, v1)), (0, (2, a0)), (1, (2, a1))]) (by decide) rfl dJ10_addAll_54 ?_
      exact r_sub [4, 3, 2, 0, 1] rfl (w_J10_addAll_r hκ hi hf 0 _ _ _ _ _ _ h)
  · replace h := (bte_i h).1 h7
    refine r_iconst hκ dJ10_addAll_24 ?_
    exact r_iretH hκ hf h (nar_bool (by decide)) dJ10_addAll_25
/-- java/util/LinkedList.clear()V -/
def F_J12_clear_r (b : Nat) (x0 x1 : Int) (s0 : bS) : Option (bS × Int) :=
  match b with
  | 0 =>
    bte (x1 < 0)
    (bck ((bg s0 0 x0 0 = 22)) <|
    bst (bw s0 462 x0 0 (-1)) fun s1 =>
    bck ((bg s1 0 x0 0 = 22)) <|
    bst (bw s1 458 x0 0 (-1)) fun s2 =>
    bck ((bg s2 0 x0 0 = 22)) <|
    bst (bw s2 452 x0 0 0) fun s3 =>
    bck (bg s3 0 x0 0 = 22) <|
    bck ((bg s3 0 x0 0 = 22)) <|
    bst (bw s3 440 x0 0 ((bg s3 440 x0 0) + 1)) fun s4 =>
    some (s4, 0))
    (bck (bg s0 0 x1 0 = 23) <|
    bck ((bg s0 0 x1 0 = 23)) <|
    bst (bw s0 466 x1 0 (-1)) fun s5 =>
    bck ((bg s5 0 x1 0 = 23)) <|
    bst (bw s5 470 x1 0 (-1)) fun s6 =>
    bck ((bg s6 0 x1 0 = 23)) <|
    bst (bw s6 474 x1 0 (-1)) fun s7 =>
    F_J12_clear_r 0 x0 (bg s0 470 x1 0) s7)
  | _ => none
partial_fixpoint
def F_J12_clear (s0 : bS) (a0 : Int) : Option (bS × Int) :=
  bck (bg s0 0 a0 0 = 22) <|
  F_J12_clear_r 0 a0 (bg s0 458 a0 0) s0
set_option maxHeartbeats 4000000 in
set_option maxRecDepth 100000 in
set_option synthInstance.maxHeartbeats 4000000 in
theorem w_J12_clear_r {Γ0 : bG} {l0 : Launch} {κ : bK} {st' : bS} {v : Int} (hκ : bOk κ Γ0 l0 cJ12_clear RJ12 3 0 0) (hi : bIn κ yJ12_clear) (hf : bFin κ none st' none) (b : Nat) (x0 x1 : Int) (s0 : bS) (h : F_J12_clear_r b x0 x1 s0 = some (st', v)) : match (generalizing := false) b with | 0 => bJ κ s0 5 [(0, (2, x0)), (1, (2, x1))] [] | _ => True := by
  refine F_J12_clear_r.partial_correctness x0 (fun b x1 s0 r => r = (st', v) → match (generalizing := false) b with | 0 => bJ κ s0 5 [(0, (2, x0)), (1, (2, x1))] [] | _ => True) ?_ b x1 s0 _ h rfl
  intro f' ih b x1 s0 r h hr
  subst hr
  match b, h with
  | 0, h =>
      refine r_aload_n hκ 1 rfl rfl dJ12_clear_5 ?_
      refine r_ifnull hκ (tgt := 34) (by decide) dJ12_clear_6 (fun h2 => ?_) (fun h2 => ?_)
      · replace h := (bte_i h).1 h2
        refine r_aload_n hκ 0 rfl rfl dJ12_clear_34 ?_
        refine r_aload_n hκ 0 rfl rfl dJ12_clear_35 ?_
        refine r_null hκ dJ12_clear_36 ?_
        refine r_dup_x1 hκ (bd_cat2k _) (bd_cat2k _) dJ12_clear_37 ?_
        obtain ⟨h3, h⟩ := bck_i h
        refine r_put hκ (t := 21) (k := 3) (r := 462) (ty := (.object "java/util/LinkedList$Node")) tyJ12 tyJ12_ok nmJ12 h3 rfl in_J12 (by decide) rfl q462 (Or.inl rfl) rfl rfl rfl trivial (Or.inl (by decide)) dJ12_clear_38 (fun s1 es1 => ?_)
        replace h := bst_i h s1 es1
        obtain ⟨h4, h⟩ := bck_i h
        refine r_put hκ (t := 21) (k := 2) (r := 458) (ty := (.object "java/util/LinkedList$Node")) tyJ12 tyJ12_ok nmJ12 h4 rfl in_J12 (by decide) rfl q461 (Or.inl rfl) rfl rfl rfl trivial (Or.inl (by decide)) dJ12_clear_41 (fun s2 es2 => ?_)
        replace h := bst_i h s2 es2
        refine r_aload_n hκ 0 rfl rfl dJ12_clear_44 ?_
        refine r_iconst hκ dJ12_clear_45 ?_
        obtain ⟨h5, h⟩ := bck_i h
        refine r_put hκ (t := 21) (k := 1) (r := 452) (ty := .int) tyJ12 tyJ12_ok nmJ12 h5 rfl in_J12 (by decide) rfl q459 (Or.inl rfl) rfl rfl rfl trivial (Or.inl (by decide)) dJ12_clear_46 (fun s3 es3 => ?_)
        replace h := bst_i h s3 es3
        refine r_aload_n hκ 0 rfl rfl dJ12_clear_49 ?_
        refine r_dup hκ (bd_cat2k _) dJ12_clear_50 ?_
        obtain ⟨h6, h⟩ := bck_i h
        refine r_get hκ (t := 21) (k := 0) (r := 440) h6 rfl in_J12 (by decide) rfl q347 (Or.inr q343) dJ12_clear_51 ?_
        refine r_iconst hκ dJ12_clear_54 ?_
        refine r_iadd hκ dJ12_clear_55 ?_
        obtain ⟨h7, h⟩ := bck_i h
        refine r_put hκ (t := 21) (k := 0) (r := 440) (ty := .int) tyJ12 tyJ12_ok nmJ12 h7 rfl in_J12 (by decide) rfl q347 (Or.inr q343) rfl rfl rfl trivial (Or.inl (by decide)) dJ12_clear_56 (fun s4 es4 => ?_)
        replace h := bst_i h s4 es4
        exact r_vretH hκ hf h dJ12_clear_59
      · replace h := (bte_i h).2 h2
        refine r_aload_n hκ 1 rfl rfl dJ12_clear_9 ?_
        obtain ⟨h8, h⟩ := bck_i h
        refine r_get hκ (t := 22) (k := 1) (r := 470) h8 rfl in_J26 (by decide) rfl q2331 (Or.inl rfl) dJ12_clear_10 ?_
        refine r_astore_n hκ (L2 := [(2, (2, (bg s0 470 x1 0))), (0, (2, x0)), (1, (2, x1))]) (by decide) rfl rfl dJ12_clear_13 ?_
        refine r_aload_n hκ 2 rfl rfl dJ12_clear_14 ?_
        refine r_null hκ dJ12_clear_15 ?_
        obtain ⟨h9, h⟩ := bck_i h
        refine r_put hκ (t := 22) (k := 0) (r := 466) (ty := (.object "java/lang/Object")) tyJ26 tyJ26_ok nmJ26 h9 rfl in_J26 (by decide) rfl q2328 (Or.inl rfl) rfl rfl rfl trivial (Or.inl (by decide)) dJ12_clear_16 (fun s5 es5 => ?_)
        replace h := bst_i h s5 es5
        refine r_aload_n hκ 2 rfl rfl dJ12_clear_19 ?_
        refine r_null hκ dJ12_clear_20 ?_
        obtain ⟨h10, h⟩ := bck_i h
        refine r_put hκ (t := 22) (k := 1) (r := 470) (ty := (.object "java/util/LinkedList$Node")) tyJ26 tyJ26_ok nmJ26 h10 rfl in_J26 (by decide) rfl q2331 (Or.inl rfl) rfl rfl rfl trivial (Or.inl (by decide)) dJ12_clear_21 (fun s6 es6 => ?_)
        replace h := bst_i h s6 es6
        refine r_aload_n hκ 2 rfl rfl dJ12_clear_24 ?_
        refine r_null hκ dJ12_clear_25 ?_
        obtain ⟨h11, h⟩ := bck_i h
        refine r_put hκ (t := 22) (k := 2) (r := 474) (ty := (.object "java/util/LinkedList$Node")) tyJ26 tyJ26_ok nmJ26 h11 rfl in_J26 (by decide) rfl q2334 (Or.inl rfl) rfl rfl rfl trivial (Or.inl (by decide)) dJ12_clear_26 (fun s7 es7 => ?_)
        replace h := bst_i h s7 es7
        refine r_aload_n hκ 0 rfl rfl dJ12_clear_29 ?_
        refine r_astore_n hκ (L2 := [(1, (2, (bg s0 470 x1 0))), (2, (2, (bg s0 470 x1 0))), (0, (2, x0))]) (by decide) rfl rfl dJ12_clear_30 ?_
        refine r_goto hκ (tgt := 5) (by decide) dJ12_clear_31 ?_
        exact r_sub [2, 0] rfl (ih 0 _ _ _ h rfl)
  | b + 1, h => trivial
set_option maxHeartbeats 4000000 in
set_option maxRecDepth 100000 in
theorem w_J12_clear (Γ0 : bG) (l0 : Launch) {s0 st' : bS} {v a0 : Int} (h : F_J12_clear s0 a0 = some (st', v)) : bCt Γ0 l0 yJ12_clear cJ12_clear 3 none 0 0 [(2, a0)] s0 st' none := by
  refine b_ent (own := RJ12) (by decide +kernel) rfl (Nat.le_of_ble_eq_true rfl) (L := [(0, (2, a0))]) rfl ?_
  intro κ hκ hi hf
  unfold F_J12_clear at h
  refine r_aload_n hκ 0 rfl rfl dJ12_clear_0 ?_
  obtain ⟨h1, h⟩ := bck_i h
  refine r_get hκ (t := 21) (k := 2) (r := 458) h1 rfl in_J12 (by decide) rfl q461 (Or.inl rfl) dJ12_clear_1 ?_
  refine r_astore_n hκ (L2 := [(1, (2, (bg s0 458 a0 0))), (0, (2, a0))]) (by decide) rfl rfl dJ12_clear_4 ?_
  exact r_sub [1, 0] rfl (w_J12_clear_r hκ hi hf 0 _ _ _ h)
/-- java/util/LinkedList.unlinkFirst(Ljava/util/LinkedList$Node;)Ljava/lang/Object; -/
def F_J12_unlinkFirst_r (b : Nat) (x0 x1 : Int) (s0 : bS) : Option (bS × Int) :=
  match b with
  | 0 =>
    bck (bg s0 0 x0 0 = 22) <|
    bck ((bg s0 0 x0 0 = 22)) <|
    bst (bw s0 452 x0 0 ((bg s0 452 x0 0) - 1)) fun s6 =>
    bck (bg s6 0 x0 0 = 22) <|
    bck ((bg s6 0 x0 0 = 22)) <|
    bst (bw s6 440 x0 0 ((bg s6 440 x0 0) + 1)) fun s7 =>
    some (s7, x1)
  | _ => none
def F_J12_unlinkFirst (s0 : bS) (a0 a1 : Int) : Option (bS × Int) :=
  bck (bg s0 0 a1 0 = 23) <|
  bck (bg s0 0 a1 0 = 23) <|
  bck ((bg s0 0 a1 0 = 23)) <|
  bst (bw s0 466 a1 0 (-1)) fun s1 =>
  bck ((bg s1 0 a1 0 = 23)) <|
  bst (bw s1 470 a1 0 (-1)) fun s2 =>
  bck ((bg s2 0 a0 0 = 22)) <|
  bst (bw s2 458 a0 0 (bg s0 470 a1 0)) fun s3 =>
  bte ((bg s0 470 a1 0) < 0)
  (bck ((bg s3 0 a0 0 = 22)) <|
  bst (bw s3 462 a0 0 (-1)) fun s5 =>
  F_J12_unlinkFirst_r 0 a0 (bg s0 466 a1 0) s5)
  (bck ((bg s3 0 (bg s0 470 a1 0) 0 = 23)) <|
  bst (bw s3 474 (bg s0 470 a1 0) 0 (-1)) fun s4 =>
  F_J12_unlinkFirst_r 0 a0 (bg s0 466 a1 0) s4)
set_option maxHeartbeats 4000000 in
set_option maxRecDepth 100000 in
set_option synthInstance.maxHeartbeats 4000000 in
theorem w_J12_unlinkFirst_r {Γ0 : bG} {l0 : Launch} {κ : bK} {st' : bS} {v : Int} (hκ : bOk κ Γ0 l0 cJ12_unlinkFirst RJ12 4 0 0) (hi : bIn κ yJ12_unlinkFirst) (hf : bFin κ (some (.object "java/lang/Object")) st' (some (2, v))) (b : Nat) (x0 x1 : Int) (s0 : bS) (h : F_J12_unlinkFirst_r b x0 x1 s0 = some (st', v)) : match (generalizing := false) b with | 0 => bJ κ s0 42 [(0, (2, x0)), (2, (2, x1))] [] | _ => True := by
  unfold F_J12_unlinkFirst_r at h
  match b, h with
  | 0, h =>
      refine r_aload_n hκ 0 rfl rfl dJ12_unlinkFirst_42 ?_
      refine r_dup hκ (bd_cat2k _) dJ12_unlinkFirst_43 ?_
      obtain ⟨h9, h⟩ := bck_i h
      refine r_get hκ (t := 21) (k := 1) (r := 452) h9 rfl in_J12 (by decide) rfl q459 (Or.inl rfl) dJ12_unlinkFirst_44 ?_
      refine r_iconst hκ dJ12_unlinkFirst_47 ?_
      refine r_isub hκ dJ12_unlinkFirst_48 ?_
      obtain ⟨h10, h⟩ := bck_i h
      refine r_put hκ (t := 21) (k := 1) (r := 452) (ty := .int) tyJ12 tyJ12_ok nmJ12 h10 rfl in_J12 (by decide) rfl q459 (Or.inl rfl) rfl rfl rfl trivial (Or.inl (by decide)) dJ12_unlinkFirst_49 (fun s6 es6 => ?_)
      replace h := bst_i h s6 es6
      refine r_aload_n hκ 0 rfl rfl dJ12_unlinkFirst_52 ?_
      refine r_dup hκ (bd_cat2k _) dJ12_unlinkFirst_53 ?_
      obtain ⟨h11, h⟩ := bck_i h
      refine r_get hκ (t := 21) (k := 0) (r := 440) h11 rfl in_J12 (by decide) rfl q347 (Or.inr q343) dJ12_unlinkFirst_54 ?_
      refine r_iconst hκ dJ12_unlinkFirst_57 ?_
      refine r_iadd hκ dJ12_unlinkFirst_58 ?_
      obtain ⟨h12, h⟩ := bck_i h
      refine r_put hκ (t := 21) (k := 0) (r := 440) (ty := .int) tyJ12 tyJ12_ok nmJ12 h12 rfl in_J12 (by decide) rfl q347 (Or.inr q343) rfl rfl rfl trivial (Or.inl (by decide)) dJ12_unlinkFirst_59 (fun s7 es7 => ?_)
      replace h := bst_i h s7 es7
      refine r_aload_n hκ 1 rfl rfl dJ12_unlinkFirst_62 ?_
      exact r_aretH hκ hf h rt_o dJ12_unlinkFirst_63
  | b + 1, h => trivial
set_option maxHeartbeats 4000000 in
set_option maxRecDepth 100000 in
theorem w_J12_unlinkFirst (Γ0 : bG) (l0 : Launch) {s0 st' : bS} {v a0 a1 : Int} (h : F_J12_unlinkFirst s0 a0 a1 = some (st', v)) : bCt Γ0 l0 yJ12_unlinkFirst cJ12_unlinkFirst 4 (some (.object "java/lang/Object")) 0 0 [(2, a0), (2, a1)] s0 st' (some (2, v)) := by
  refine b_ent (own := RJ12) (by decide +kernel) rfl (Nat.le_of_ble_eq_true rfl) (L := [(0, (2, a0)), (1, (2, a1))]) rfl ?_
  intro κ hκ hi hf
  unfold F_J12_unlinkFirst at h
  refine r_aload_n hκ 1 rfl rfl dJ12_unlinkFirst_0 ?_
  obtain ⟨h1, h⟩ := bck_i h
  refine r_get hκ (t := 22) (k := 0) (r := 466) h1 rfl in_J26 (by decide) rfl q2328 (Or.inl rfl) dJ12_unlinkFirst_1 ?_
  refine r_astore_n hκ (L2 := [(2, (2, (bg s0 466 a1 0))), (0, (2, a0)), (1, (2, a1))]) (by decide) rfl rfl dJ12_unlinkFirst_4 ?_
  refine r_aload_n hκ 2 rfl rfl dJ12_unlinkFirst_5 ?_
  obtain ⟨h2, h⟩ := bck_i h
  refine r_get hκ (t := 22) (k := 1) (r := 470) h2 rfl in_J26 (by decide) rfl q2331 (Or.inl rfl) dJ12_unlinkFirst_6 ?_
  refine r_astore_n hκ (L2 := [(3, (2, (bg s0 470 a1 0))), (2, (2, (bg s0 466 a1 0))), (0, (2, a0)), (1, (2, a1))]) (by decide) rfl rfl dJ12_unlinkFirst_9 ?_
  refine r_aload_n hκ 3 rfl rfl dJ12_unlinkFirst_10 ?_
  refine r_null hκ dJ12_unlinkFirst_11 ?_
  obtain ⟨h3, h⟩ := bck_i h
  refine r_put hκ (t := 22) (k := 0) (r := 466) (ty := (.object "java/lang/Object")) tyJ26 tyJ26_ok nmJ26 h3 rfl in_J26 (by decide) rfl q2328 (Or.inl rfl) rfl rfl rfl trivial (Or.inl (by decide)) dJ12_unlinkFirst_12 (fun s1 es1 => ?_)
  replace h := bst_i h s1 es1
  refine r_aload_n hκ 3 rfl rfl dJ12_unlinkFirst_15 ?_
  refine r_null hκ dJ12_unlinkFirst_16 ?_
  obtain ⟨h4, h⟩ := bck_i h
  refine r_put hκ (t := 22) (k := 1) (r := 470) (ty := (.object "java/util/LinkedList$Node")) tyJ26 tyJ26_ok nmJ26 h4 rfl in_J26 (by decide) rfl q2331 (Or.inl rfl) rfl rfl rfl trivial (Or.inl (by decide)) dJ12_unlinkFirst_17 (fun s2 es2 => ?_)
  replace h := bst_i h s2 es2
  refine r_aload_n hκ 2 rfl rfl dJ12_unlinkFirst_20 ?_
  refine r_aload_n hκ 0 rfl rfl dJ12_unlinkFirst_21 ?_
  obtain ⟨h5, h⟩ := bck_i h
  refine r_put hκ (t := 21) (k := 2) (r := 458) (ty := (.object "java/util/LinkedList$Node")) tyJ12 tyJ12_ok nmJ12 h5 rfl in_J12 (by decide) rfl q461 (Or.inl rfl) rfl rfl rfl trivial (Or.inl (by decide)) dJ12_unlinkFirst_22 (fun s3 es3 => ?_)
  replace h := bst_i h s3 es3
  refine r_aload_n hκ 0 rfl rfl dJ12_unlinkFirst_25 ?_
  refine r_ifnonnull hκ (tgt := 37) (by decide) dJ12_unlinkFirst_26 (fun h6 => ?_) (fun h6 => ?_)
  · replace h := (bte_i h).2 h6
    refine r_aload_n hκ 0 rfl rfl dJ12_unlinkFirst_37 ?_
    refine r_null hκ dJ12_unlinkFirst_38 ?_
    obtain ⟨h7, h⟩ := bck_i h
    refine r_put hκ (t := 22) (k := 2) (r := 474) (ty := (.object "java/util/LinkedList$Node")) tyJ26 tyJ26_ok nmJ26 h7 rfl in_J26 (by decide) rfl q2334 (Or.inl rfl) rfl rfl rfl trivial (Or.inl (by decide)) dJ12_unlinkFirst_39 (fun s4 es4 => ?_)
    replace h := bst_i h s4 es4
    exact r_sub [2, 1] rfl (w_J12_unlinkFirst_r hκ hi hf 0 _ _ _ h)
  · replace h := (bte_i h).1 h6
    refine r_aload_n hκ 2 rfl rfl dJ12_unlinkFirst_29 ?_
    refine r_null hκ dJ12_unlinkFirst_30 ?_
    obtain ⟨h8, h⟩ := bck_i h
    refine r_put hκ (t := 21) (k := 3) (r := 462) (ty := (.object "java/util/LinkedList$Node")) tyJ12 tyJ12_ok nmJ12 h8 rfl in_J12 (by decide) rfl q462 (Or.inl rfl) rfl rfl rfl trivial (Or.inl (by decide)) dJ12_unlinkFirst_31 (fun s5 es5 => ?_)
    replace h := bst_i h s5 es5
    refine r_goto hκ (tgt := 42) (by decide) dJ12_unlinkFirst_34 ?_
    exact r_sub [2, 1] rfl (w_J12_unlinkFirst_r hκ hi hf 0 _ _ _ h)
/-- java/util/LinkedList.removeFirst()Ljava/lang/Object; -/
def F_J12_removeFirst (s0 : bS) (a0 : Int) : Option (bS × Int) :=
  bck (bg s0 0 a0 0 = 22) <|
  bte ((bg s0 458 a0 0) < 0)
  (none)
  (bck (bg s0 0 a0 0 = 22) <|
  bcl (F_J12_unlinkFirst s0 a0 (bg s0 458 a0 0)) fun s1 v1 =>
  some (s1, v1))
set_option maxHeartbeats 4000000 in
set_option maxRecDepth 100000 in
theorem w_J12_removeFirst (Γ0 : bG) (l0 : Launch) {s0 st' : bS} {v a0 : Int} (h : F_J12_removeFirst s0 a0 = some (st', v)) : bCt Γ0 l0 yJ12_removeFirst cJ12_removeFirst 2 (some (.object "java/lang/Object")) 1 23 [(2, a0)] s0 st' (some (2, v)) := by
  refine b_ent (own := RJ12) (by decide +kernel) rfl (Nat.le_of_ble_eq_true rfl) (L := [(0, (2, a0))]) rfl ?_
  intro κ hκ hi hf
  unfold F_J12_removeFirst at h
  refine r_aload_n hκ 0 rfl rfl dJ12_removeFirst_0 ?_
  obtain ⟨h1, h⟩ := bck_i h
  refine r_get hκ (t := 21) (k := 2) (r := 458) h1 rfl in_J12 (by decide) rfl q461 (Or.inl rfl) dJ12_removeFirst_1 ?_
  refine r_astore_n hκ (L2 := [(1, (2, (bg s0 458 a0 0))), (0, (2, a0))]) (by decide) rfl rfl dJ12_removeFirst_4 ?_
  refine r_aload_n hκ 0 rfl rfl dJ12_removeFirst_5 ?_
  refine r_ifnonnull hκ (tgt := 17) (by decide) dJ12_removeFirst_6 (fun h2 => ?_) (fun h2 => ?_)
  · replace h := (bte_i h).2 h2
    refine r_aload_n hκ 1 rfl rfl dJ12_removeFirst_17 ?_
    refine r_aload_n hκ 0 rfl rfl dJ12_removeFirst_18 ?_
    obtain ⟨h3, h⟩ := bck_i h
    obtain ⟨s1, v1, h4, h⟩ := bcl_i h
    refine r_callV hκ (n' := 1) (index := 46) (w_J12_unlinkFirst Γ0 l0 h4) (lw_V q2289 q2291 qs37 q144 q2292) (by decide +kernel) (t := 21) h3 rfl rfl (by decide) rfl (Nat.le_of_ble_eq_true rfl) dJ12_removeFirst_19 ?_
    exact r_aretH hκ hf h rt_o dJ12_removeFirst_22
  · replace h := (bte_i h).1 h2
    cases h
/-- java/util/ArrayList.isEmpty()Z -/
def F_J10_isEmpty (s0 : bS) (a0 : Int) : Option (bS × Int) :=
  bck (bg s0 0 a0 0 = 21) <|
  bte (i32 (bg s0 448 a0 0) = 0)
  (some (s0, 1))
  (some (s0, 0))
set_option maxHeartbeats 4000000 in
set_option maxRecDepth 100000 in
theorem w_J10_isEmpty (Γ0 : bG) (l0 : Launch) {s0 st' : bS} {v a0 : Int} (h : F_J10_isEmpty s0 a0 = some (st', v)) : bCt Γ0 l0 yJ10_isEmpty cJ10_isEmpty 1 (some .boolean) 0 0 [(2, a0)] s0 st' (some (0, v)) := by
  refine b_ent (own := RJ10) (by decide +kernel) rfl (Nat.le_of_ble_eq_true rfl) (L := [(0, (2, a0))]) rfl ?_
  intro κ hκ hi hf
  unfold F_J10_isEmpty at h
  refine r_aload_n hκ 0 rfl rfl dJ10_isEmpty_0 ?_
  obtain ⟨h1, h⟩ := bck_i h
  refine r_get hκ (t := 20) (k := 2) (r := 448) h1 rfl in_J10 (by decide) rfl q340 (Or.inl rfl) dJ10_isEmpty_1 ?_
  refine r_if_ne hκ (tgt := 11) (by decide) dJ10_isEmpty_4 (fun h2 => ?_) (fun h2 => ?_)
  · replace h := (bte_i h).2 h2
    refine r_iconst hκ dJ10_isEmpty_11 ?_
    exact r_iretH hκ hf h (nar_bool (by decide)) dJ10_isEmpty_12
  · replace h := (bte_i h).1 h2
    refine r_iconst hκ dJ10_isEmpty_7 ?_
    refine r_goto hκ (tgt := 12) (by decide) dJ10_isEmpty_8 ?_
    exact r_iretH hκ hf h (nar_bool (by decide)) dJ10_isEmpty_12
/-- java/util/ArrayList.fastRemove([Ljava/lang/Object;I)V -/
def F_J10_fastRemove_r (b : Nat) (x0 x1 x2 : Int) (s0 : bS) : Option (bS × Int) :=
  match b with
  | 0 =>
    bck ((bg s0 0 x0 0 = 21)) <|
    bst (bw s0 448 x0 0 x2) fun s3 =>
    bck ((bg s3 0 x1 0 = 1006 ∧ (0 : Int) ≤ x2 ∧ x2 < bg s3 4 x1 0) ∧ ((-1) < 0 ∨ bg s3 0 (-1) 0 = 1 ∨ bg s3 0 (-1) 0 = 2 ∨ bg s3 0 (-1) 0 = 3 ∨ bg s3 0 (-1) 0 = 4 ∨ bg s3 0 (-1) 0 = 5 ∨ bg s3 0 (-1) 0 = 6 ∨ bg s3 0 (-1) 0 = 7 ∨ bg s3 0 (-1) 0 = 8 ∨ bg s3 0 (-1) 0 = 9 ∨ bg s3 0 (-1) 0 = 10 ∨ bg s3 0 (-1) 0 = 11 ∨ bg s3 0 (-1) 0 = 12 ∨ bg s3 0 (-1) 0 = 13 ∨ bg s3 0 (-1) 0 = 14 ∨ bg s3 0 (-1) 0 = 15 ∨ bg s3 0 (-1) 0 = 16 ∨ bg s3 0 (-1) 0 = 17 ∨ bg s3 0 (-1) 0 = 18 ∨ bg s3 0 (-1) 0 = 19 ∨ bg s3 0 (-1) 0 = 20 ∨ bg s3 0 (-1) 0 = 21 ∨ bg s3 0 (-1) 0 = 22 ∨ bg s3 0 (-1) 0 = 23 ∨ bg s3 0 (-1) 0 = 24 ∨ bg s3 0 (-1) 0 = 25) ∧ bg s3 1 (-1) 0 ≤ x1) <|
    bst (bw s3 10 x1 x2 (-1)) fun s4 =>
    some (s4, 0)
  | _ => none
def F_J10_fastRemove (s0 : bS) (a0 a1 a2 : Int) : Option (bS × Int) :=
  bck (bg s0 0 a0 0 = 21) <|
  bck ((bg s0 0 a0 0 = 21)) <|
  bst (bw s0 440 a0 0 ((bg s0 440 a0 0) + 1)) fun s1 =>
  bck (bg s1 0 a0 0 = 21) <|
  bte (i32 ((bg s1 448 a0 0) - 1) ≤ i32 a2)
  (F_J10_fastRemove_r 0 a0 a1 ((bg s1 448 a0 0) - 1) s1)
  (bck ((bg s1 0 a1 0 = 1006 ∧ bg s1 0 a1 0 = 1006) ∧ ((0 : Int) ≤ (a2 + 1) ∧ (0 : Int) ≤ a2 ∧ (0 : Int) ≤ (((bg s1 448 a0 0) - 1) - a2)) ∧ ((a2 + 1) + (((bg s1 448 a0 0) - 1) - a2) ≤ bg s1 4 a1 0 ∧ a2 + (((bg s1 448 a0 0) - 1) - a2) ≤ bg s1 4 a1 0) ∧ bg s1 1 (-1) 0 ≤ a1 ∧ (∀ j9 : Nat, j9 < ((((bg s1 448 a0 0) - 1) - a2) : Int).toNat → bob s1 (bg s1 10 a1 ((a2 + 1) + j9)))) <|
  bst (bcp s1 10 a1 (a2 + 1) a1 a2 (((bg s1 448 a0 0) - 1) - a2)) fun s2 =>
  F_J10_fastRemove_r 0 a0 a1 ((bg s1 448 a0 0) - 1) s2)
set_option maxHeartbeats 4000000 in
set_option maxRecDepth 100000 in
set_option synthInstance.maxHeartbeats 4000000 in
theorem w_J10_fastRemove_r {Γ0 : bG} {l0 : Launch} {κ : bK} {st' : bS} {v : Int} (hκ : bOk κ Γ0 l0 cJ10_fastRemove RJ10 4 1 40) (hi : bIn κ yJ10_fastRemove) (hf : bFin κ none st' none) (b : Nat) (x0 x1 x2 : Int) (s0 : bS) (h : F_J10_fastRemove_r b x0 x1 x2 s0 = some (st', v)) : match (generalizing := false) b with | 0 => bJ κ s0 34 [(0, (2, x0)), (1, (2, x1)), (3, (0, x2))] [] | _ => True := by
  unfold F_J10_fastRemove_r at h
  match b, h with
  | 0, h =>
      refine r_aload_n hκ 1 rfl rfl dJ10_fastRemove_34 ?_
      refine r_aload_n hκ 0 rfl rfl dJ10_fastRemove_35 ?_
      refine r_iload_n hκ 2 rfl rfl dJ10_fastRemove_36 ?_
      refine r_dup_x1 hκ (bd_cat0k _) (bd_cat2k _) dJ10_fastRemove_37 ?_
      obtain ⟨h14, h⟩ := bck_i h
      refine r_put hκ (t := 20) (k := 2) (r := 448) (ty := .int) tyJ10 tyJ10_ok nmJ10 h14 rfl in_J10 (by decide) rfl q340 (Or.inl rfl) rfl rfl rfl trivial (Or.inl (by decide)) dJ10_fastRemove_38 (fun s3 es3 => ?_)
      replace h := bst_i h s3 es3
      refine r_null hκ dJ10_fastRemove_41 ?_
      obtain ⟨⟨⟨h15, h16⟩, h17, h18⟩, h⟩ := bck_i h
      refine r_aast hκ (t := 6) rfl (by decide) (Or.inr h18) h15 h16 (Or.elim h17 (fun h17 => Or.inl h17) (fun h17 => Or.elim h17 (fun h17 => Or.inr ⟨0, _, h17, rfl, Or.inr (by decide +kernel)⟩) (fun h17 => Or.elim h17 (fun h17 => Or.inr ⟨1, _, h17, rfl, Or.inr (by decide +kernel)⟩) (fun h17 => Or.elim h17 (fun h17 => Or.inr ⟨2, _, h17, rfl, Or.inr (by decide +kernel)⟩) (fun h17 => Or.elim h17 (fun h17 => Or.inr ⟨3, _, h17, rfl, Or.inr (by decide +kernel)⟩) (fun h17 => Or.elim h17 (fun h17 => Or.inr ⟨4, _, h17, rfl, Or.inr (by decide +kernel)⟩) (fun h17 => Or.elim h17 (fun h17 => Or.inr ⟨5, _, h17, rfl, Or.inr (by decide +kernel)⟩) (fun h17 => Or.elim h17 (fun h17 => Or.inr ⟨6, _, h17, rfl, Or.inr (by decide +kernel)⟩) (fun h17 => Or.elim h17 (fun h17 => Or.inr ⟨7, _, h17, rfl, Or.inr (by decide +kernel)⟩) (fun h17 => Or.elim h17 (fun h17 => Or.inr ⟨8, _, h17, rfl, Or.inr (by decide +kernel)⟩) (fun h17 => Or.elim h17 (fun h17 => Or.inr ⟨9, _, h17, rfl, Or.inr (by decide +kernel)⟩) (fun h17 => Or.elim h17 (fun h17 => Or.inr ⟨10, _, h17, rfl, Or.inr (by decide +kernel)⟩) (fun h17 => Or.elim h17 (fun h17 => Or.inr ⟨11, _, h17, rfl, Or.inr (by decide +kernel)⟩) (fun h17 => Or.elim h17 (fun h17 => Or.inr ⟨12, _, h17, rfl, Or.inr (by decide +kernel)⟩) (fun h17 => Or.elim h17 (fun h17 => Or.inr ⟨13, _, h17, rfl, Or.inr (by decide +kernel)⟩) (fun h17 => Or.elim h17 (fun h17 => Or.inr ⟨14, _, h17, rfl, Or.inr (by decide +kernel)⟩) (fun h17 => Or.elim h17 (fun h17 => Or.inr ⟨15, _, h17, rfl, Or.inr (by decide +kernel)⟩) (fun h17 => Or.elim h17 (fun h17 => Or.inr ⟨16, _, h17, rfl, Or.inr (by decide +kernel)⟩) (fun h17 => Or.elim h17 (fun h17 => Or.inr ⟨17, _, h17, rfl, Or.inr (by decide +kernel)⟩) (fun h17 => Or.elim h17 (fun h17 => Or.inr ⟨18, _, h17, rfl, Or.inr (by decide +kernel)⟩) (fun h17 => Or.elim h17 (fun h17 => Or.inr ⟨19, _, h17, rfl, Or.inr (by decide +kernel)⟩) (fun h17 => Or.elim h17 (fun h17 => Or.inr ⟨20, _, h17, rfl, Or.inr (by decide +kernel)⟩) (fun h17 => Or.elim h17 (fun h17 => Or.inr ⟨21, _, h17, rfl, Or.inr (by decide +kernel)⟩) (fun h17 => Or.elim h17 (fun h17 => Or.inr ⟨22, _, h17, rfl, Or.inr (by decide +kernel)⟩) (fun h17 => Or.elim h17 (fun h17 => Or.inr ⟨23, _, h17, rfl, Or.inr (by decide +kernel)⟩) (fun h17 => Or.inr ⟨24, _, h17, rfl, Or.inr (by decide +kernel)⟩)))))))))))))))))))))))))) dJ10_fastRemove_42 (fun s4 es4 => ?_)
      replace h := bst_i h s4 es4
      exact r_vretH hκ hf h dJ10_fastRemove_43
  | b + 1, h => trivial
set_option maxHeartbeats 4000000 in
set_option maxRecDepth 100000 in
theorem w_J10_fastRemove (Γ0 : bG) (l0 : Launch) {s0 st' : bS} {v a0 a1 a2 : Int} (h : F_J10_fastRemove s0 a0 a1 a2 = some (st', v)) : bCt Γ0 l0 yJ10_fastRemove cJ10_fastRemove 4 none 1 40 [(2, a0), (2, a1), (0, a2)] s0 st' none := by
  refine b_ent (own := RJ10) (by decide +kernel) rfl (Nat.le_of_ble_eq_true rfl) (L := [(0, (2, a0)), (1, (2, a1)), (2, (0, a2))]) rfl ?_
  intro κ hκ hi hf
  unfold F_J10_fastRemove at h
  refine r_aload_n hκ 0 rfl rfl dJ10_fastRemove_0 ?_
  refine r_dup hκ (bd_cat2k _) dJ10_fastRemove_1 ?_
  obtain ⟨h1, h⟩ := bck_i h
  refine r_get hκ (t := 20) (k := 0) (r := 440) h1 rfl in_J10 (by decide) rfl q348 (Or.inr q345) dJ10_fastRemove_2 ?_
  refine r_iconst hκ dJ10_fastRemove_5 ?_
  refine r_iadd hκ dJ10_fastRemove_6 ?_
  obtain ⟨h2, h⟩ := bck_i h
  refine r_put hκ (t := 20) (k := 0) (r := 440) (ty := .int) tyJ10 tyJ10_ok nmJ10 h2 rfl in_J10 (by decide) rfl q348 (Or.inr q345) rfl rfl rfl trivial (Or.inl (by decide)) dJ10_fastRemove_7 (fun s1 es1 => ?_)
  replace h := bst_i h s1 es1
  refine r_aload_n hκ 0 rfl rfl dJ10_fastRemove_10 ?_
  obtain ⟨h3, h⟩ := bck_i h
  refine r_get hκ (t := 20) (k := 2) (r := 448) h3 rfl in_J10 (by decide) rfl q340 (Or.inl rfl) dJ10_fastRemove_11 ?_
  refine r_iconst hκ dJ10_fastRemove_14 ?_
  refine r_isub hκ dJ10_fastRemove_15 ?_
  refine r_dup hκ (bd_cat0k _) dJ10_fastRemove_16 ?_
  refine r_istore_n hκ (L2 := [(3, (0, ((bg s1 448 a0 0) - 1))), (0, (2, a0)), (1, (2, a1)), (2, (0, a2))]) (by decide) rfl rfl dJ10_fastRemove_17 ?_
  refine r_iload_n hκ 3 rfl rfl dJ10_fastRemove_18 ?_
  refine r_icmp_le hκ (tgt := 34) (by decide) dJ10_fastRemove_19 (fun h4 => ?_) (fun h4 => ?_)
  · replace h := (bte_i h).1 h4
    exact r_sub [1, 2, 0] rfl (w_J10_fastRemove_r hκ hi hf 0 _ _ _ _ h)
  · replace h := (bte_i h).2 h4
    refine r_aload_n hκ 2 rfl rfl dJ10_fastRemove_22 ?_
    refine r_iload_n hκ 3 rfl rfl dJ10_fastRemove_23 ?_
    refine r_iconst hκ dJ10_fastRemove_24 ?_
    refine r_iadd hκ dJ10_fastRemove_25 ?_
    refine r_aload_n hκ 2 rfl rfl dJ10_fastRemove_26 ?_
    refine r_iload_n hκ 3 rfl rfl dJ10_fastRemove_27 ?_
    refine r_iload_n hκ 0 rfl rfl dJ10_fastRemove_28 ?_
    refine r_iload_n hκ 3 rfl rfl dJ10_fastRemove_29 ?_
    refine r_isub hκ dJ10_fastRemove_30 ?_
    obtain ⟨⟨⟨h5, h6⟩, ⟨h7, h8, h9⟩, ⟨h10, h11⟩, h12, h13⟩, h⟩ := bck_i h
    refine r_acopy hκ (t := 6) (er := 10) h5 h6 (Or.inr rfl) rfl h7 h8 h9 h10 h11 h12 (fun _ => bob_all h13) q2271 q743 q742 q152 (by decide) (Nat.le_of_ble_eq_true rfl) dJ10_fastRemove_31 (fun s2 es2 => ?_)
    replace h := bst_i h s2 es2
    exact r_sub [1, 2, 0] rfl (w_J10_fastRemove_r hκ hi hf 0 _ _ _ _ h)
/-- java/util/ArrayList.remove(I)Ljava/lang/Object; -/
def F_J10_remove (s0 : bS) (a0 a1 : Int) : Option (bS × Int) :=
  bck (bg s0 0 a0 0 = 21) <|
  bcl (F_J17_checkIndex s0 a1 (bg s0 448 a0 0)) fun s1 v1 =>
  bck (bg s1 0 a0 0 = 21) <|
  bck (bg s1 0 (bg s1 446 a0 0) 0 = 1006 ∧ (0 : Int) ≤ a1 ∧ a1 < bg s1 4 (bg s1 446 a0 0) 0) <|
  bck (bg s1 0 a0 0 = 21) <|
  bcl (F_J10_fastRemove s1 a0 (bg s1 446 a0 0) a1) fun s2 v2 =>
  some (s2, (bg s1 10 (bg s1 446 a0 0) a1))
set_option maxHeartbeats 4000000 in
set_option maxRecDepth 100000 in
theorem w_J10_remove (Γ0 : bG) (l0 : Launch) {s0 st' : bS} {v a0 a1 : Int} (h : F_J10_remove s0 a0 a1 = some (st', v)) : bCt Γ0 l0 yJ10_remove cJ10_remove 4 (some (.object "java/lang/Object")) 2 63 [(2, a0), (0, a1)] s0 st' (some (2, v)) := by
  refine b_ent (own := RJ10) (by decide +kernel) rfl (Nat.le_of_ble_eq_true rfl) (L := [(0, (2, a0)), (1, (0, a1))]) rfl ?_
  intro κ hκ hi hf
  unfold F_J10_remove at h
  refine r_iload_n hκ 1 rfl rfl dJ10_remove_0 ?_
  refine r_aload_n hκ 0 rfl rfl dJ10_remove_1 ?_
  obtain ⟨h1, h⟩ := bck_i h
  refine r_get hκ (t := 20) (k := 2) (r := 448) h1 rfl in_J10 (by decide) rfl q340 (Or.inl rfl) dJ10_remove_2 ?_
  obtain ⟨s1, v1, h2, h⟩ := bcl_i h
  refine r_callS hκ (n' := 2) (index := 118) (w_J17_checkIndex Γ0 l0 h2) (lw_S q822 q823 q153 q824) (by decide +kernel) rfl (by decide) rfl (Nat.le_of_ble_eq_true rfl) dJ10_remove_5 ?_
  refine r_pop hκ (bd_cat0k _) dJ10_remove_8 ?_
  refine r_aload_n hκ 0 rfl rfl dJ10_remove_9 ?_
  obtain ⟨h3, h⟩ := bck_i h
  refine r_get hκ (t := 20) (k := 1) (r := 446) h3 rfl in_J10 (by decide) rfl q337 (Or.inl rfl) dJ10_remove_10 ?_
  refine r_astore_n hκ (L2 := [(2, (2, (bg s1 446 a0 0))), (0, (2, a0)), (1, (0, a1))]) (by decide) rfl rfl dJ10_remove_13 ?_
  refine r_aload_n hκ 0 rfl rfl dJ10_remove_14 ?_
  refine r_iload_n hκ 2 rfl rfl dJ10_remove_15 ?_
  obtain ⟨⟨h4, h5⟩, h⟩ := bck_i h
  refine r_aald hκ (t := 6) (by decide) h4 h5 dJ10_remove_16 ?_
  refine r_astore_n hκ (L2 := [(3, (2, (bg s1 10 (bg s1 446 a0 0) a1))), (2, (2, (bg s1 446 a0 0))), (0, (2, a0)), (1, (0, a1))]) (by decide) rfl rfl dJ10_remove_17 ?_
  refine r_aload_n hκ 2 rfl rfl dJ10_remove_18 ?_
  refine r_aload_n hκ 1 rfl rfl dJ10_remove_19 ?_
  refine r_iload_n hκ 3 rfl rfl dJ10_remove_20 ?_
  obtain ⟨h6, h⟩ := bck_i h
  obtain ⟨s2, v2, h7, h⟩ := bcl_i h
  refine r_callV hκ (n' := 2) (index := 144) (w_J10_fastRemove Γ0 l0 h7) (lw_V q2308 q2310 qs39 q134 q2311) (by decide +kernel) (t := 20) h6 rfl rfl (by decide) rfl (Nat.le_of_ble_eq_true rfl) dJ10_remove_21 ?_
  refine r_aload_n hκ 0 rfl rfl dJ10_remove_24 ?_
  exact r_aretH hκ hf h rt_o dJ10_remove_25
/-- java/util/LinkedList$Node.<init>(Ljava/util/LinkedList$Node;Ljava/lang/Object;Ljava/util/LinkedList$Node;)V -/
def F_J26_init (s0 : bS) (a0 a1 a2 a3 : Int) : Option (bS × Int) :=
  bck ((0 : Int) ≤ a0) <|
  bck ((bg s0 0 a0 0 = 23)) <|
  bst (bw s0 466 a0 0 a2) fun s1 =>
  bck ((bg s1 0 a0 0 = 23)) <|
  bst (bw s1 470 a0 0 a3) fun s2 =>
  bck ((bg s2 0 a0 0 = 23)) <|
  bst (bw s2 474 a0 0 a1) fun s3 =>
  some (s3, 0)
set_option maxHeartbeats 4000000 in
set_option maxRecDepth 100000 in
theorem w_J26_init (Γ0 : bG) (l0 : Launch) {s0 st' : bS} {v a0 a1 a2 a3 : Int} (h : F_J26_init s0 a0 a1 a2 a3 = some (st', v)) : bCt Γ0 l0 yJ26_init cJ26_init 4 none 1 20 [(2, a0), (2, a1), (2, a2), (2, a3)] s0 st' none := by
  refine b_ent (own := RJ26) (by decide +kernel) rfl (Nat.le_of_ble_eq_true rfl) (L := [(0, (2, a0)), (1, (2, a1)), (2, (2, a2)), (3, (2, a3))]) rfl ?_
  intro κ hκ hi hf
  unfold F_J26_init at h
  refine r_aload_n hκ 0 rfl rfl dJ26_init_0 ?_
  obtain ⟨h1, h⟩ := bck_i h
  refine r_oinit hκ h1 q2325 q183 q184 (by decide) (Nat.le_of_ble_eq_true rfl) dJ26_init_1 ?_
  refine r_aload_n hκ 0 rfl rfl dJ26_init_4 ?_
  refine r_aload_n hκ 2 rfl rfl dJ26_init_5 ?_
  obtain ⟨h2, h⟩ := bck_i h
  refine r_put hκ (t := 22) (k := 0) (r := 466) (ty := (.object "java/lang/Object")) tyJ26 tyJ26_ok nmJ26 h2 rfl in_J26 (by decide) rfl q2326 (Or.inl rfl) rfl rfl rfl trivial (Or.inl (by decide)) dJ26_init_6 (fun s1 es1 => ?_)
  replace h := bst_i h s1 es1
  refine r_aload_n hκ 0 rfl rfl dJ26_init_9 ?_
  refine r_aload_n hκ 3 rfl rfl dJ26_init_10 ?_
  obtain ⟨h3, h⟩ := bck_i h
  refine r_put hκ (t := 22) (k := 1) (r := 470) (ty := (.object "java/util/LinkedList$Node")) tyJ26 tyJ26_ok nmJ26 h3 rfl in_J26 (by decide) rfl q2329 (Or.inl rfl) rfl rfl rfl trivial (Or.inl (by decide)) dJ26_init_11 (fun s2 es2 => ?_)
  replace h := bst_i h s2 es2
  refine r_aload_n hκ 0 rfl rfl dJ26_init_14 ?_
  refine r_aload_n hκ 1 rfl rfl dJ26_init_15 ?_
  obtain ⟨h4, h⟩ := bck_i h
  refine r_put hκ (t := 22) (k := 2) (r := 474) (ty := (.object "java/util/LinkedList$Node")) tyJ26 tyJ26_ok nmJ26 h4 rfl in_J26 (by decide) rfl q2332 (Or.inl rfl) rfl rfl rfl trivial (Or.inl (by decide)) dJ26_init_16 (fun s3 es3 => ?_)
  replace h := bst_i h s3 es3
  exact r_vretH hκ hf h dJ26_init_19
/-- java/util/LinkedList.linkLast(Ljava/lang/Object;)V -/
def F_J12_linkLast_r (b : Nat) (x0 : Int) (s0 : bS) : Option (bS × Int) :=
  match b with
  | 0 =>
    bck (bg s0 0 x0 0 = 22) <|
    bck ((bg s0 0 x0 0 = 22)) <|
    bst (bw s0 452 x0 0 ((bg s0 452 x0 0) + 1)) fun s6 =>
    bck (bg s6 0 x0 0 = 22) <|
    bck ((bg s6 0 x0 0 = 22)) <|
    bst (bw s6 440 x0 0 ((bg s6 440 x0 0) + 1)) fun s7 =>
    some (s7, 0)
  | _ => none
def F_J12_linkLast (s0 : bS) (a0 a1 : Int) : Option (bS × Int) :=
  bck (bg s0 0 a0 0 = 22) <|
  bck (bc s0 + 1 ≤ bCM ∧ bk s0 + 3 ≤ bKM) <|
  bst (bnw s0 23 0 3) fun s1 =>
  bck (bg s1 0 (bnx s0 : Int) 0 = 23) <|
  bcl (F_J26_init s1 (bnx s0 : Int) (bg s0 462 a0 0) a1 (-1)) fun s2 v1 =>
  bck ((bg s2 0 a0 0 = 22)) <|
  bst (bw s2 462 a0 0 (bnx s0 : Int)) fun s3 =>
  bte ((bg s0 462 a0 0) < 0)
  (bck ((bg s3 0 a0 0 = 22)) <|
  bst (bw s3 458 a0 0 (bnx s0 : Int)) fun s5 =>
  F_J12_linkLast_r 0 a0 s5)
  (bck ((bg s3 0 (bg s0 462 a0 0) 0 = 23)) <|
  bst (bw s3 470 (bg s0 462 a0 0) 0 (bnx s0 : Int)) fun s4 =>
  F_J12_linkLast_r 0 a0 s4)
set_option maxHeartbeats 4000000 in
set_option maxRecDepth 100000 in
set_option synthInstance.maxHeartbeats 4000000 in
theorem w_J12_linkLast_r {Γ0 : bG} {l0 : Launch} {κ : bK} {st' : bS} {v : Int} (hκ : bOk κ Γ0 l0 cJ12_linkLast RJ12 4 2 43) (hi : bIn κ yJ12_linkLast) (hf : bFin κ none st' none) (b : Nat) (x0 : Int) (s0 : bS) (h : F_J12_linkLast_r b x0 s0 = some (st', v)) : match (generalizing := false) b with | 0 => bJ κ s0 38 [(0, (2, x0))] [] | _ => True := by
  unfold F_J12_linkLast_r at h
  match b, h with
  | 0, h =>
      refine r_aload_n hκ 0 rfl rfl dJ12_linkLast_38 ?_
      refine r_dup hκ (bd_cat2k _) dJ12_linkLast_39 ?_
      obtain ⟨h9, h⟩ := bck_i h
      refine r_get hκ (t := 21) (k := 1) (r := 452) h9 rfl in_J12 (by decide) rfl q459 (Or.inl rfl) dJ12_linkLast_40 ?_
      refine r_iconst hκ dJ12_linkLast_43 ?_
      refine r_iadd hκ dJ12_linkLast_44 ?_
      obtain ⟨h10, h⟩ := bck_i h
      refine r_put hκ (t := 21) (k := 1) (r := 452) (ty := .int) tyJ12 tyJ12_ok nmJ12 h10 rfl in_J12 (by decide) rfl q459 (Or.inl rfl) rfl rfl rfl trivial (Or.inl (by decide)) dJ12_linkLast_45 (fun s6 es6 => ?_)
      replace h := bst_i h s6 es6
      refine r_aload_n hκ 0 rfl rfl dJ12_linkLast_48 ?_
      refine r_dup hκ (bd_cat2k _) dJ12_linkLast_49 ?_
      obtain ⟨h11, h⟩ := bck_i h
      refine r_get hκ (t := 21) (k := 0) (r := 440) h11 rfl in_J12 (by decide) rfl q347 (Or.inr q343) dJ12_linkLast_50 ?_
      refine r_iconst hκ dJ12_linkLast_53 ?_
      refine r_iadd hκ dJ12_linkLast_54 ?_
      obtain ⟨h12, h⟩ := bck_i h
      refine r_put hκ (t := 21) (k := 0) (r := 440) (ty := .int) tyJ12 tyJ12_ok nmJ12 h12 rfl in_J12 (by decide) rfl q347 (Or.inr q343) rfl rfl rfl trivial (Or.inl (by decide)) dJ12_linkLast_55 (fun s7 es7 => ?_)
      replace h := bst_i h s7 es7
      exact r_vretH hκ hf h dJ12_linkLast_58
  | b + 1, h => trivial
set_option maxHeartbeats 4000000 in
set_option maxRecDepth 100000 in
theorem w_J12_linkLast (Γ0 : bG) (l0 : Launch) {s0 st' : bS} {v a0 a1 : Int} (h : F_J12_linkLast s0 a0 a1 = some (st', v)) : bCt Γ0 l0 yJ12_linkLast cJ12_linkLast 4 none 2 43 [(2, a0), (2, a1)] s0 st' none := by
  refine b_ent (own := RJ12) (by decide +kernel) rfl (Nat.le_of_ble_eq_true rfl) (L := [(0, (2, a0)), (1, (2, a1))]) rfl ?_
  intro κ hκ hi hf
  unfold F_J12_linkLast at h
  refine r_aload_n hκ 0 rfl rfl dJ12_linkLast_0 ?_
  obtain ⟨h1, h⟩ := bck_i h
  refine r_get hκ (t := 21) (k := 3) (r := 462) h1 rfl in_J12 (by decide) rfl q462 (Or.inl rfl) dJ12_linkLast_1 ?_
  refine r_astore_n hκ (L2 := [(2, (2, (bg s0 462 a0 0))), (0, (2, a0)), (1, (2, a1))]) (by decide) rfl rfl dJ12_linkLast_4 ?_
  obtain ⟨h2, h⟩ := bck_i h
  refine r_new hκ (t := 22) tyJ26 tyJ26_ok dfJ26 rfl in_J26 q2320 q2321 q168 h2 dJ12_linkLast_5 (fun s1 es1 => ?_)
  replace h := bst_i h s1 es1
  refine r_dup hκ (bd_cat2k _) dJ12_linkLast_8 ?_
  refine r_aload_n hκ 0 rfl rfl dJ12_linkLast_9 ?_
  refine r_aload_n hκ 2 rfl rfl dJ12_linkLast_10 ?_
  refine r_null hκ dJ12_linkLast_11 ?_
  obtain ⟨h3, h⟩ := bck_i h
  obtain ⟨s2, v1, h4, h⟩ := bcl_i h
  refine r_callI hκ (n' := 3) (index := 24) (w_J26_init Γ0 l0 h4) (lw_meth q2324) q168 q2322 q2323 rfl (by decide +kernel) (t := 22) h3 rfl rfl (by decide) rfl (Nat.le_of_ble_eq_true rfl) dJ12_linkLast_12 ?_
  refine r_astore_n hκ (L2 := [(3, (2, (bnx s0 : Int))), (2, (2, (bg s0 462 a0 0))), (0, (2, a0)), (1, (2, a1))]) (by decide) rfl rfl dJ12_linkLast_15 ?_
  refine r_aload_n hκ 2 rfl rfl dJ12_linkLast_16 ?_
  refine r_aload_n hκ 0 rfl rfl dJ12_linkLast_17 ?_
  obtain ⟨h5, h⟩ := bck_i h
  refine r_put hκ (t := 21) (k := 3) (r := 462) (ty := (.object "java/util/LinkedList$Node")) tyJ12 tyJ12_ok nmJ12 h5 rfl in_J12 (by decide) rfl q462 (Or.inl rfl) rfl rfl rfl trivial (Or.inl (by decide)) dJ12_linkLast_18 (fun s3 es3 => ?_)
  replace h := bst_i h s3 es3
  refine r_aload_n hκ 1 rfl rfl dJ12_linkLast_21 ?_
  refine r_ifnonnull hκ (tgt := 33) (by decide) dJ12_linkLast_22 (fun h6 => ?_) (fun h6 => ?_)
  · replace h := (bte_i h).2 h6
    refine r_aload_n hκ 1 rfl rfl dJ12_linkLast_33 ?_
    refine r_aload_n hκ 0 rfl rfl dJ12_linkLast_34 ?_
    obtain ⟨h7, h⟩ := bck_i h
    refine r_put hκ (t := 22) (k := 1) (r := 470) (ty := (.object "java/util/LinkedList$Node")) tyJ26 tyJ26_ok nmJ26 h7 rfl in_J26 (by decide) rfl q2331 (Or.inl rfl) rfl rfl rfl trivial (Or.inl (by decide)) dJ12_linkLast_35 (fun s4 es4 => ?_)
    replace h := bst_i h s4 es4
    exact r_sub [2] rfl (w_J12_linkLast_r hκ hi hf 0 _ _ h)
  · replace h := (bte_i h).1 h6
    refine r_aload_n hκ 2 rfl rfl dJ12_linkLast_25 ?_
    refine r_aload_n hκ 0 rfl rfl dJ12_linkLast_26 ?_
    obtain ⟨h8, h⟩ := bck_i h
    refine r_put hκ (t := 21) (k := 2) (r := 458) (ty := (.object "java/util/LinkedList$Node")) tyJ12 tyJ12_ok nmJ12 h8 rfl in_J12 (by decide) rfl q461 (Or.inl rfl) rfl rfl rfl trivial (Or.inl (by decide)) dJ12_linkLast_27 (fun s5 es5 => ?_)
    replace h := bst_i h s5 es5
    refine r_goto hκ (tgt := 38) (by decide) dJ12_linkLast_30 ?_
    exact r_sub [2] rfl (w_J12_linkLast_r hκ hi hf 0 _ _ h)
/-- java/util/LinkedList.addLast(Ljava/lang/Object;)V -/
def F_J12_addLast (s0 : bS) (a0 a1 : Int) : Option (bS × Int) :=
  bck (bg s0 0 a0 0 = 22) <|
  bcl (F_J12_linkLast s0 a0 a1) fun s1 v1 =>
  some (s1, 0)
set_option maxHeartbeats 4000000 in
set_option maxRecDepth 100000 in
theorem w_J12_addLast (Γ0 : bG) (l0 : Launch) {s0 st' : bS} {v a0 a1 : Int} (h : F_J12_addLast s0 a0 a1 = some (st', v)) : bCt Γ0 l0 yJ12_addLast cJ12_addLast 2 none 3 66 [(2, a0), (2, a1)] s0 st' none := by
  refine b_ent (own := RJ12) (by decide +kernel) rfl (Nat.le_of_ble_eq_true rfl) (L := [(0, (2, a0)), (1, (2, a1))]) rfl ?_
  intro κ hκ hi hf
  unfold F_J12_addLast at h
  refine r_aload_n hκ 0 rfl rfl dJ12_addLast_0 ?_
  refine r_aload_n hκ 1 rfl rfl dJ12_addLast_1 ?_
  obtain ⟨h1, h⟩ := bck_i h
  obtain ⟨s1, v1, h2, h⟩ := bcl_i h
  refine r_callV hκ (n' := 1) (index := 57) (w_J12_linkLast Γ0 l0 h2) (lw_V q2316 q2317 q2318 q144 q2319) (by decide +kernel) (t := 21) h1 rfl rfl (by decide) rfl (Nat.le_of_ble_eq_true rfl) dJ12_addLast_2 ?_
  exact r_vretH hκ hf h dJ12_addLast_5
/-- java/lang/String.checkOffset(II)V -/
def F_J2_checkOffset (s0 : bS) (a0 a1 : Int) : Option (bS × Int) :=
  bcl (F_J18_checkFromToIndex s0 a0 a1 a1 (bg s0 1 (-(2 + 0)) 0)) fun s1 v1 =>
  some (s1, 0)
set_option maxHeartbeats 4000000 in
set_option maxRecDepth 100000 in
theorem w_J2_checkOffset (Γ0 : bG) (l0 : Launch) {s0 st' : bS} {v a0 a1 : Int} (h : F_J2_checkOffset s0 a0 a1 = some (st', v)) : bCt Γ0 l0 yJ2_checkOffset cJ2_checkOffset 2 none 1 23 [(0, a0), (0, a1)] s0 st' none := by
  refine b_ent (own := RJ2) (by decide +kernel) rfl (Nat.le_of_ble_eq_true rfl) (L := [(0, (0, a0)), (1, (0, a1))]) rfl ?_
  intro κ hκ hi hf
  unfold F_J2_checkOffset at h
  refine r_iload_n hκ 0 rfl rfl dJ2_checkOffset_0 ?_
  refine r_iload_n hκ 1 rfl rfl dJ2_checkOffset_1 ?_
  refine r_iload_n hκ 1 rfl rfl dJ2_checkOffset_2 ?_
  refine r_getsR hκ (j := 0) (by decide +kernel) q905 dJ2_checkOffset_3 ?_
  obtain ⟨s1, v1, h1, h⟩ := bcl_i h
  refine r_callS hκ (n' := 4) (index := 1062) (w_J18_checkFromToIndex Γ0 l0 h1) (lw_S q1072 q1073 q154 q1074) (by decide +kernel) rfl (by decide) rfl (Nat.le_of_ble_eq_true rfl) dJ2_checkOffset_6 ?_
  refine r_pop hκ (bd_cat0k _) dJ2_checkOffset_9 ?_
  exact r_vretH hκ hf h dJ2_checkOffset_10
/-- java/lang/AbstractStringBuilder.shift(II)V -/
def F_J0_shift (s0 : bS) (a0 a1 a2 : Int) : Option (bS × Int) :=
  bck (bg s0 0 a0 0 = 19) <|
  bck (bg s0 0 a0 0 = 19) <|
  bck (bg s0 0 a0 0 = 19) <|
  bck (bg s0 0 a0 0 = 19) <|
  bck (bg s0 0 a0 0 = 19) <|
  bck (bg s0 0 a0 0 = 19) <|
  bck ((bg s0 0 (bg s0 410 a0 0) 0 = 1000 ∧ bg s0 0 (bg s0 410 a0 0) 0 = 1000) ∧ ((0 : Int) ≤ (b_ishl a1 (bg s0 412 a0 0)) ∧ (0 : Int) ≤ (b_ishl (a1 + a2) (bg s0 412 a0 0)) ∧ (0 : Int) ≤ (b_ishl ((bg s0 420 a0 0) - a1) (bg s0 412 a0 0))) ∧ ((b_ishl a1 (bg s0 412 a0 0)) + (b_ishl ((bg s0 420 a0 0) - a1) (bg s0 412 a0 0)) ≤ bg s0 4 (bg s0 410 a0 0) 0 ∧ (b_ishl (a1 + a2) (bg s0 412 a0 0)) + (b_ishl ((bg s0 420 a0 0) - a1) (bg s0 412 a0 0)) ≤ bg s0 4 (bg s0 410 a0 0) 0) ∧ bg s0 1 (-1) 0 ≤ (bg s0 410 a0 0)) <|
  bst (bcp s0 8 (bg s0 410 a0 0) (b_ishl a1 (bg s0 412 a0 0)) (bg s0 410 a0 0) (b_ishl (a1 + a2) (bg s0 412 a0 0)) (b_ishl ((bg s0 420 a0 0) - a1) (bg s0 412 a0 0))) fun s1 =>
  some (s1, 0)
set_option maxHeartbeats 4000000 in
set_option maxRecDepth 100000 in
theorem w_J0_shift (Γ0 : bG) (l0 : Launch) {s0 st' : bS} {v a0 a1 a2 : Int} (h : F_J0_shift s0 a0 a1 a2 = some (st', v)) : bCt Γ0 l0 yJ0_shift cJ0_shift 3 none 1 40 [(2, a0), (0, a1), (0, a2)] s0 st' none := by
  refine b_ent (own := RJ0) (by decide +kernel) rfl (Nat.le_of_ble_eq_true rfl) (L := [(0, (2, a0)), (1, (0, a1)), (2, (0, a2))]) rfl ?_
  intro κ hκ hi hf
  unfold F_J0_shift at h
  refine r_aload_n hκ 0 rfl rfl dJ0_shift_0 ?_
  obtain ⟨h1, h⟩ := bck_i h
  refine r_get hκ (t := 18) (k := 0) (r := 410) h1 rfl in_J1 (by decide) rfl q302 (Or.inl rfl) dJ0_shift_1 ?_
  refine r_iload_n hκ 1 rfl rfl dJ0_shift_4 ?_
  refine r_aload_n hκ 0 rfl rfl dJ0_shift_5 ?_
  obtain ⟨h2, h⟩ := bck_i h
  refine r_get hκ (t := 18) (k := 1) (r := 412) h2 rfl in_J1 (by decide) rfl q303 (Or.inl rfl) dJ0_shift_6 ?_
  refine r_ishl hκ dJ0_shift_9 ?_
  refine r_aload_n hκ 0 rfl rfl dJ0_shift_10 ?_
  obtain ⟨h3, h⟩ := bck_i h
  refine r_get hκ (t := 18) (k := 0) (r := 410) h3 rfl in_J1 (by decide) rfl q302 (Or.inl rfl) dJ0_shift_11 ?_
  refine r_iload_n hκ 1 rfl rfl dJ0_shift_14 ?_
  refine r_iload_n hκ 2 rfl rfl dJ0_shift_15 ?_
  refine r_iadd hκ dJ0_shift_16 ?_
  refine r_aload_n hκ 0 rfl rfl dJ0_shift_17 ?_
  obtain ⟨h4, h⟩ := bck_i h
  refine r_get hκ (t := 18) (k := 1) (r := 412) h4 rfl in_J1 (by decide) rfl q303 (Or.inl rfl) dJ0_shift_18 ?_
  refine r_ishl hκ dJ0_shift_21 ?_
  refine r_aload_n hκ 0 rfl rfl dJ0_shift_22 ?_
  obtain ⟨h5, h⟩ := bck_i h
  refine r_get hκ (t := 18) (k := 3) (r := 420) h5 rfl in_J1 (by decide) rfl q306 (Or.inl rfl) dJ0_shift_23 ?_
  refine r_iload_n hκ 1 rfl rfl dJ0_shift_26 ?_
  refine r_isub hκ dJ0_shift_27 ?_
  refine r_aload_n hκ 0 rfl rfl dJ0_shift_28 ?_
  obtain ⟨h6, h⟩ := bck_i h
  refine r_get hκ (t := 18) (k := 1) (r := 412) h6 rfl in_J1 (by decide) rfl q303 (Or.inl rfl) dJ0_shift_29 ?_
  refine r_ishl hκ dJ0_shift_32 ?_
  obtain ⟨⟨⟨h7, h8⟩, ⟨h9, h10, h11⟩, ⟨h12, h13⟩, h14⟩, h⟩ := bck_i h
  refine r_acopy hκ (t := 0) (er := 8) h7 h8 (Or.inl (by decide)) rfl h9 h10 h11 h12 h13 h14 (fun h9 => absurd h9 (by decide)) q2367 q743 q742 q152 (by decide) (Nat.le_of_ble_eq_true rfl) dJ0_shift_33 (fun s1 es1 => ?_)
  replace h := bst_i h s1 es1
  exact r_vretH hκ hf h dJ0_shift_36
/-- java/lang/AbstractStringBuilder.insert(ILjava/lang/String;)Ljava/lang/AbstractStringBuilder; -/
def F_J0_insert_r (b : Nat) (x0 x1 x2 : Int) (s0 : bS) : Option (bS × Int) :=
  match b with
  | 0 =>
    bck (bg s0 0 x2 0 = 20) <|
    bcl (F_J2_length s0 x2) fun s2 v2 =>
    bck (bg s2 0 x0 0 = 19) <|
    bck (bg s2 0 x0 0 = 19) <|
    bcl (F_J0_ensureCapacityInternal s2 x0 ((bg s2 420 x0 0) + v2)) fun s3 v3 =>
    bck (bg s3 0 x0 0 = 19) <|
    bcl (F_J0_shift s3 x0 x1 v2) fun s4 v4 =>
    bck (bg s4 0 x0 0 = 19) <|
    bck ((bg s4 0 x0 0 = 19)) <|
    bst (bw s4 420 x0 0 ((bg s4 420 x0 0) + v2)) fun s5 =>
    bck (bg s5 0 x0 0 = 19) <|
    bcl (F_J0_putStringAt s5 x0 x1 x2) fun s6 v5 =>
    some (s6, x0)
  | _ => none
def F_J0_insert (s0 : bS) (a0 a1 a2 : Int) : Option (bS × Int) :=
  bck (bg s0 0 a0 0 = 19) <|
  bcl (F_J2_checkOffset s0 a1 (bg s0 420 a0 0)) fun s1 v1 =>
  bte (a2 < 0)
  (none)
  (F_J0_insert_r 0 a0 a1 a2 s1)
set_option maxHeartbeats 4000000 in
set_option maxRecDepth 100000 in
set_option synthInstance.maxHeartbeats 4000000 in
theorem w_J0_insert_r {Γ0 : bG} {l0 : Launch} {κ : bK} {st' : bS} {v : Int} (hκ : bOk κ Γ0 l0 cJ0_insert RJ0 4 4 91) (hi : bIn κ yJ0_insert) (hf : bFin κ (some (.object "java/lang/AbstractStringBuilder")) st' (some (2, v))) (b : Nat) (x0 x1 x2 : Int) (s0 : bS) (h : F_J0_insert_r b x0 x1 x2 s0 = some (st', v)) : match (generalizing := false) b with | 0 => bJ κ s0 15 [(0, (2, x0)), (1, (0, x1)), (2, (2, x2))] [] | _ => True := by
  unfold F_J0_insert_r at h
  match b, h with
  | 0, h =>
      refine r_aload_n hκ 2 rfl rfl dJ0_insert_15 ?_
      obtain ⟨h4, h⟩ := bck_i h
      obtain ⟨s2, v2, h5, h⟩ := bcl_i h
      refine r_callV hκ (n' := 0) (index := 32) (w_J2_length Γ0 l0 h5) (lw_V q1078 q874 q875 q126 q876) (by decide +kernel) (t := 19) h4 rfl rfl (by decide) rfl (Nat.le_of_ble_eq_true rfl) dJ0_insert_16 ?_
      refine r_istore_n hκ (L2 := [(3, (0, v2)), (0, (2, x0)), (1, (0, x1)), (2, (2, x2))]) (by decide) rfl rfl dJ0_insert_19 ?_
      refine r_aload_n hκ 1 rfl rfl dJ0_insert_20 ?_
      refine r_aload_n hκ 1 rfl rfl dJ0_insert_21 ?_
      obtain ⟨h6, h⟩ := bck_i h
      refine r_get hκ (t := 18) (k := 3) (r := 420) h6 rfl in_J1 (by decide) rfl q306 (Or.inl rfl) dJ0_insert_22 ?_
      refine r_iload_n hκ 0 rfl rfl dJ0_insert_25 ?_
      refine r_iadd hκ dJ0_insert_26 ?_
      obtain ⟨h7, h⟩ := bck_i h
      obtain ⟨s3, v3, h8, h⟩ := bcl_i h
      refine r_callP hκ (index := 100) (C := "java/lang/StringBuilder") (owner := "java/lang/AbstractStringBuilder") (n' := 1) (w_J0_ensureCapacityInternal Γ0 l0 h8) (fun R s args hts hsl hRR => va_cwU 1 (List.forall_mem_cons.mpr ⟨hsl ("java/lang/StringBuilder", ⟨"java/lang/AbstractStringBuilder", "ensureCapacityInternal", "(I)V"⟩) (by decide +kernel), hts⟩) (b_gP rfl q1025 q3586 q1027 q124 (lw_meth q1028)) rfl rfl rfl rfl (by decide +kernel) hRR) (t := 18) h7 rfl rfl (by decide) rfl (Nat.le_of_ble_eq_true rfl) dJ0_insert_27 ?_
      refine r_aload_n hκ 1 rfl rfl dJ0_insert_30 ?_
      refine r_iload_n hκ 2 rfl rfl dJ0_insert_31 ?_
      refine r_iload_n hκ 0 rfl rfl dJ0_insert_32 ?_
      obtain ⟨h9, h⟩ := bck_i h
      obtain ⟨s4, v4, h10, h⟩ := bcl_i h
      refine r_callP hκ (index := 283) (C := "java/lang/StringBuilder") (owner := "java/lang/AbstractStringBuilder") (n' := 2) (w_J0_shift Γ0 l0 h10) (fun R s args hts hsl hRR => va_cwU 2 (List.forall_mem_cons.mpr ⟨hsl ("java/lang/StringBuilder", ⟨"java/lang/AbstractStringBuilder", "shift", "(II)V"⟩) (by decide +kernel), hts⟩) (b_gP rfl q2363 q3605 q2365 q124 (lw_meth q2366)) rfl rfl rfl rfl (by decide +kernel) hRR) (t := 18) h9 rfl rfl (by decide) rfl (Nat.le_of_ble_eq_true rfl) dJ0_insert_33 ?_
      refine r_aload_n hκ 1 rfl rfl dJ0_insert_36 ?_
      refine r_dup hκ (bd_cat2k _) dJ0_insert_37 ?_
      obtain ⟨h11, h⟩ := bck_i h
      refine r_get hκ (t := 18) (k := 3) (r := 420) h11 rfl in_J1 (by decide) rfl q306 (Or.inl rfl) dJ0_insert_38 ?_
      refine r_iload_n hκ 0 rfl rfl dJ0_insert_41 ?_
      refine r_iadd hκ dJ0_insert_42 ?_
      obtain ⟨h12, h⟩ := bck_i h
      refine r_put hκ (t := 18) (k := 3) (r := 420) (ty := .int) tyJ1 tyJ1_ok nmJ1 h12 rfl in_J1 (by decide) rfl q306 (Or.inl rfl) rfl rfl rfl trivial (Or.inl (by decide)) dJ0_insert_43 (fun s5 es5 => ?_)
      replace h := bst_i h s5 es5
      refine r_aload_n hκ 1 rfl rfl dJ0_insert_46 ?_
      refine r_iload_n hκ 2 rfl rfl dJ0_insert_47 ?_
      refine r_aload_n hκ 3 rfl rfl dJ0_insert_48 ?_
      obtain ⟨h13, h⟩ := bck_i h
      obtain ⟨s6, v5, h14, h⟩ := bcl_i h
      refine r_callP hκ (index := 208) (C := "java/lang/StringBuilder") (owner := "java/lang/AbstractStringBuilder") (n' := 2) (w_J0_putStringAt Γ0 l0 h14) (fun R s args hts hsl hRR => va_cwU 2 (List.forall_mem_cons.mpr ⟨hsl ("java/lang/StringBuilder", ⟨"java/lang/AbstractStringBuilder", "putStringAt", "(ILjava/lang/String;)V"⟩) (by decide +kernel), hts⟩) (b_gP rfl q1079 q3588 q1081 q124 (lw_meth q1082)) rfl rfl rfl rfl (by decide +kernel) hRR) (t := 18) h13 rfl rfl (by decide) rfl (Nat.le_of_ble_eq_true rfl) dJ0_insert_49 ?_
      refine r_aload_n hκ 1 rfl rfl dJ0_insert_52 ?_
      exact r_aretH hκ hf h rt_o dJ0_insert_53
  | b + 1, h => trivial
set_option maxHeartbeats 4000000 in
set_option maxRecDepth 100000 in
theorem w_J0_insert (Γ0 : bG) (l0 : Launch) {s0 st' : bS} {v a0 a1 a2 : Int} (h : F_J0_insert s0 a0 a1 a2 = some (st', v)) : bCt Γ0 l0 yJ0_insert cJ0_insert 4 (some (.object "java/lang/AbstractStringBuilder")) 4 91 [(2, a0), (0, a1), (2, a2)] s0 st' (some (2, v)) := by
  refine b_ent (own := RJ0) (by decide +kernel) rfl (Nat.le_of_ble_eq_true rfl) (L := [(0, (2, a0)), (1, (0, a1)), (2, (2, a2))]) rfl ?_
  intro κ hκ hi hf
  unfold F_J0_insert at h
  refine r_iload_n hκ 1 rfl rfl dJ0_insert_0 ?_
  refine r_aload_n hκ 0 rfl rfl dJ0_insert_1 ?_
  obtain ⟨h1, h⟩ := bck_i h
  refine r_get hκ (t := 18) (k := 3) (r := 420) h1 rfl in_J1 (by decide) rfl q306 (Or.inl rfl) dJ0_insert_2 ?_
  obtain ⟨s1, v1, h2, h⟩ := bcl_i h
  refine r_callS hκ (n' := 2) (index := 315) (w_J2_checkOffset Γ0 l0 h2) (lw_S q2359 q2360 q126 q2361) (by decide +kernel) rfl (by decide) rfl (Nat.le_of_ble_eq_true rfl) dJ0_insert_5 ?_
  refine r_aload_n hκ 2 rfl rfl dJ0_insert_8 ?_
  refine r_ifnonnull hκ (tgt := 15) (by decide) dJ0_insert_9 (fun h3 => ?_) (fun h3 => ?_)
  · replace h := (bte_i h).2 h3
    exact r_sub [0, 1, 2] rfl (w_J0_insert_r hκ hi hf 0 _ _ _ _ h)
  · replace h := (bte_i h).1 h3
    cases h
/-- java/lang/StringBuilder.insert(ILjava/lang/String;)Ljava/lang/StringBuilder; -/
def F_J1_insert (s0 : bS) (a0 a1 a2 : Int) : Option (bS × Int) :=
  bck (bg s0 0 a0 0 = 19) <|
  bcl (F_J0_insert s0 a0 a1 a2) fun s1 v1 =>
  some (s1, a0)
set_option maxHeartbeats 4000000 in
set_option maxRecDepth 100000 in
theorem w_J1_insert (Γ0 : bG) (l0 : Launch) {s0 st' : bS} {v a0 a1 a2 : Int} (h : F_J1_insert s0 a0 a1 a2 = some (st', v)) : bCt Γ0 l0 yJ1_insert cJ1_insert 3 (some (.object "java/lang/StringBuilder")) 5 114 [(2, a0), (0, a1), (2, a2)] s0 st' (some (2, v)) := by
  refine b_ent (own := RJ1) (by decide +kernel) rfl (Nat.le_of_ble_eq_true rfl) (L := [(0, (2, a0)), (1, (0, a1)), (2, (2, a2))]) rfl ?_
  intro κ hκ hi hf
  unfold F_J1_insert at h
  refine r_aload_n hκ 0 rfl rfl dJ1_insert_0 ?_
  refine r_iload_n hκ 1 rfl rfl dJ1_insert_1 ?_
  refine r_aload_n hκ 2 rfl rfl dJ1_insert_2 ?_
  obtain ⟨h1, h⟩ := bck_i h
  obtain ⟨s1, v1, h2, h⟩ := bcl_i h
  refine r_callSU hκ (n' := 2) (index := 86) (w_J0_insert Γ0 l0 h2) (lw_app (lw_l5 q2356 q3604 q315 q2357 q124) (lw_meth q2358)) (by decide +kernel) (t := 18) h1 rfl rfl (by decide) rfl (Nat.le_of_ble_eq_true rfl) dJ1_insert_3 ?_
  refine r_pop hκ (bd_cat2k _) dJ1_insert_6 ?_
  refine r_aload_n hκ 0 rfl rfl dJ1_insert_7 ?_
  exact r_aretH hκ hf h rt_o dJ1_insert_8
/-- java/lang/AbstractStringBuilder.delete(II)Ljava/lang/AbstractStringBuilder; -/
def F_J0_delete_r (b : Nat) (x0 x1 x2 x3 : Int) (s0 : bS) : Option (bS × Int) :=
  match b with
  | 0 =>
    bcl (F_J18_checkFromToIndex s0 x1 x2 x3 (bg s0 1 (-(2 + 0)) 0)) fun s1 v1 =>
    bte (i32 (x2 - x1) ≤ 0)
    (some (s1, x0))
    (bck (bg s1 0 x0 0 = 19) <|
    bcl (F_J0_shift s1 x0 x2 (- (x2 - x1))) fun s2 v2 =>
    bck ((bg s2 0 x0 0 = 19)) <|
    bst (bw s2 420 x0 0 (x3 - (x2 - x1))) fun s3 =>
    bck ((bg s3 0 x0 0 = 19) ∧ ((1 : Int) = 0 ∨ (1 : Int) = 1)) <|
    bst (bw s3 416 x0 0 1) fun s4 =>
    some (s4, x0))
  | _ => none
def F_J0_delete (s0 : bS) (a0 a1 a2 : Int) : Option (bS × Int) :=
  bck (bg s0 0 a0 0 = 19) <|
  bte (i32 a2 ≤ i32 (bg s0 420 a0 0))
  (F_J0_delete_r 0 a0 a1 a2 (bg s0 420 a0 0) s0)
  (F_J0_delete_r 0 a0 a1 (bg s0 420 a0 0) (bg s0 420 a0 0) s0)
set_option maxHeartbeats 4000000 in
set_option maxRecDepth 100000 in
set_option synthInstance.maxHeartbeats 4000000 in
theorem w_J0_delete_r {Γ0 : bG} {l0 : Launch} {κ : bK} {st' : bS} {v : Int} (hκ : bOk κ Γ0 l0 cJ0_delete RJ0 5 2 62) (hi : bIn κ yJ0_delete) (hf : bFin κ (some (.object "java/lang/AbstractStringBuilder")) st' (some (2, v))) (b : Nat) (x0 x1 x2 x3 : Int) (s0 : bS) (h : F_J0_delete_r b x0 x1 x2 x3 s0 = some (st', v)) : match (generalizing := false) b with | 0 => bJ κ s0 12 [(0, (2, x0)), (1, (0, x1)), (2, (0, x2)), (3, (0, x3))] [] | _ => True := by
  unfold F_J0_delete_r at h
  match b, h with
  | 0, h =>
      refine r_iload_n hκ 1 rfl rfl dJ0_delete_12 ?_
      refine r_iload_n hκ 2 rfl rfl dJ0_delete_13 ?_
      refine r_iload_n hκ 3 rfl rfl dJ0_delete_14 ?_
      refine r_getsR hκ (j := 0) (by decide +kernel) q2201 dJ0_delete_15 ?_
      obtain ⟨s1, v1, h3, h⟩ := bcl_i h
      refine r_callS hκ (n' := 4) (index := 161) (w_J18_checkFromToIndex Γ0 l0 h3) (lw_S q2202 q1073 q154 q1074) (by decide +kernel) rfl (by decide) rfl (Nat.le_of_ble_eq_true rfl) dJ0_delete_18 ?_
      refine r_pop hκ (bd_cat0k _) dJ0_delete_21 ?_
      refine r_iload_n hκ 2 rfl rfl dJ0_delete_22 ?_
      refine r_iload_n hκ 1 rfl rfl dJ0_delete_23 ?_
      refine r_isub hκ dJ0_delete_24 ?_
      refine r_istore hκ (L2 := [(4, (0, (x2 - x1))), (0, (2, x0)), (1, (0, x1)), (2, (0, x2)), (3, (0, x3))]) (by decide) rfl dJ0_delete_25 ?_
      refine r_iload hκ 0 rfl dJ0_delete_27 ?_
      refine r_if_le hκ (tgt := 53) (by decide) dJ0_delete_29 (fun h4 => ?_) (fun h4 => ?_)
      · replace h := (bte_i h).1 h4
        refine r_aload_n hκ 1 rfl rfl dJ0_delete_53 ?_
        exact r_aretH hκ hf h rt_o dJ0_delete_54
      · replace h := (bte_i h).2 h4
        refine r_aload_n hκ 1 rfl rfl dJ0_delete_32 ?_
        refine r_iload_n hκ 3 rfl rfl dJ0_delete_33 ?_
        refine r_iload hκ 0 rfl dJ0_delete_34 ?_
        refine r_ineg hκ dJ0_delete_36 ?_
        obtain ⟨h5, h⟩ := bck_i h
        obtain ⟨s2, v2, h6, h⟩ := bcl_i h
        refine r_callP hκ (index := 283) (C := "java/lang/StringBuilder") (owner := "java/lang/AbstractStringBuilder") (n' := 2) (w_J0_shift Γ0 l0 h6) (fun R s args hts hsl hRR => va_cwU 2 (List.forall_mem_cons.mpr ⟨hsl ("java/lang/StringBuilder", ⟨"java/lang/AbstractStringBuilder", "shift", "(II)V"⟩) (by decide +kernel), hts⟩) (b_gP rfl q2363 q3605 q2365 q124 (lw_meth q2366)) rfl rfl rfl rfl (by decide +kernel) hRR) (t := 18) h5 rfl rfl (by decide) rfl (Nat.le_of_ble_eq_true rfl) dJ0_delete_37 ?_
        refine r_aload_n hκ 1 rfl rfl dJ0_delete_40 ?_
        refine r_iload_n hκ 4 rfl rfl dJ0_delete_41 ?_
        refine r_iload hκ 0 rfl dJ0_delete_42 ?_
        refine r_isub hκ dJ0_delete_44 ?_
        obtain ⟨h7, h⟩ := bck_i h
        refine r_put hκ (t := 18) (k := 3) (r := 420) (ty := .int) tyJ1 tyJ1_ok nmJ1 h7 rfl in_J1 (by decide) rfl q306 (Or.inl rfl) rfl rfl rfl trivial (Or.inl (by decide)) dJ0_delete_45 (fun s3 es3 => ?_)
        replace h := bst_i h s3 es3
        refine r_aload_n hκ 1 rfl rfl dJ0_delete_48 ?_
        refine r_iconst hκ dJ0_delete_49 ?_
        obtain ⟨⟨h8, h9⟩, h⟩ := bck_i h
        refine r_put hκ (t := 18) (k := 2) (r := 416) (ty := .boolean) tyJ1 tyJ1_ok nmJ1 h8 rfl in_J1 (by decide) rfl q304 (Or.inl rfl) rfl rfl rfl h9 (Or.inl (by decide)) dJ0_delete_50 (fun s4 es4 => ?_)
        replace h := bst_i h s4 es4
        refine r_aload_n hκ 1 rfl rfl dJ0_delete_53 ?_
        exact r_aretH hκ hf h rt_o dJ0_delete_54
  | b + 1, h => trivial
set_option maxHeartbeats 4000000 in
set_option maxRecDepth 100000 in
theorem w_J0_delete (Γ0 : bG) (l0 : Launch) {s0 st' : bS} {v a0 a1 a2 : Int} (h : F_J0_delete s0 a0 a1 a2 = some (st', v)) : bCt Γ0 l0 yJ0_delete cJ0_delete 5 (some (.object "java/lang/AbstractStringBuilder")) 2 62 [(2, a0), (0, a1), (0, a2)] s0 st' (some (2, v)) := by
  refine b_ent (own := RJ0) (by decide +kernel) rfl (Nat.le_of_ble_eq_true rfl) (L := [(0, (2, a0)), (1, (0, a1)), (2, (0, a2))]) rfl ?_
  intro κ hκ hi hf
  unfold F_J0_delete at h
  refine r_aload_n hκ 0 rfl rfl dJ0_delete_0 ?_
  obtain ⟨h1, h⟩ := bck_i h
  refine r_get hκ (t := 18) (k := 3) (r := 420) h1 rfl in_J1 (by decide) rfl q306 (Or.inl rfl) dJ0_delete_1 ?_
  refine r_istore_n hκ (L2 := [(3, (0, (bg s0 420 a0 0))), (0, (2, a0)), (1, (0, a1)), (2, (0, a2))]) (by decide) rfl rfl dJ0_delete_4 ?_
  refine r_iload_n hκ 3 rfl rfl dJ0_delete_5 ?_
  refine r_iload_n hκ 0 rfl rfl dJ0_delete_6 ?_
  refine r_icmp_le hκ (tgt := 12) (by decide) dJ0_delete_7 (fun h2 => ?_) (fun h2 => ?_)
  · replace h := (bte_i h).1 h2
    exact r_sub [1, 2, 3, 0] rfl (w_J0_delete_r hκ hi hf 0 _ _ _ _ _ h)
  · replace h := (bte_i h).2 h2
    refine r_iload_n hκ 0 rfl rfl dJ0_delete_10 ?_
    refine r_istore_n hκ (L2 := [(2, (0, (bg s0 420 a0 0))), (3, (0, (bg s0 420 a0 0))), (0, (2, a0)), (1, (0, a1))]) (by decide) rfl rfl dJ0_delete_11 ?_
    exact r_sub [2, 3, 0, 1] rfl (w_J0_delete_r hκ hi hf 0 _ _ _ _ _ h)
/-- java/lang/StringBuilder.delete(II)Ljava/lang/StringBuilder; -/
def F_J1_delete (s0 : bS) (a0 a1 a2 : Int) : Option (bS × Int) :=
  bck (bg s0 0 a0 0 = 19) <|
  bcl (F_J0_delete s0 a0 a1 a2) fun s1 v1 =>
  some (s1, a0)
set_option maxHeartbeats 4000000 in
set_option maxRecDepth 100000 in
theorem w_J1_delete (Γ0 : bG) (l0 : Launch) {s0 st' : bS} {v a0 a1 a2 : Int} (h : F_J1_delete s0 a0 a1 a2 = some (st', v)) : bCt Γ0 l0 yJ1_delete cJ1_delete 3 (some (.object "java/lang/StringBuilder")) 3 86 [(2, a0), (0, a1), (0, a2)] s0 st' (some (2, v)) := by
  refine b_ent (own := RJ1) (by decide +kernel) rfl (Nat.le_of_ble_eq_true rfl) (L := [(0, (2, a0)), (1, (0, a1)), (2, (0, a2))]) rfl ?_
  intro κ hκ hi hf
  unfold F_J1_delete at h
  refine r_aload_n hκ 0 rfl rfl dJ1_delete_0 ?_
  refine r_iload_n hκ 1 rfl rfl dJ1_delete_1 ?_
  refine r_iload_n hκ 2 rfl rfl dJ1_delete_2 ?_
  obtain ⟨h1, h⟩ := bck_i h
  obtain ⟨s1, v1, h2, h⟩ := bcl_i h
  refine r_callSU hκ (n' := 2) (index := 68) (w_J0_delete Γ0 l0 h2) (lw_app (lw_l5 q2372 q3606 q315 q2373 q124) (lw_meth q2374)) (by decide +kernel) (t := 18) h1 rfl rfl (by decide) rfl (Nat.le_of_ble_eq_true rfl) dJ1_delete_3 ?_
  refine r_pop hκ (bd_cat2k _) dJ1_delete_6 ?_
  refine r_aload_n hκ 0 rfl rfl dJ1_delete_7 ?_
  exact r_aretH hκ hf h rt_o dJ1_delete_8
/-- java/lang/AbstractStringBuilder.setCharAt(IC)V -/
def F_J0_setCharAt_r (b : Nat) (x0 x1 x2 : Int) (s0 : bS) : Option (bS × Int) :=
  match b with
  | 0 =>
    bck (bg s0 0 x0 0 = 19) <|
    bcl (F_J0_isLatin1 s0 x0) fun s5 v4 =>
    bte (i32 v4 = 0)
    (F_J0_setCharAt_r 1 x0 x1 x2 s5)
    (bck (bg s5 0 x0 0 = 19) <|
    bcl (F_J0_inflate s5 x0) fun s6 v5 =>
    F_J0_setCharAt_r 1 x0 x1 x2 s6)
  | 1 =>
    bck (bg s0 0 x0 0 = 19) <|
    none
  | _ => none
partial_fixpoint
def F_J0_setCharAt (s0 : bS) (a0 a1 a2 : Int) : Option (bS × Int) :=
  bck (bg s0 0 a0 0 = 19) <|
  bcl (F_J2_checkIndex s0 a1 (bg s0 420 a0 0)) fun s1 v1 =>
  bck (bg s1 0 a0 0 = 19) <|
  bcl (F_J0_isLatin1 s1 a0) fun s2 v2 =>
  bte (i32 v2 = 0)
  (F_J0_setCharAt_r 0 a0 a1 a2 s2)
  (bcl (F_J20_canEncode s2 a2) fun s3 v3 =>
  bte (i32 v3 = 0)
  (F_J0_setCharAt_r 0 a0 a1 a2 s3)
  (bck (bg s3 0 a0 0 = 19) <|
  bck ((bg s3 0 (bg s3 410 a0 0) 0 = 1000 ∧ (0 : Int) ≤ a1 ∧ a1 < bg s3 4 (bg s3 410 a0 0) 0) ∧ bg s3 1 (-1) 0 ≤ (bg s3 410 a0 0)) <|
  bst (bw s3 8 (bg s3 410 a0 0) a1 (b_i2b (b_i2b a2))) fun s4 =>
  some (s4, 0)))
set_option maxHeartbeats 4000000 in
set_option maxRecDepth 100000 in
set_option synthInstance.maxHeartbeats 4000000 in
theorem w_J0_setCharAt_r {Γ0 : bG} {l0 : Launch} {κ : bK} {st' : bS} {v : Int} (hκ : bOk κ Γ0 l0 cJ0_setCharAt RJ0 3 2 43) (hi : bIn κ yJ0_setCharAt) (hf : bFin κ none st' none) (b : Nat) (x0 x1 x2 : Int) (s0 : bS) (h : F_J0_setCharAt_r b x0 x1 x2 s0 = some (st', v)) : match (generalizing := false) b with | 0 => bJ κ s0 33 [(0, (2, x0)), (1, (0, x1)), (2, (0, x2))] [] | 1 => bJ κ s0 44 [(0, (2, x0)), (1, (0, x1)), (2, (0, x2))] [] | _ => True := by
  refine F_J0_setCharAt_r.partial_correctness x0 x1 x2 (fun b s0 r => r = (st', v) → match (generalizing := false) b with | 0 => bJ κ s0 33 [(0, (2, x0)), (1, (0, x1)), (2, (0, x2))] [] | 1 => bJ κ s0 44 [(0, (2, x0)), (1, (0, x1)), (2, (0, x2))] [] | _ => True) ?_ b s0 _ h rfl
  intro f' ih b s0 r h hr
  subst hr
  match b, h with
  | 0, h =>
      refine r_aload_n hκ 0 rfl rfl dJ0_setCharAt_33 ?_
      obtain ⟨h12, h⟩ := bck_i h
      obtain ⟨s5, v4, h13, h⟩ := bcl_i h
      refine r_callU hκ (index := 83) (C := "java/lang/StringBuilder") (owner := "java/lang/AbstractStringBuilder") (n' := 0) (w_J0_isLatin1 Γ0 l0 h13) (fun R s args hts hRR => va_cwU 0 hts (lw_app (lw_l5 q1058 q1060 q1061 q1059 q124) (lw_meth q1062)) rfl rfl rfl rfl (by decide +kernel) hRR) (t := 18) h12 rfl rfl (by decide) rfl (Nat.le_of_ble_eq_true rfl) dJ0_setCharAt_34 ?_
      refine r_if_eq hκ (tgt := 44) (by decide) dJ0_setCharAt_37 (fun h14 => ?_) (fun h14 => ?_)
      · replace h := (bte_i h).1 h14
        exact r_sub [0, 1, 2] rfl (ih 1  _ _ h rfl)
      · replace h := (bte_i h).2 h14
        refine r_aload_n hκ 0 rfl rfl dJ0_setCharAt_40 ?_
        obtain ⟨h15, h⟩ := bck_i h
        obtain ⟨s6, v5, h16, h⟩ := bcl_i h
        refine r_callP hκ (index := 195) (C := "java/lang/StringBuilder") (owner := "java/lang/AbstractStringBuilder") (n' := 0) (w_J0_inflate Γ0 l0 h16) (fun R s args hts hsl hRR => va_cwU 0 (List.forall_mem_cons.mpr ⟨hsl ("java/lang/StringBuilder", ⟨"java/lang/AbstractStringBuilder", "inflate", "()V"⟩) (by decide +kernel), hts⟩) (b_gP rfl q1088 q3590 q1090 q124 (lw_meth q1091)) rfl rfl rfl rfl (by decide +kernel) hRR) (t := 18) h15 rfl rfl (by decide) rfl (Nat.le_of_ble_eq_true rfl) dJ0_setCharAt_41 ?_
        exact r_sub [0, 1, 2] rfl (ih 1  _ _ h rfl)
  | 1, h =>
      refine r_aload_n hκ 0 rfl rfl dJ0_setCharAt_44 ?_
      obtain ⟨h17, h⟩ := bck_i h
      refine r_get hκ (t := 18) (k := 0) (r := 410) h17 rfl in_J1 (by decide) rfl q302 (Or.inl rfl) dJ0_setCharAt_45 ?_
      refine r_iload_n hκ 1 rfl rfl dJ0_setCharAt_48 ?_
      refine r_iload_n hκ 2 rfl rfl dJ0_setCharAt_49 ?_
      cases h
  | b + 2, h => trivial
set_option maxHeartbeats 4000000 in
set_option maxRecDepth 100000 in
theorem w_J0_setCharAt (Γ0 : bG) (l0 : Launch) {s0 st' : bS} {v a0 a1 a2 : Int} (h : F_J0_setCharAt s0 a0 a1 a2 = some (st', v)) : bCt Γ0 l0 yJ0_setCharAt cJ0_setCharAt 3 none 2 43 [(2, a0), (0, a1), (0, a2)] s0 st' none := by
  refine b_ent (own := RJ0) (by decide +kernel) rfl (Nat.le_of_ble_eq_true rfl) (L := [(0, (2, a0)), (1, (0, a1)), (2, (0, a2))]) rfl ?_
  intro κ hκ hi hf
  unfold F_J0_setCharAt at h
  refine r_iload_n hκ 1 rfl rfl dJ0_setCharAt_0 ?_
  refine r_aload_n hκ 0 rfl rfl dJ0_setCharAt_1 ?_
  obtain ⟨h1, h⟩ := bck_i h
  refine r_get hκ (t := 18) (k := 3) (r := 420) h1 rfl in_J1 (by decide) rfl q306 (Or.inl rfl) dJ0_setCharAt_2 ?_
  obtain ⟨s1, v1, h2, h⟩ := bcl_i h
  refine r_callS hκ (n' := 2) (index := 144) (w_J2_checkIndex Γ0 l0 h2) (lw_S q2041 q903 q126 q904) (by decide +kernel) rfl (by decide) rfl (Nat.le_of_ble_eq_true rfl) dJ0_setCharAt_5 ?_
  refine r_aload_n hκ 0 rfl rfl dJ0_setCharAt_8 ?_
  obtain ⟨h3, h⟩ := bck_i h
  obtain ⟨s2, v2, h4, h⟩ := bcl_i h
  refine r_callU hκ (index := 83) (C := "java/lang/StringBuilder") (owner := "java/lang/AbstractStringBuilder") (n' := 0) (w_J0_isLatin1 Γ0 l0 h4) (fun R s args hts hRR => va_cwU 0 hts (lw_app (lw_l5 q1058 q1060 q1061 q1059 q124) (lw_meth q1062)) rfl rfl rfl rfl (by decide +kernel) hRR) (t := 18) h3 rfl rfl (by decide) rfl (Nat.le_of_ble_eq_true rfl) dJ0_setCharAt_9 ?_
  refine r_if_eq hκ (tgt := 33) (by decide) dJ0_setCharAt_12 (fun h5 => ?_) (fun h5 => ?_)
  · replace h := (bte_i h).1 h5
    exact r_sub [0, 1, 2] rfl (w_J0_setCharAt_r hκ hi hf 0 _ _ _ _ h)
  · replace h := (bte_i h).2 h5
    refine r_iload_n hκ 2 rfl rfl dJ0_setCharAt_15 ?_
    obtain ⟨s3, v3, h6, h⟩ := bcl_i h
    refine r_callS hκ (n' := 1) (index := 191) (w_J20_canEncode Γ0 l0 h6) (lw_S q1120 q1121 q156 q1122) (by decide +kernel) rfl (by decide) rfl (Nat.le_of_ble_eq_true rfl) dJ0_setCharAt_16 ?_
    refine r_if_eq hκ (tgt := 33) (by decide) dJ0_setCharAt_19 (fun h7 => ?_) (fun h7 => ?_)
    · replace h := (bte_i h).1 h7
      exact r_sub [0, 1, 2] rfl (w_J0_setCharAt_r hκ hi hf 0 _ _ _ _ h)
    · replace h := (bte_i h).2 h7
      refine r_aload_n hκ 0 rfl rfl dJ0_setCharAt_22 ?_
      obtain ⟨h8, h⟩ := bck_i h
      refine r_get hκ (t := 18) (k := 0) (r := 410) h8 rfl in_J1 (by decide) rfl q302 (Or.inl rfl) dJ0_setCharAt_23 ?_
      refine r_iload_n hκ 1 rfl rfl dJ0_setCharAt_26 ?_
      refine r_iload_n hκ 2 rfl rfl dJ0_setCharAt_27 ?_
      refine r_i2b hκ dJ0_setCharAt_28 ?_
      obtain ⟨⟨⟨h9, h10⟩, h11⟩, h⟩ := bck_i h
      refine r_bast hκ h9 h10 h11 dJ0_setCharAt_29 (fun s4 es4 => ?_)
      replace h := bst_i h s4 es4
      refine r_goto hκ (tgt := 58) (by decide) dJ0_setCharAt_30 ?_
      exact r_vretH hκ hf h dJ0_setCharAt_58
/-- java/lang/StringBuilder.setCharAt(IC)V -/
def F_J1_setCharAt (s0 : bS) (a0 a1 a2 : Int) : Option (bS × Int) :=
  bck (bg s0 0 a0 0 = 19) <|
  bcl (F_J0_setCharAt s0 a0 a1 a2) fun s1 v1 =>
  some (s1, 0)
set_option maxHeartbeats 4000000 in
set_option maxRecDepth 100000 in
theorem w_J1_setCharAt (Γ0 : bG) (l0 : Launch) {s0 st' : bS} {v a0 a1 a2 : Int} (h : F_J1_setCharAt s0 a0 a1 a2 = some (st', v)) : bCt Γ0 l0 yJ1_setCharAt cJ1_setCharAt 3 none 3 65 [(2, a0), (0, a1), (0, a2)] s0 st' none := by
  refine b_ent (own := RJ1) (by decide +kernel) rfl (Nat.le_of_ble_eq_true rfl) (L := [(0, (2, a0)), (1, (0, a1)), (2, (0, a2))]) rfl ?_
  intro κ hκ hi hf
  unfold F_J1_setCharAt at h
  refine r_aload_n hκ 0 rfl rfl dJ1_setCharAt_0 ?_
  refine r_iload_n hκ 1 rfl rfl dJ1_setCharAt_1 ?_
  refine r_iload_n hκ 2 rfl rfl dJ1_setCharAt_2 ?_
  obtain ⟨h1, h⟩ := bck_i h
  obtain ⟨s1, v1, h2, h⟩ := bcl_i h
  refine r_callSU hκ (n' := 2) (index := 308) (w_J0_setCharAt Γ0 l0 h2) (lw_app (lw_l5 q2379 q3607 q315 q2380 q124) (lw_meth q2381)) (by decide +kernel) (t := 18) h1 rfl rfl (by decide) rfl (Nat.le_of_ble_eq_true rfl) dJ1_setCharAt_3 ?_
  exact r_vretH hκ hf h dJ1_setCharAt_6
/-- java/util/LinkedList$ListItr.<init>(Ljava/util/LinkedList;I)V -/
def F_J28_init_r (b : Nat) (x0 x1 x2 x3 : Int) (s0 : bS) : Option (bS × Int) :=
  match b with
  | 0 =>
    bck ((bg s0 0 x3 0 = 25)) <|
    bst (bw s0 490 x3 0 x2) fun s4 =>
    bck ((bg s4 0 x0 0 = 25)) <|
    bst (bw s4 492 x0 0 x1) fun s5 =>
    some (s5, 0)
  | _ => none
def F_J28_init (s0 : bS) (a0 a1 a2 : Int) : Option (bS × Int) :=
  bck ((bg s0 0 a0 0 = 25)) <|
  bst (bw s0 502 a0 0 a1) fun s1 =>
  bck ((0 : Int) ≤ a0) <|
  bck (bg s1 0 a0 0 = 25) <|
  bck (bg s1 0 (bg s1 502 a0 0) 0 = 22) <|
  bck ((bg s1 0 a0 0 = 25)) <|
  bst (bw s1 496 a0 0 (bg s1 440 (bg s1 502 a0 0) 0)) fun s2 =>
  bck (bg s2 0 a1 0 = 22) <|
  bte (i32 a2 = i32 (bg s2 452 a1 0))
  (F_J28_init_r 0 a0 a2 (-1) a0 s2)
  (bck (bg s2 0 a1 0 = 22) <|
  bcl (F_J12_node s2 a1 a2) fun s3 v1 =>
  F_J28_init_r 0 a0 a2 v1 a0 s3)
set_option maxHeartbeats 4000000 in
set_option maxRecDepth 100000 in
set_option synthInstance.maxHeartbeats 4000000 in
theorem w_J28_init_r {Γ0 : bG} {l0 : Launch} {κ : bK} {st' : bS} {v : Int} (hκ : bOk κ Γ0 l0 cJ28_init RJ28 3 1 23) (hi : bIn κ yJ28_init) (hf : bFin κ none st' none) (b : Nat) (x0 x1 x2 x3 : Int) (s0 : bS) (h : F_J28_init_r b x0 x1 x2 x3 s0 = some (st', v)) : match (generalizing := false) b with | 0 => bJ κ s0 38 [(0, (2, x0)), (2, (0, x1))] [(2, x2), (2, x3)] | _ => True := by
  unfold F_J28_init_r at h
  match b, h with
  | 0, h =>
      obtain ⟨h10, h⟩ := bck_i h
      refine r_put hκ (t := 24) (k := 1) (r := 490) (ty := (.object "java/util/LinkedList$Node")) tyJ28 tyJ28_ok nmJ28 h10 rfl in_J28 (by decide) rfl q2589 (Or.inl rfl) rfl rfl rfl trivial (Or.inl (by decide)) dJ28_init_38 (fun s4 es4 => ?_)
      replace h := bst_i h s4 es4
      refine r_aload_n hκ 0 rfl rfl dJ28_init_41 ?_
      refine r_iload_n hκ 1 rfl rfl dJ28_init_42 ?_
      obtain ⟨h11, h⟩ := bck_i h
      refine r_put hκ (t := 24) (k := 2) (r := 492) (ty := .int) tyJ28 tyJ28_ok nmJ28 h11 rfl in_J28 (by decide) rfl q2590 (Or.inl rfl) rfl rfl rfl trivial (Or.inl (by decide)) dJ28_init_43 (fun s5 es5 => ?_)
      replace h := bst_i h s5 es5
      exact r_vretH hκ hf h dJ28_init_46
  | b + 1, h => trivial
set_option maxHeartbeats 4000000 in
set_option maxRecDepth 100000 in
theorem w_J28_init (Γ0 : bG) (l0 : Launch) {s0 st' : bS} {v a0 a1 a2 : Int} (h : F_J28_init s0 a0 a1 a2 = some (st', v)) : bCt Γ0 l0 yJ28_init cJ28_init 3 none 1 23 [(2, a0), (2, a1), (0, a2)] s0 st' none := by
  refine b_ent (own := RJ28) (by decide +kernel) rfl (Nat.le_of_ble_eq_true rfl) (L := [(0, (2, a0)), (1, (2, a1)), (2, (0, a2))]) rfl ?_
  intro κ hκ hi hf
  unfold F_J28_init at h
  refine r_aload_n hκ 0 rfl rfl dJ28_init_0 ?_
  refine r_aload_n hκ 1 rfl rfl dJ28_init_1 ?_
  obtain ⟨h1, h⟩ := bck_i h
  refine r_putF hκ (hi.init rfl) (t := 24) (k := 4) (r := 502) (ty := (.object "java/util/LinkedList")) tyJ28 tyJ28_ok nmJ28 h1 rfl in_J28 (by decide) rfl q2592 rfl rfl rfl rfl rfl trivial (Or.inl (by decide)) dJ28_init_2 (fun s1 es1 => ?_)
  replace h := bst_i h s1 es1
  refine r_aload_n hκ 0 rfl rfl dJ28_init_5 ?_
  obtain ⟨h2, h⟩ := bck_i h
  refine r_oinit hκ h2 q2586 q183 q184 (by decide) (Nat.le_of_ble_eq_true rfl) dJ28_init_6 ?_
  refine r_aload_n hκ 0 rfl rfl dJ28_init_9 ?_
  refine r_aload_n hκ 0 rfl rfl dJ28_init_10 ?_
  obtain ⟨h3, h⟩ := bck_i h
  refine r_get hκ (t := 24) (k := 4) (r := 502) h3 rfl in_J28 (by decide) rfl q2592 (Or.inl rfl) dJ28_init_11 ?_
  obtain ⟨h4, h⟩ := bck_i h
  refine r_get hκ (t := 21) (k := 0) (r := 440) h4 rfl in_J12 (by decide) rfl q342 (Or.inr q343) dJ28_init_14 ?_
  obtain ⟨h5, h⟩ := bck_i h
  refine r_put hκ (t := 24) (k := 3) (r := 496) (ty := .int) tyJ28 tyJ28_ok nmJ28 h5 rfl in_J28 (by decide) rfl q2591 (Or.inl rfl) rfl rfl rfl trivial (Or.inl (by decide)) dJ28_init_17 (fun s2 es2 => ?_)
  replace h := bst_i h s2 es2
  refine r_aload_n hκ 0 rfl rfl dJ28_init_20 ?_
  refine r_iload_n hκ 2 rfl rfl dJ28_init_21 ?_
  refine r_aload_n hκ 1 rfl rfl dJ28_init_22 ?_
  obtain ⟨h6, h⟩ := bck_i h
  refine r_get hκ (t := 21) (k := 1) (r := 452) h6 rfl in_J12 (by decide) rfl q460 (Or.inl rfl) dJ28_init_23 ?_
  refine r_icmp_ne hκ (tgt := 33) (by decide) dJ28_init_26 (fun h7 => ?_) (fun h7 => ?_)
  · replace h := (bte_i h).2 h7
    refine r_aload_n hκ 1 rfl rfl dJ28_init_33 ?_
    refine r_iload_n hκ 2 rfl rfl dJ28_init_34 ?_
    obtain ⟨h8, h⟩ := bck_i h
    obtain ⟨s3, v1, h9, h⟩ := bcl_i h
    refine r_callV hκ (n' := 1) (index := 25) (w_J12_node Γ0 l0 h9) (lw_V q2587 q1866 q1867 q144 q1868) (by decide +kernel) (t := 21) h8 rfl rfl (by decide) rfl (Nat.le_of_ble_eq_true rfl) dJ28_init_35 ?_
    exact r_sub [0, 2] rfl (w_J28_init_r hκ hi hf 0 _ _ _ _ _ h)
  · replace h := (bte_i h).1 h7
    refine r_null hκ dJ28_init_29 ?_
    refine r_goto hκ (tgt := 38) (by decide) dJ28_init_30 ?_
    exact r_sub [0, 2] rfl (w_J28_init_r hκ hi hf 0 _ _ _ _ _ h)
/-- java/util/LinkedList$DescendingIterator.<init>(Ljava/util/LinkedList;)V -/
def F_J27_init (s0 : bS) (a0 a1 : Int) : Option (bS × Int) :=
  bck ((bg s0 0 a0 0 = 24)) <|
  bst (bw s0 482 a0 0 a1) fun s1 =>
  bck ((0 : Int) ≤ a0) <|
  bck (bc s1 + 1 ≤ bCM ∧ bk s1 + 5 ≤ bKM) <|
  bst (bnw s1 25 0 5) fun s2 =>
  bck (bg s2 0 a0 0 = 24) <|
  bck (bg s2 0 a0 0 = 24) <|
  bck (bg s2 0 (bg s2 482 a0 0) 0 = 22) <|
  bcl (F_J12_size s2 (bg s2 482 a0 0)) fun s3 v1 =>
  bck (bg s3 0 (bnx s1 : Int) 0 = 25) <|
  bcl (F_J28_init s3 (bnx s1 : Int) (bg s2 482 a0 0) v1) fun s4 v2 =>
  bck ((bg s4 0 a0 0 = 24)) <|
  bst (bw s4 478 a0 0 (bnx s1 : Int)) fun s5 =>
  some (s5, 0)
set_option maxHeartbeats 4000000 in
set_option maxRecDepth 100000 in
theorem w_J27_init (Γ0 : bG) (l0 : Launch) {s0 st' : bS} {v a0 a1 : Int} (h : F_J27_init s0 a0 a1 = some (st', v)) : bCt Γ0 l0 yJ27_init cJ27_init 2 none 2 45 [(2, a0), (2, a1)] s0 st' none := by
  refine b_ent (own := RJ27) (by decide +kernel) rfl (Nat.le_of_ble_eq_true rfl) (L := [(0, (2, a0)), (1, (2, a1))]) rfl ?_
  intro κ hκ hi hf
  unfold F_J27_init at h
  refine r_aload_n hκ 0 rfl rfl dJ27_init_0 ?_
  refine r_aload_n hκ 1 rfl rfl dJ27_init_1 ?_
  obtain ⟨h1, h⟩ := bck_i h
  refine r_putF hκ (hi.init rfl) (t := 23) (k := 1) (r := 482) (ty := (.object "java/util/LinkedList")) tyJ27 tyJ27_ok nmJ27 h1 rfl in_J27 (by decide) rfl q2605 rfl rfl rfl rfl rfl trivial (Or.inl (by decide)) dJ27_init_2 (fun s1 es1 => ?_)
  replace h := bst_i h s1 es1
  refine r_aload_n hκ 0 rfl rfl dJ27_init_5 ?_
  obtain ⟨h2, h⟩ := bck_i h
  refine r_oinit hκ h2 q2579 q183 q184 (by decide) (Nat.le_of_ble_eq_true rfl) dJ27_init_6 ?_
  refine r_aload_n hκ 0 rfl rfl dJ27_init_9 ?_
  obtain ⟨h3, h⟩ := bck_i h
  refine r_new hκ (t := 24) tyJ28 tyJ28_ok dfJ28 rfl in_J28 q2580 q2581 q171 h3 dJ27_init_10 (fun s2 es2 => ?_)
  replace h := bst_i h s2 es2
  refine r_dup hκ (bd_cat2k _) dJ27_init_13 ?_
  refine r_aload_n hκ 0 rfl rfl dJ27_init_14 ?_
  obtain ⟨h4, h⟩ := bck_i h
  refine r_get hκ (t := 23) (k := 1) (r := 482) h4 rfl in_J27 (by decide) rfl q2605 (Or.inl rfl) dJ27_init_15 ?_
  refine r_aload_n hκ 0 rfl rfl dJ27_init_18 ?_
  obtain ⟨h5, h⟩ := bck_i h
  refine r_get hκ (t := 23) (k := 1) (r := 482) h5 rfl in_J27 (by decide) rfl q2605 (Or.inl rfl) dJ27_init_19 ?_
  obtain ⟨h6, h⟩ := bck_i h
  obtain ⟨s3, v1, h7, h⟩ := bcl_i h
  refine r_callV hκ (n' := 0) (index := 15) (w_J12_size Γ0 l0 h7) (lw_V q2582 q1693 q3603 q144 q1694) (by decide +kernel) (t := 21) h6 rfl rfl (by decide) rfl (Nat.le_of_ble_eq_true rfl) dJ27_init_22 ?_
  obtain ⟨h8, h⟩ := bck_i h
  obtain ⟨s4, v2, h9, h⟩ := bcl_i h
  refine r_callI hκ (n' := 2) (index := 21) (w_J28_init Γ0 l0 h9) (lw_meth q2585) q171 q2583 q2584 rfl (by decide +kernel) (t := 24) h8 rfl rfl (by decide) rfl (Nat.le_of_ble_eq_true rfl) dJ27_init_25 ?_
  obtain ⟨h10, h⟩ := bck_i h
  refine r_putF hκ (hi.init rfl) (t := 23) (k := 0) (r := 478) (ty := (.object "java/util/LinkedList$ListItr")) tyJ27 tyJ27_ok nmJ27 h10 rfl in_J27 (by decide) rfl q2604 rfl rfl rfl rfl rfl trivial (Or.inl (by decide)) dJ27_init_28 (fun s5 es5 => ?_)
  replace h := bst_i h s5 es5
  exact r_vretH hκ hf h dJ27_init_31
/-- java/util/LinkedList.descendingIterator()Ljava/util/Iterator; -/
def F_J12_descendingIterator (s0 : bS) (a0 : Int) : Option (bS × Int) :=
  bck (bc s0 + 1 ≤ bCM ∧ bk s0 + 2 ≤ bKM) <|
  bst (bnw s0 24 0 2) fun s1 =>
  bck (bg s1 0 (bnx s0 : Int) 0 = 24) <|
  bcl (F_J27_init s1 (bnx s0 : Int) a0) fun s2 v1 =>
  some (s2, (bnx s0 : Int))
set_option maxHeartbeats 4000000 in
set_option maxRecDepth 100000 in
theorem w_J12_descendingIterator (Γ0 : bG) (l0 : Launch) {s0 st' : bS} {v a0 : Int} (h : F_J12_descendingIterator s0 a0 = some (st', v)) : bCt Γ0 l0 yJ12_descendingIterator cJ12_descendingIterator 1 (some (.object "java/util/Iterator")) 3 66 [(2, a0)] s0 st' (some (2, v)) := by
  refine b_ent (own := RJ12) (by decide +kernel) rfl (Nat.le_of_ble_eq_true rfl) (L := [(0, (2, a0))]) rfl ?_
  intro κ hκ hi hf
  unfold F_J12_descendingIterator at h
  obtain ⟨h1, h⟩ := bck_i h
  refine r_new hκ (t := 23) tyJ27 tyJ27_ok dfJ27 rfl in_J27 q2574 q2575 q170 h1 dJ12_descendingIterator_0 (fun s1 es1 => ?_)
  replace h := bst_i h s1 es1
  refine r_dup hκ (bd_cat2k _) dJ12_descendingIterator_3 ?_
  refine r_aload_n hκ 0 rfl rfl dJ12_descendingIterator_4 ?_
  obtain ⟨h2, h⟩ := bck_i h
  obtain ⟨s2, v1, h3, h⟩ := bcl_i h
  refine r_callIN hκ (n' := 1) (host := "java/util/LinkedList") (index := 157) (w_J27_init Γ0 l0 h3) (lw_meth q2578) (by decide +kernel) q170 (by decide +kernel) q2577 rfl (t := 23) h2 rfl rfl (by decide) rfl (Nat.le_of_ble_eq_true rfl) dJ12_descendingIterator_5 ?_
  exact r_aretH hκ hf h rt_o dJ12_descendingIterator_8
/-- java/util/AbstractCollection.isEmpty()Z -/
def F_J8_isEmpty (s0 : bS) (a0 : Int) : Option (bS × Int) :=
  bcl (bte (bg s0 0 a0 0 = 21) (F_J10_size s0 a0) (bte (bg s0 0 a0 0 = 22) (F_J12_size s0 a0) (none))) fun s1 v1 =>
  bte (i32 v1 = 0)
  (some (s1, 1))
  (some (s1, 0))
set_option maxHeartbeats 4000000 in
set_option maxRecDepth 100000 in
theorem w_J8_isEmpty (Γ0 : bG) (l0 : Launch) {s0 st' : bS} {v a0 : Int} (h : F_J8_isEmpty s0 a0 = some (st', v)) : bCt Γ0 l0 yJ8_isEmpty cJ8_isEmpty 1 (some .boolean) 1 20 [(2, a0)] s0 st' (some (0, v)) := by
  refine b_ent (own := RJ8) (by decide +kernel) rfl (Nat.le_of_ble_eq_true rfl) (L := [(0, (2, a0))]) rfl ?_
  intro κ hκ hi hf
  unfold F_J8_isEmpty at h
  refine r_aload_n hκ 0 rfl rfl dJ8_isEmpty_0 ?_
  obtain ⟨s1, v1, h1, h⟩ := bcl_i h
  refine r_seq (A := bJ κ s1 4 [(0, (2, a0))] [(0, v1)]) ?_ (fun k0 => ?_)
  case refine_2 =>
    by_cases h2 : bg s0 0 a0 0 = 21
    · have hq0 := (bte_i h1).1 h2
      exact r_callUA hκ (n' := 0) (index := 7) (C := "java/util/ArrayList") (owner := "java/util/AbstractCollection") (w_J10_size Γ0 l0 hq0) (lw_app (lw_l5 q2655 q3608 q3609 q811 q134) (lw_meth q813)) (by decide +kernel) (by decide +kernel) (t := 20) h2 rfl rfl (by decide) rfl (Nat.le_of_ble_eq_true rfl) dJ8_isEmpty_1 k0
    replace h1 := (bte_i h1).2 h2
    by_cases h3 : bg s0 0 a0 0 = 22
    · have hq0 := (bte_i h1).1 h3
      exact r_callUA hκ (n' := 0) (index := 7) (C := "java/util/LinkedList") (owner := "java/util/AbstractCollection") (w_J12_size Γ0 l0 hq0) (lw_app (lw_l5 q2655 q3608 q3610 q1693 q144) (lw_meth q1694)) (by decide +kernel) (by decide +kernel) (t := 21) h3 rfl rfl (by decide) rfl (Nat.le_of_ble_eq_true rfl) dJ8_isEmpty_1 k0
    replace h1 := (bte_i h1).2 h3
    cases h1
  refine r_if_ne hκ (tgt := 11) (by decide) dJ8_isEmpty_4 (fun h4 => ?_) (fun h4 => ?_)
  · replace h := (bte_i h).2 h4
    refine r_iconst hκ dJ8_isEmpty_11 ?_
    exact r_iretH hκ hf h (nar_bool (by decide)) dJ8_isEmpty_12
  · replace h := (bte_i h).1 h4
    refine r_iconst hκ dJ8_isEmpty_7 ?_
    refine r_goto hκ (tgt := 12) (by decide) dJ8_isEmpty_8 ?_
    exact r_iretH hκ hf h (nar_bool (by decide)) dJ8_isEmpty_12
/-- java/util/LinkedList.getLast()Ljava/lang/Object; -/
def F_J12_getLast (s0 : bS) (a0 : Int) : Option (bS × Int) :=
  bck (bg s0 0 a0 0 = 22) <|
  bte ((bg s0 462 a0 0) < 0)
  (none)
  (bck (bg s0 0 (bg s0 462 a0 0) 0 = 23) <|
  some (s0, (bg s0 466 (bg s0 462 a0 0) 0)))
set_option maxHeartbeats 4000000 in
set_option maxRecDepth 100000 in
theorem w_J12_getLast (Γ0 : bG) (l0 : Launch) {s0 st' : bS} {v a0 : Int} (h : F_J12_getLast s0 a0 = some (st', v)) : bCt Γ0 l0 yJ12_getLast cJ12_getLast 2 (some (.object "java/lang/Object")) 0 0 [(2, a0)] s0 st' (some (2, v)) := by
  refine b_ent (own := RJ12) (by decide +kernel) rfl (Nat.le_of_ble_eq_true rfl) (L := [(0, (2, a0))]) rfl ?_
  intro κ hκ hi hf
  unfold F_J12_getLast at h
  refine r_aload_n hκ 0 rfl rfl dJ12_getLast_0 ?_
  obtain ⟨h1, h⟩ := bck_i h
  refine r_get hκ (t := 21) (k := 3) (r := 462) h1 rfl in_J12 (by decide) rfl q462 (Or.inl rfl) dJ12_getLast_1 ?_
  refine r_astore_n hκ (L2 := [(1, (2, (bg s0 462 a0 0))), (0, (2, a0))]) (by decide) rfl rfl dJ12_getLast_4 ?_
  refine r_aload_n hκ 0 rfl rfl dJ12_getLast_5 ?_
  refine r_ifnonnull hκ (tgt := 17) (by decide) dJ12_getLast_6 (fun h2 => ?_) (fun h2 => ?_)
  · replace h := (bte_i h).2 h2
    refine r_aload_n hκ 0 rfl rfl dJ12_getLast_17 ?_
    obtain ⟨h3, h⟩ := bck_i h
    refine r_get hκ (t := 22) (k := 0) (r := 466) h3 rfl in_J26 (by decide) rfl q2328 (Or.inl rfl) dJ12_getLast_18 ?_
    exact r_aretH hκ hf h rt_o dJ12_getLast_21
  · replace h := (bte_i h).1 h2
    cases h
/-- java/util/LinkedList.unlinkLast(Ljava/util/LinkedList$Node;)Ljava/lang/Object; -/
def F_J12_unlinkLast_r (b : Nat) (x0 x1 : Int) (s0 : bS) : Option (bS × Int) :=
  match b with
  | 0 =>
    bck (bg s0 0 x0 0 = 22) <|
    bck ((bg s0 0 x0 0 = 22)) <|
    bst (bw s0 452 x0 0 ((bg s0 452 x0 0) - 1)) fun s6 =>
    bck (bg s6 0 x0 0 = 22) <|
    bck ((bg s6 0 x0 0 = 22)) <|
    bst (bw s6 440 x0 0 ((bg s6 440 x0 0) + 1)) fun s7 =>
    some (s7, x1)
  | _ => none
def F_J12_unlinkLast (s0 : bS) (a0 a1 : Int) : Option (bS × Int) :=
  bck (bg s0 0 a1 0 = 23) <|
  bck (bg s0 0 a1 0 = 23) <|
  bck ((bg s0 0 a1 0 = 23)) <|
  bst (bw s0 466 a1 0 (-1)) fun s1 =>
  bck ((bg s1 0 a1 0 = 23)) <|
  bst (bw s1 474 a1 0 (-1)) fun s2 =>
  bck ((bg s2 0 a0 0 = 22)) <|
  bst (bw s2 462 a0 0 (bg s0 474 a1 0)) fun s3 =>
  bte ((bg s0 474 a1 0) < 0)
  (bck ((bg s3 0 a0 0 = 22)) <|
  bst (bw s3 458 a0 0 (-1)) fun s5 =>
  F_J12_unlinkLast_r 0 a0 (bg s0 466 a1 0) s5)
  (bck ((bg s3 0 (bg s0 474 a1 0) 0 = 23)) <|
  bst (bw s3 470 (bg s0 474 a1 0) 0 (-1)) fun s4 =>
  F_J12_unlinkLast_r 0 a0 (bg s0 466 a1 0) s4)
set_option maxHeartbeats 4000000 in
set_option maxRecDepth 100000 in
set_option synthInstance.maxHeartbeats 4000000 in
theorem w_J12_unlinkLast_r {Γ0 : bG} {l0 : Launch} {κ : bK} {st' : bS} {v : Int} (hκ : bOk κ Γ0 l0 cJ12_unlinkLast RJ12 4 0 0) (hi : bIn κ yJ12_unlinkLast) (hf : bFin κ (some (.object "java/lang/Object")) st' (some (2, v))) (b : Nat) (x0 x1 : Int) (s0 : bS) (h : F_J12_unlinkLast_r b x0 x1 s0 = some (st', v)) : match (generalizing := false) b with | 0 => bJ κ s0 42 [(0, (2, x0)), (2, (2, x1))] [] | _ => True := by
  unfold F_J12_unlinkLast_r at h
  match b, h with
  | 0, h =>
      refine r_aload_n hκ 0 rfl rfl dJ12_unlinkLast_42 ?_
      refine r_dup hκ (bd_cat2k _) dJ12_unlinkLast_43 ?_
      obtain ⟨h9, h⟩ := bck_i h
      refine r_get hκ (t := 21) (k := 1) (r := 452) h9 rfl in_J12 (by decide) rfl q459 (Or.inl rfl) dJ12_unlinkLast_44 ?_
      refine r_iconst hκ dJ12_unlinkLast_47 ?_
      refine r_isub hκ dJ12_unlinkLast_48 ?_
      obtain ⟨h10, h⟩ := bck_i h
      refine r_put hκ (t := 21) (k := 1) (r := 452) (ty := .int) tyJ12 tyJ12_ok nmJ12 h10 rfl in_J12 (by decide) rfl q459 (Or.inl rfl) rfl rfl rfl trivial (Or.inl (by decide)) dJ12_unlinkLast_49 (fun s6 es6 => ?_)
      replace h := bst_i h s6 es6
      refine r_aload_n hκ 0 rfl rfl dJ12_unlinkLast_52 ?_
      refine r_dup hκ (bd_cat2k _) dJ12_unlinkLast_53 ?_
      obtain ⟨h11, h⟩ := bck_i h
      refine r_get hκ (t := 21) (k := 0) (r := 440) h11 rfl in_J12 (by decide) rfl q347 (Or.inr q343) dJ12_unlinkLast_54 ?_
      refine r_iconst hκ dJ12_unlinkLast_57 ?_
      refine r_iadd hκ dJ12_unlinkLast_58 ?_
      obtain ⟨h12, h⟩ := bck_i h
      refine r_put hκ (t := 21) (k := 0) (r := 440) (ty := .int) tyJ12 tyJ12_ok nmJ12 h12 rfl in_J12 (by decide) rfl q347 (Or.inr q343) rfl rfl rfl trivial (Or.inl (by decide)) dJ12_unlinkLast_59 (fun s7 es7 => ?_)
      replace h := bst_i h s7 es7
      refine r_aload_n hκ 1 rfl rfl dJ12_unlinkLast_62 ?_
      exact r_aretH hκ hf h rt_o dJ12_unlinkLast_63
  | b + 1, h => trivial
set_option maxHeartbeats 4000000 in
set_option maxRecDepth 100000 in
theorem w_J12_unlinkLast (Γ0 : bG) (l0 : Launch) {s0 st' : bS} {v a0 a1 : Int} (h : F_J12_unlinkLast s0 a0 a1 = some (st', v)) : bCt Γ0 l0 yJ12_unlinkLast cJ12_unlinkLast 4 (some (.object "java/lang/Object")) 0 0 [(2, a0), (2, a1)] s0 st' (some (2, v)) := by
  refine b_ent (own := RJ12) (by decide +kernel) rfl (Nat.le_of_ble_eq_true rfl) (L := [(0, (2, a0)), (1, (2, a1))]) rfl ?_
  intro κ hκ hi hf
  unfold F_J12_unlinkLast at h
  refine r_aload_n hκ 1 rfl rfl dJ12_unlinkLast_0 ?_
  obtain ⟨h1, h⟩ := bck_i h
  refine r_get hκ (t := 22) (k := 0) (r := 466) h1 rfl in_J26 (by decide) rfl q2328 (Or.inl rfl) dJ12_unlinkLast_1 ?_
  refine r_astore_n hκ (L2 := [(2, (2, (bg s0 466 a1 0))), (0, (2, a0)), (1, (2, a1))]) (by decide) rfl rfl dJ12_unlinkLast_4 ?_
  refine r_aload_n hκ 2 rfl rfl dJ12_unlinkLast_5 ?_
  obtain ⟨h2, h⟩ := bck_i h
  refine r_get hκ (t := 22) (k := 2) (r := 474) h2 rfl in_J26 (by decide) rfl q2334 (Or.inl rfl) dJ12_unlinkLast_6 ?_
  refine r_astore_n hκ (L2 := [(3, (2, (bg s0 474 a1 0))), (2, (2, (bg s0 466 a1 0))), (0, (2, a0)), (1, (2, a1))]) (by decide) rfl rfl dJ12_unlinkLast_9 ?_
  refine r_aload_n hκ 3 rfl rfl dJ12_unlinkLast_10 ?_
  refine r_null hκ dJ12_unlinkLast_11 ?_
  obtain ⟨h3, h⟩ := bck_i h
  refine r_put hκ (t := 22) (k := 0) (r := 466) (ty := (.object "java/lang/Object")) tyJ26 tyJ26_ok nmJ26 h3 rfl in_J26 (by decide) rfl q2328 (Or.inl rfl) rfl rfl rfl trivial (Or.inl (by decide)) dJ12_unlinkLast_12 (fun s1 es1 => ?_)
  replace h := bst_i h s1 es1
  refine r_aload_n hκ 3 rfl rfl dJ12_unlinkLast_15 ?_
  refine r_null hκ dJ12_unlinkLast_16 ?_
  obtain ⟨h4, h⟩ := bck_i h
  refine r_put hκ (t := 22) (k := 2) (r := 474) (ty := (.object "java/util/LinkedList$Node")) tyJ26 tyJ26_ok nmJ26 h4 rfl in_J26 (by decide) rfl q2334 (Or.inl rfl) rfl rfl rfl trivial (Or.inl (by decide)) dJ12_unlinkLast_17 (fun s2 es2 => ?_)
  replace h := bst_i h s2 es2
  refine r_aload_n hκ 2 rfl rfl dJ12_unlinkLast_20 ?_
  refine r_aload_n hκ 0 rfl rfl dJ12_unlinkLast_21 ?_
  obtain ⟨h5, h⟩ := bck_i h
  refine r_put hκ (t := 21) (k := 3) (r := 462) (ty := (.object "java/util/LinkedList$Node")) tyJ12 tyJ12_ok nmJ12 h5 rfl in_J12 (by decide) rfl q462 (Or.inl rfl) rfl rfl rfl trivial (Or.inl (by decide)) dJ12_unlinkLast_22 (fun s3 es3 => ?_)
  replace h := bst_i h s3 es3
  refine r_aload_n hκ 0 rfl rfl dJ12_unlinkLast_25 ?_
  refine r_ifnonnull hκ (tgt := 37) (by decide) dJ12_unlinkLast_26 (fun h6 => ?_) (fun h6 => ?_)
  · replace h := (bte_i h).2 h6
    refine r_aload_n hκ 0 rfl rfl dJ12_unlinkLast_37 ?_
    refine r_null hκ dJ12_unlinkLast_38 ?_
    obtain ⟨h7, h⟩ := bck_i h
    refine r_put hκ (t := 22) (k := 1) (r := 470) (ty := (.object "java/util/LinkedList$Node")) tyJ26 tyJ26_ok nmJ26 h7 rfl in_J26 (by decide) rfl q2331 (Or.inl rfl) rfl rfl rfl trivial (Or.inl (by decide)) dJ12_unlinkLast_39 (fun s4 es4 => ?_)
    replace h := bst_i h s4 es4
    exact r_sub [2, 1] rfl (w_J12_unlinkLast_r hκ hi hf 0 _ _ _ h)
  · replace h := (bte_i h).1 h6
    refine r_aload_n hκ 2 rfl rfl dJ12_unlinkLast_29 ?_
    refine r_null hκ dJ12_unlinkLast_30 ?_
    obtain ⟨h8, h⟩ := bck_i h
    refine r_put hκ (t := 21) (k := 2) (r := 458) (ty := (.object "java/util/LinkedList$Node")) tyJ12 tyJ12_ok nmJ12 h8 rfl in_J12 (by decide) rfl q461 (Or.inl rfl) rfl rfl rfl trivial (Or.inl (by decide)) dJ12_unlinkLast_31 (fun s5 es5 => ?_)
    replace h := bst_i h s5 es5
    refine r_goto hκ (tgt := 42) (by decide) dJ12_unlinkLast_34 ?_
    exact r_sub [2, 1] rfl (w_J12_unlinkLast_r hκ hi hf 0 _ _ _ h)
/-- java/util/LinkedList.removeLast()Ljava/lang/Object; -/
def F_J12_removeLast (s0 : bS) (a0 : Int) : Option (bS × Int) :=
  bck (bg s0 0 a0 0 = 22) <|
  bte ((bg s0 462 a0 0) < 0)
  (none)
  (bck (bg s0 0 a0 0 = 22) <|
  bcl (F_J12_unlinkLast s0 a0 (bg s0 462 a0 0)) fun s1 v1 =>
  some (s1, v1))
set_option maxHeartbeats 4000000 in
set_option maxRecDepth 100000 in
theorem w_J12_removeLast (Γ0 : bG) (l0 : Launch) {s0 st' : bS} {v a0 : Int} (h : F_J12_removeLast s0 a0 = some (st', v)) : bCt Γ0 l0 yJ12_removeLast cJ12_removeLast 2 (some (.object "java/lang/Object")) 1 23 [(2, a0)] s0 st' (some (2, v)) := by
  refine b_ent (own := RJ12) (by decide +kernel) rfl (Nat.le_of_ble_eq_true rfl) (L := [(0, (2, a0))]) rfl ?_
  intro κ hκ hi hf
  unfold F_J12_removeLast at h
  refine r_aload_n hκ 0 rfl rfl dJ12_removeLast_0 ?_
  obtain ⟨h1, h⟩ := bck_i h
  refine r_get hκ (t := 21) (k := 3) (r := 462) h1 rfl in_J12 (by decide) rfl q462 (Or.inl rfl) dJ12_removeLast_1 ?_
  refine r_astore_n hκ (L2 := [(1, (2, (bg s0 462 a0 0))), (0, (2, a0))]) (by decide) rfl rfl dJ12_removeLast_4 ?_
  refine r_aload_n hκ 0 rfl rfl dJ12_removeLast_5 ?_
  refine r_ifnonnull hκ (tgt := 17) (by decide) dJ12_removeLast_6 (fun h2 => ?_) (fun h2 => ?_)
  · replace h := (bte_i h).2 h2
    refine r_aload_n hκ 1 rfl rfl dJ12_removeLast_17 ?_
    refine r_aload_n hκ 0 rfl rfl dJ12_removeLast_18 ?_
    obtain ⟨h3, h⟩ := bck_i h
    obtain ⟨s1, v1, h4, h⟩ := bcl_i h
    refine r_callV hκ (n' := 1) (index := 50) (w_J12_unlinkLast Γ0 l0 h4) (lw_V q2668 q2670 qs55 q144 q2671) (by decide +kernel) (t := 21) h3 rfl rfl (by decide) rfl (Nat.le_of_ble_eq_true rfl) dJ12_removeLast_19 ?_
    exact r_aretH hκ hf h rt_o dJ12_removeLast_22
  · replace h := (bte_i h).1 h2
    cases h
/-- java/lang/Integer.bitCount(I)I -/
def F_J21_bitCount (s0 : bS) (a0 : Int) : Option (bS × Int) :=
  bvl ((a0 - (b_iand (b_iushr a0 1) 1431655765))) fun t1 =>
  bvl (((b_iand t1 858993459) + (b_iand (b_iushr t1 2) 858993459))) fun t2 =>
  bvl ((b_iand (t2 + (b_iushr t2 4)) 252645135)) fun t3 =>
  bvl (((t3 + (b_iushr t3 8)) + (b_iushr (t3 + (b_iushr t3 8)) 16))) fun t4 =>
  some (s0, (b_iand t4 63))
set_option maxHeartbeats 4000000 in
set_option maxRecDepth 100000 in
theorem w_J21_bitCount (Γ0 : bG) (l0 : Launch) {s0 st' : bS} {v a0 : Int} (h : F_J21_bitCount s0 a0 = some (st', v)) : bCt Γ0 l0 yJ21_bitCount cJ21_bitCount 1 (some .int) 0 0 [(0, a0)] s0 st' (some (0, v)) := by
  refine b_ent (own := RJ21) (by decide +kernel) rfl (Nat.le_of_ble_eq_true rfl) (L := [(0, (0, a0))]) rfl ?_
  intro κ hκ hi hf
  unfold F_J21_bitCount at h
  refine r_iload_n hκ 0 rfl rfl dJ21_bitCount_0 ?_
  refine r_iload_n hκ 0 rfl rfl dJ21_bitCount_1 ?_
  refine r_iconst hκ dJ21_bitCount_2 ?_
  refine r_iushr hκ dJ21_bitCount_3 ?_
  refine r_ldcwi hκ (x := 1431655765) q956 (by decide) dJ21_bitCount_4 ?_
  refine r_iand hκ dJ21_bitCount_7 ?_
  refine r_isub hκ dJ21_bitCount_8 ?_
  refine r_nm (fun t1 et1 => ?_)
  replace h := bvl_i h t1 et1
  refine r_istore_n hκ (L2 := [(0, (0, t1))]) (by decide) rfl rfl dJ21_bitCount_9 ?_
  refine r_iload_n hκ 0 rfl rfl dJ21_bitCount_10 ?_
  refine r_ldcwi hκ (x := 858993459) q957 (by decide) dJ21_bitCount_11 ?_
  refine r_iand hκ dJ21_bitCount_14 ?_
  refine r_iload_n hκ 0 rfl rfl dJ21_bitCount_15 ?_
  refine r_iconst hκ dJ21_bitCount_16 ?_
  refine r_iushr hκ dJ21_bitCount_17 ?_
  refine r_ldcwi hκ (x := 858993459) q957 (by decide) dJ21_bitCount_18 ?_
  refine r_iand hκ dJ21_bitCount_21 ?_
  refine r_iadd hκ dJ21_bitCount_22 ?_
  refine r_nm (fun t2 et2 => ?_)
  replace h := bvl_i h t2 et2
  refine r_istore_n hκ (L2 := [(0, (0, t2))]) (by decide) rfl rfl dJ21_bitCount_23 ?_
  refine r_iload_n hκ 0 rfl rfl dJ21_bitCount_24 ?_
  refine r_iload_n hκ 0 rfl rfl dJ21_bitCount_25 ?_
  refine r_iconst hκ dJ21_bitCount_26 ?_
  refine r_iushr hκ dJ21_bitCount_27 ?_
  refine r_iadd hκ dJ21_bitCount_28 ?_
  refine r_ldcwi hκ (x := 252645135) q958 (by decide) dJ21_bitCount_29 ?_
  refine r_iand hκ dJ21_bitCount_32 ?_
  refine r_nm (fun t3 et3 => ?_)
  replace h := bvl_i h t3 et3
  refine r_istore_n hκ (L2 := [(0, (0, t3))]) (by decide) rfl rfl dJ21_bitCount_33 ?_
  refine r_iload_n hκ 0 rfl rfl dJ21_bitCount_34 ?_
  refine r_iload_n hκ 0 rfl rfl dJ21_bitCount_35 ?_
  refine r_bipush hκ (by decide) dJ21_bitCount_36 ?_
  refine r_iushr hκ dJ21_bitCount_38 ?_
  refine r_iadd hκ dJ21_bitCount_39 ?_
  refine r_istore_n hκ (L2 := [(0, (0, (t3 + (b_iushr t3 8))))]) (by decide) rfl rfl dJ21_bitCount_40 ?_
  refine r_iload_n hκ 0 rfl rfl dJ21_bitCount_41 ?_
  refine r_iload_n hκ 0 rfl rfl dJ21_bitCount_42 ?_
  refine r_bipush hκ (by decide) dJ21_bitCount_43 ?_
  refine r_iushr hκ dJ21_bitCount_45 ?_
  refine r_iadd hκ dJ21_bitCount_46 ?_
  refine r_nm (fun t4 et4 => ?_)
  replace h := bvl_i h t4 et4
  refine r_istore_n hκ (L2 := [(0, (0, t4))]) (by decide) rfl rfl dJ21_bitCount_47 ?_
  refine r_iload_n hκ 0 rfl rfl dJ21_bitCount_48 ?_
  refine r_bipush hκ (by decide) dJ21_bitCount_49 ?_
  refine r_iand hκ dJ21_bitCount_51 ?_
  exact r_iretH hκ hf h (nar_int _) dJ21_bitCount_52
/-- jdk/internal/util/ArraysSupport.signedHashCode(I[BII)I -/
def F_J22_signedHashCode_r (b : Nat) (x0 x1 x2 x3 : Int) (s0 : bS) : Option (bS × Int) :=
  match b with
  | 0 =>
    bte (i32 x2 ≤ i32 x3)
    (some (s0, x0))
    (bck (bg s0 0 x1 0 = 1000 ∧ (0 : Int) ≤ x3 ∧ x3 < bg s0 4 x1 0) <|
    bvl (((31 * x0) + (b_iand (bg s0 8 x1 x3) 255))) fun t1 =>
    F_J22_signedHashCode_r 0 t1 x1 x2 (x3 + 1) s0)
  | _ => none
partial_fixpoint
def F_J22_signedHashCode (s0 : bS) (a0 a1 a2 a3 : Int) : Option (bS × Int) :=
  F_J22_signedHashCode_r 0 a0 a1 (a2 + a3) a2 s0
set_option maxHeartbeats 4000000 in
set_option maxRecDepth 100000 in
set_option synthInstance.maxHeartbeats 4000000 in
theorem w_J22_signedHashCode_r {Γ0 : bG} {l0 : Launch} {κ : bK} {st' : bS} {v : Int} (hκ : bOk κ Γ0 l0 cJ22_signedHashCode RJ22 6 0 0) (hi : bIn κ yJ22_signedHashCode) (hf : bFin κ (some .int) st' (some (0, v))) (b : Nat) (x0 x1 x2 x3 : Int) (s0 : bS) (h : F_J22_signedHashCode_r b x0 x1 x2 x3 s0 = some (st', v)) : match (generalizing := false) b with | 0 => bJ κ s0 8 [(0, (0, x0)), (1, (2, x1)), (4, (0, x2)), (5, (0, x3))] [] | _ => True := by
  refine F_J22_signedHashCode_r.partial_correctness x1 x2 s0 (fun b x0 x3 r => r = (st', v) → match (generalizing := false) b with | 0 => bJ κ s0 8 [(0, (0, x0)), (1, (2, x1)), (4, (0, x2)), (5, (0, x3))] [] | _ => True) ?_ b x0 x3 _ h rfl
  intro f' ih b x0 x3 r h hr
  subst hr
  match b, h with
  | 0, h =>
      refine r_iload hκ 3 rfl dJ22_signedHashCode_8 ?_
      refine r_iload hκ 2 rfl dJ22_signedHashCode_10 ?_
      refine r_icmp_ge hκ (tgt := 35) (by decide) dJ22_signedHashCode_12 (fun h1 => ?_) (fun h1 => ?_)
      · replace h := (bte_i h).1 h1
        refine r_iload_n hκ 0 rfl rfl dJ22_signedHashCode_35 ?_
        exact r_iretH hκ hf h (nar_int _) dJ22_signedHashCode_36
      · replace h := (bte_i h).2 h1
        refine r_bipush hκ (by decide) dJ22_signedHashCode_15 ?_
        refine r_iload_n hκ 0 rfl rfl dJ22_signedHashCode_17 ?_
        refine r_imul hκ dJ22_signedHashCode_18 ?_
        refine r_aload_n hκ 1 rfl rfl dJ22_signedHashCode_19 ?_
        refine r_iload hκ 3 rfl dJ22_signedHashCode_20 ?_
        obtain ⟨⟨h2, h3⟩, h⟩ := bck_i h
        refine r_bald hκ h2 h3 dJ22_signedHashCode_22 ?_
        refine r_sipush hκ (by decide) dJ22_signedHashCode_23 ?_
        refine r_iand hκ dJ22_signedHashCode_26 ?_
        refine r_iadd hκ dJ22_signedHashCode_27 ?_
        refine r_nm (fun t1 et1 => ?_)
        replace h := bvl_i h t1 et1
        refine r_istore_n hκ (L2 := [(0, (0, t1)), (1, (2, x1)), (4, (0, x2)), (5, (0, x3))]) (by decide) rfl rfl dJ22_signedHashCode_28 ?_
        refine r_iinc hκ (L2 := [(5, (0, (x3 + 1))), (0, (0, t1)), (1, (2, x1)), (4, (0, x2))]) 3 rfl (by decide) rfl dJ22_signedHashCode_29 ?_
        refine r_goto hκ (tgt := 8) (by decide) dJ22_signedHashCode_32 ?_
        exact r_sub [1, 2, 3, 0] rfl (ih 0 _ _ _ h rfl)
  | b + 1, h => trivial
set_option maxHeartbeats 4000000 in
set_option maxRecDepth 100000 in
theorem w_J22_signedHashCode (Γ0 : bG) (l0 : Launch) {s0 st' : bS} {v a0 a1 a2 a3 : Int} (h : F_J22_signedHashCode s0 a0 a1 a2 a3 = some (st', v)) : bCt Γ0 l0 yJ22_signedHashCode cJ22_signedHashCode 6 (some .int) 0 0 [(0, a0), (2, a1), (0, a2), (0, a3)] s0 st' (some (0, v)) := by
  refine b_ent (own := RJ22) (by decide +kernel) rfl (Nat.le_of_ble_eq_true rfl) (L := [(0, (0, a0)), (1, (2, a1)), (2, (0, a2)), (3, (0, a3))]) rfl ?_
  intro κ hκ hi hf
  unfold F_J22_signedHashCode at h
  refine r_iload_n hκ 2 rfl rfl dJ22_signedHashCode_0 ?_
  refine r_iload_n hκ 3 rfl rfl dJ22_signedHashCode_1 ?_
  refine r_iadd hκ dJ22_signedHashCode_2 ?_
  refine r_istore hκ (L2 := [(4, (0, (a2 + a3))), (0, (0, a0)), (1, (2, a1)), (2, (0, a2)), (3, (0, a3))]) (by decide) rfl dJ22_signedHashCode_3 ?_
  refine r_iload_n hκ 3 rfl rfl dJ22_signedHashCode_5 ?_
  refine r_istore hκ (L2 := [(5, (0, a2)), (4, (0, (a2 + a3))), (0, (0, a0)), (1, (2, a1)), (2, (0, a2)), (3, (0, a3))]) (by decide) rfl dJ22_signedHashCode_6 ?_
  exact r_sub [2, 3, 1, 0] rfl (w_J22_signedHashCode_r hκ hi hf 0 _ _ _ _ _ h)
/-- jdk/internal/util/ArraysSupport.hashCode(I[CII)I -/
def F_J22_hashCode_r (b : Nat) (x0 x1 x2 x3 : Int) (s0 : bS) : Option (bS × Int) :=
  match b with
  | 0 =>
    bte (i32 x2 ≤ i32 x3)
    (some (s0, x0))
    (bck (bg s0 0 x1 0 = 1004 ∧ (0 : Int) ≤ x3 ∧ x3 < bg s0 4 x1 0) <|
    bvl (((31 * x0) + (bg s0 24 x1 x3))) fun t1 =>
    F_J22_hashCode_r 0 t1 x1 x2 (x3 + 1) s0)
  | _ => none
partial_fixpoint
def F_J22_hashCode (s0 : bS) (a0 a1 a2 a3 : Int) : Option (bS × Int) :=
  F_J22_hashCode_r 0 a0 a1 (a2 + a3) a2 s0
set_option maxHeartbeats 4000000 in
set_option maxRecDepth 100000 in
set_option synthInstance.maxHeartbeats 4000000 in
theorem w_J22_hashCode_r {Γ0 : bG} {l0 : Launch} {κ : bK} {st' : bS} {v : Int} (hκ : bOk κ Γ0 l0 cJ22_hashCode RJ22 6 0 0) (hi : bIn κ yJ22_hashCode) (hf : bFin κ (some .int) st' (some (0, v))) (b : Nat) (x0 x1 x2 x3 : Int) (s0 : bS) (h : F_J22_hashCode_r b x0 x1 x2 x3 s0 = some (st', v)) : match (generalizing := false) b with | 0 => bJ κ s0 8 [(0, (0, x0)), (1, (2, x1)), (4, (0, x2)), (5, (0, x3))] [] | _ => True := by
  refine F_J22_hashCode_r.partial_correctness x1 x2 s0 (fun b x0 x3 r => r = (st', v) → match (generalizing := false) b with | 0 => bJ κ s0 8 [(0, (0, x0)), (1, (2, x1)), (4, (0, x2)), (5, (0, x3))] [] | _ => True) ?_ b x0 x3 _ h rfl
  intro f' ih b x0 x3 r h hr
  subst hr
  match b, h with
  | 0, h =>
      refine r_iload hκ 3 rfl dJ22_hashCode_8 ?_
      refine r_iload hκ 2 rfl dJ22_hashCode_10 ?_
      refine r_icmp_ge hκ (tgt := 31) (by decide) dJ22_hashCode_12 (fun h1 => ?_) (fun h1 => ?_)
      · replace h := (bte_i h).1 h1
        refine r_iload_n hκ 0 rfl rfl dJ22_hashCode_31 ?_
        exact r_iretH hκ hf h (nar_int _) dJ22_hashCode_32
      · replace h := (bte_i h).2 h1
        refine r_bipush hκ (by decide) dJ22_hashCode_15 ?_
        refine r_iload_n hκ 0 rfl rfl dJ22_hashCode_17 ?_
        refine r_imul hκ dJ22_hashCode_18 ?_
        refine r_aload_n hκ 1 rfl rfl dJ22_hashCode_19 ?_
        refine r_iload hκ 3 rfl dJ22_hashCode_20 ?_
        obtain ⟨⟨h2, h3⟩, h⟩ := bck_i h
        refine r_cald hκ h2 h3 dJ22_hashCode_22 ?_
        refine r_iadd hκ dJ22_hashCode_23 ?_
        refine r_nm (fun t1 et1 => ?_)
        replace h := bvl_i h t1 et1
        refine r_istore_n hκ (L2 := [(0, (0, t1)), (1, (2, x1)), (4, (0, x2)), (5, (0, x3))]) (by decide) rfl rfl dJ22_hashCode_24 ?_
        refine r_iinc hκ (L2 := [(5, (0, (x3 + 1))), (0, (0, t1)), (1, (2, x1)), (4, (0, x2))]) 3 rfl (by decide) rfl dJ22_hashCode_25 ?_
        refine r_goto hκ (tgt := 8) (by decide) dJ22_hashCode_28 ?_
        exact r_sub [1, 2, 3, 0] rfl (ih 0 _ _ _ h rfl)
  | b + 1, h => trivial
set_option maxHeartbeats 4000000 in
set_option maxRecDepth 100000 in
theorem w_J22_hashCode (Γ0 : bG) (l0 : Launch) {s0 st' : bS} {v a0 a1 a2 a3 : Int} (h : F_J22_hashCode s0 a0 a1 a2 a3 = some (st', v)) : bCt Γ0 l0 yJ22_hashCode cJ22_hashCode 6 (some .int) 0 0 [(0, a0), (2, a1), (0, a2), (0, a3)] s0 st' (some (0, v)) := by
  refine b_ent (own := RJ22) (by decide +kernel) rfl (Nat.le_of_ble_eq_true rfl) (L := [(0, (0, a0)), (1, (2, a1)), (2, (0, a2)), (3, (0, a3))]) rfl ?_
  intro κ hκ hi hf
  unfold F_J22_hashCode at h
  refine r_iload_n hκ 2 rfl rfl dJ22_hashCode_0 ?_
  refine r_iload_n hκ 3 rfl rfl dJ22_hashCode_1 ?_
  refine r_iadd hκ dJ22_hashCode_2 ?_
  refine r_istore hκ (L2 := [(4, (0, (a2 + a3))), (0, (0, a0)), (1, (2, a1)), (2, (0, a2)), (3, (0, a3))]) (by decide) rfl dJ22_hashCode_3 ?_
  refine r_iload_n hκ 3 rfl rfl dJ22_hashCode_5 ?_
  refine r_istore hκ (L2 := [(5, (0, a2)), (4, (0, (a2 + a3))), (0, (0, a0)), (1, (2, a1)), (2, (0, a2)), (3, (0, a3))]) (by decide) rfl dJ22_hashCode_6 ?_
  exact r_sub [2, 3, 1, 0] rfl (w_J22_hashCode_r hκ hi hf 0 _ _ _ _ _ h)
/-- jdk/internal/util/ArraysSupport.hashCode(I[BII)I -/
def F_J22_hashCode_2_r (b : Nat) (x0 x1 x2 x3 : Int) (s0 : bS) : Option (bS × Int) :=
  match b with
  | 0 =>
    bte (i32 x2 ≤ i32 x3)
    (some (s0, x0))
    (bck (bg s0 0 x1 0 = 1000 ∧ (0 : Int) ≤ x3 ∧ x3 < bg s0 4 x1 0) <|
    bvl (((31 * x0) + (bg s0 8 x1 x3))) fun t1 =>
    F_J22_hashCode_2_r 0 t1 x1 x2 (x3 + 1) s0)
  | _ => none
partial_fixpoint
def F_J22_hashCode_2 (s0 : bS) (a0 a1 a2 a3 : Int) : Option (bS × Int) :=
  F_J22_hashCode_2_r 0 a0 a1 (a2 + a3) a2 s0
set_option maxHeartbeats 4000000 in
set_option maxRecDepth 100000 in
set_option synthInstance.maxHeartbeats 4000000 in
theorem w_J22_hashCode_2_r {Γ0 : bG} {l0 : Launch} {κ : bK} {st' : bS} {v : Int} (hκ : bOk κ Γ0 l0 cJ22_hashCode_2 RJ22 6 0 0) (hi : bIn κ yJ22_hashCode_2) (hf : bFin κ (some .int) st' (some (0, v))) (b : Nat) (x0 x1 x2 x3 : Int) (s0 : bS) (h : F_J22_hashCode_2_r b x0 x1 x2 x3 s0 = some (st', v)) : match (generalizing := false) b with | 0 => bJ κ s0 8 [(0, (0, x0)), (1, (2, x1)), (4, (0, x2)), (5, (0, x3))] [] | _ => True := by
  refine F_J22_hashCode_2_r.partial_correctness x1 x2 s0 (fun b x0 x3 r => r = (st', v) → match (generalizing := false) b with | 0 => bJ κ s0 8 [(0, (0, x0)), (1, (2, x1)), (4, (0, x2)), (5, (0, x3))] [] | _ => True) ?_ b x0 x3 _ h rfl
  intro f' ih b x0 x3 r h hr
  subst hr
  match b, h with
  | 0, h =>
      refine r_iload hκ 3 rfl dJ22_hashCode_2_8 ?_
      refine r_iload hκ 2 rfl dJ22_hashCode_2_10 ?_
      refine r_icmp_ge hκ (tgt := 31) (by decide) dJ22_hashCode_2_12 (fun h1 => ?_) (fun h1 => ?_)
      · replace h := (bte_i h).1 h1
        refine r_iload_n hκ 0 rfl rfl dJ22_hashCode_2_31 ?_
        exact r_iretH hκ hf h (nar_int _) dJ22_hashCode_2_32
      · replace h := (bte_i h).2 h1
        refine r_bipush hκ (by decide) dJ22_hashCode_2_15 ?_
        refine r_iload_n hκ 0 rfl rfl dJ22_hashCode_2_17 ?_
        refine r_imul hκ dJ22_hashCode_2_18 ?_
        refine r_aload_n hκ 1 rfl rfl dJ22_hashCode_2_19 ?_
        refine r_iload hκ 3 rfl dJ22_hashCode_2_20 ?_
        obtain ⟨⟨h2, h3⟩, h⟩ := bck_i h
        refine r_bald hκ h2 h3 dJ22_hashCode_2_22 ?_
        refine r_iadd hκ dJ22_hashCode_2_23 ?_
        refine r_nm (fun t1 et1 => ?_)
        replace h := bvl_i h t1 et1
        refine r_istore_n hκ (L2 := [(0, (0, t1)), (1, (2, x1)), (4, (0, x2)), (5, (0, x3))]) (by decide) rfl rfl dJ22_hashCode_2_24 ?_
        refine r_iinc hκ (L2 := [(5, (0, (x3 + 1))), (0, (0, t1)), (1, (2, x1)), (4, (0, x2))]) 3 rfl (by decide) rfl dJ22_hashCode_2_25 ?_
        refine r_goto hκ (tgt := 8) (by decide) dJ22_hashCode_2_28 ?_
        exact r_sub [1, 2, 3, 0] rfl (ih 0 _ _ _ h rfl)
  | b + 1, h => trivial
set_option maxHeartbeats 4000000 in
set_option maxRecDepth 100000 in
theorem w_J22_hashCode_2 (Γ0 : bG) (l0 : Launch) {s0 st' : bS} {v a0 a1 a2 a3 : Int} (h : F_J22_hashCode_2 s0 a0 a1 a2 a3 = some (st', v)) : bCt Γ0 l0 yJ22_hashCode_2 cJ22_hashCode_2 6 (some .int) 0 0 [(0, a0), (2, a1), (0, a2), (0, a3)] s0 st' (some (0, v)) := by
  refine b_ent (own := RJ22) (by decide +kernel) rfl (Nat.le_of_ble_eq_true rfl) (L := [(0, (0, a0)), (1, (2, a1)), (2, (0, a2)), (3, (0, a3))]) rfl ?_
  intro κ hκ hi hf
  unfold F_J22_hashCode_2 at h
  refine r_iload_n hκ 2 rfl rfl dJ22_hashCode_2_0 ?_
  refine r_iload_n hκ 3 rfl rfl dJ22_hashCode_2_1 ?_
  refine r_iadd hκ dJ22_hashCode_2_2 ?_
  refine r_istore hκ (L2 := [(4, (0, (a2 + a3))), (0, (0, a0)), (1, (2, a1)), (2, (0, a2)), (3, (0, a3))]) (by decide) rfl dJ22_hashCode_2_3 ?_
  refine r_iload_n hκ 3 rfl rfl dJ22_hashCode_2_5 ?_
  refine r_istore hκ (L2 := [(5, (0, a2)), (4, (0, (a2 + a3))), (0, (0, a0)), (1, (2, a1)), (2, (0, a2)), (3, (0, a3))]) (by decide) rfl dJ22_hashCode_2_6 ?_
  exact r_sub [2, 3, 1, 0] rfl (w_J22_hashCode_2_r hκ hi hf 0 _ _ _ _ _ h)
/-- jdk/internal/util/ArraysSupport.hashCode(I[SII)I -/
def F_J22_hashCode_3_r (b : Nat) (x0 x1 x2 x3 : Int) (s0 : bS) : Option (bS × Int) :=
  match b with
  | 0 =>
    bte (i32 x2 ≤ i32 x3)
    (some (s0, x0))
    (bck (bg s0 0 x1 0 = 1002 ∧ (0 : Int) ≤ x3 ∧ x3 < bg s0 4 x1 0) <|
    bvl (((31 * x0) + (bg s0 16 x1 x3))) fun t1 =>
    F_J22_hashCode_3_r 0 t1 x1 x2 (x3 + 1) s0)
  | _ => none
partial_fixpoint
def F_J22_hashCode_3 (s0 : bS) (a0 a1 a2 a3 : Int) : Option (bS × Int) :=
  F_J22_hashCode_3_r 0 a0 a1 (a2 + a3) a2 s0
set_option maxHeartbeats 4000000 in
set_option maxRecDepth 100000 in
set_option synthInstance.maxHeartbeats 4000000 in
theorem w_J22_hashCode_3_r {Γ0 : bG} {l0 : Launch} {κ : bK} {st' : bS} {v : Int} (hκ : bOk κ Γ0 l0 cJ22_hashCode_3 RJ22 6 0 0) (hi : bIn κ yJ22_hashCode_3) (hf : bFin κ (some .int) st' (some (0, v))) (b : Nat) (x0 x1 x2 x3 : Int) (s0 : bS) (h : F_J22_hashCode_3_r b x0 x1 x2 x3 s0 = some (st', v)) : match (generalizing := false) b with | 0 => bJ κ s0 8 [(0, (0, x0)), (1, (2, x1)), (4, (0, x2)), (5, (0, x3))] [] | _ => True := by
  refine F_J22_hashCode_3_r.partial_correctness x1 x2 s0 (fun b x0 x3 r => r = (st', v) → match (generalizing := false) b with | 0 => bJ κ s0 8 [(0, (0, x0)), (1, (2, x1)), (4, (0, x2)), (5, (0, x3))] [] | _ => True) ?_ b x0 x3 _ h rfl
  intro f' ih b x0 x3 r h hr
  subst hr
  match b, h with
  | 0, h =>
      refine r_iload hκ 3 rfl dJ22_hashCode_3_8 ?_
      refine r_iload hκ 2 rfl dJ22_hashCode_3_10 ?_
      refine r_icmp_ge hκ (tgt := 31) (by decide) dJ22_hashCode_3_12 (fun h1 => ?_) (fun h1 => ?_)
      · replace h := (bte_i h).1 h1
        refine r_iload_n hκ 0 rfl rfl dJ22_hashCode_3_31 ?_
        exact r_iretH hκ hf h (nar_int _) dJ22_hashCode_3_32
      · replace h := (bte_i h).2 h1
        refine r_bipush hκ (by decide) dJ22_hashCode_3_15 ?_
        refine r_iload_n hκ 0 rfl rfl dJ22_hashCode_3_17 ?_
        refine r_imul hκ dJ22_hashCode_3_18 ?_
        refine r_aload_n hκ 1 rfl rfl dJ22_hashCode_3_19 ?_
        refine r_iload hκ 3 rfl dJ22_hashCode_3_20 ?_
        obtain ⟨⟨h2, h3⟩, h⟩ := bck_i h
        refine r_sald hκ h2 h3 dJ22_hashCode_3_22 ?_
        refine r_iadd hκ dJ22_hashCode_3_23 ?_
        refine r_nm (fun t1 et1 => ?_)
        replace h := bvl_i h t1 et1
        refine r_istore_n hκ (L2 := [(0, (0, t1)), (1, (2, x1)), (4, (0, x2)), (5, (0, x3))]) (by decide) rfl rfl dJ22_hashCode_3_24 ?_
        refine r_iinc hκ (L2 := [(5, (0, (x3 + 1))), (0, (0, t1)), (1, (2, x1)), (4, (0, x2))]) 3 rfl (by decide) rfl dJ22_hashCode_3_25 ?_
        refine r_goto hκ (tgt := 8) (by decide) dJ22_hashCode_3_28 ?_
        exact r_sub [1, 2, 3, 0] rfl (ih 0 _ _ _ h rfl)
  | b + 1, h => trivial
set_option maxHeartbeats 4000000 in
set_option maxRecDepth 100000 in
theorem w_J22_hashCode_3 (Γ0 : bG) (l0 : Launch) {s0 st' : bS} {v a0 a1 a2 a3 : Int} (h : F_J22_hashCode_3 s0 a0 a1 a2 a3 = some (st', v)) : bCt Γ0 l0 yJ22_hashCode_3 cJ22_hashCode_3 6 (some .int) 0 0 [(0, a0), (2, a1), (0, a2), (0, a3)] s0 st' (some (0, v)) := by
  refine b_ent (own := RJ22) (by decide +kernel) rfl (Nat.le_of_ble_eq_true rfl) (L := [(0, (0, a0)), (1, (2, a1)), (2, (0, a2)), (3, (0, a3))]) rfl ?_
  intro κ hκ hi hf
  unfold F_J22_hashCode_3 at h
  refine r_iload_n hκ 2 rfl rfl dJ22_hashCode_3_0 ?_
  refine r_iload_n hκ 3 rfl rfl dJ22_hashCode_3_1 ?_
  refine r_iadd hκ dJ22_hashCode_3_2 ?_
  refine r_istore hκ (L2 := [(4, (0, (a2 + a3))), (0, (0, a0)), (1, (2, a1)), (2, (0, a2)), (3, (0, a3))]) (by decide) rfl dJ22_hashCode_3_3 ?_
  refine r_iload_n hκ 3 rfl rfl dJ22_hashCode_3_5 ?_
  refine r_istore hκ (L2 := [(5, (0, a2)), (4, (0, (a2 + a3))), (0, (0, a0)), (1, (2, a1)), (2, (0, a2)), (3, (0, a3))]) (by decide) rfl dJ22_hashCode_3_6 ?_
  exact r_sub [2, 3, 1, 0] rfl (w_J22_hashCode_3_r hκ hi hf 0 _ _ _ _ _ h)
/-- jdk/internal/util/ArraysSupport.hashCode(I[III)I -/
def F_J22_hashCode_4_r (b : Nat) (x0 x1 x2 x3 : Int) (s0 : bS) : Option (bS × Int) :=
  match b with
  | 0 =>
    bte (i32 x2 ≤ i32 x3)
    (some (s0, x0))
    (bck (bg s0 0 x1 0 = 1003 ∧ (0 : Int) ≤ x3 ∧ x3 < bg s0 4 x1 0) <|
    bvl (((31 * x0) + (bg s0 20 x1 x3))) fun t1 =>
    F_J22_hashCode_4_r 0 t1 x1 x2 (x3 + 1) s0)
  | _ => none
partial_fixpoint
def F_J22_hashCode_4 (s0 : bS) (a0 a1 a2 a3 : Int) : Option (bS × Int) :=
  F_J22_hashCode_4_r 0 a0 a1 (a2 + a3) a2 s0
set_option maxHeartbeats 4000000 in
set_option maxRecDepth 100000 in
set_option synthInstance.maxHeartbeats 4000000 in
theorem w_J22_hashCode_4_r {Γ0 : bG} {l0 : Launch} {κ : bK} {st' : bS} {v : Int} (hκ : bOk κ Γ0 l0 cJ22_hashCode_4 RJ22 6 0 0) (hi : bIn κ yJ22_hashCode_4) (hf : bFin κ (some .int) st' (some (0, v))) (b : Nat) (x0 x1 x2 x3 : Int) (s0 : bS) (h : F_J22_hashCode_4_r b x0 x1 x2 x3 s0 = some (st', v)) : match (generalizing := false) b with | 0 => bJ κ s0 8 [(0, (0, x0)), (1, (2, x1)), (4, (0, x2)), (5, (0, x3))] [] | _ => True := by
  refine F_J22_hashCode_4_r.partial_correctness x1 x2 s0 (fun b x0 x3 r => r = (st', v) → match (generalizing := false) b with | 0 => bJ κ s0 8 [(0, (0, x0)), (1, (2, x1)), (4, (0, x2)), (5, (0, x3))] [] | _ => True) ?_ b x0 x3 _ h rfl
  intro f' ih b x0 x3 r h hr
  subst hr
  match b, h with
  | 0, h =>
      refine r_iload hκ 3 rfl dJ22_hashCode_4_8 ?_
      refine r_iload hκ 2 rfl dJ22_hashCode_4_10 ?_
      refine r_icmp_ge hκ (tgt := 31) (by decide) dJ22_hashCode_4_12 (fun h1 => ?_) (fun h1 => ?_)
      · replace h := (bte_i h).1 h1
        refine r_iload_n hκ 0 rfl rfl dJ22_hashCode_4_31 ?_
        exact r_iretH hκ hf h (nar_int _) dJ22_hashCode_4_32
      · replace h := (bte_i h).2 h1
        refine r_bipush hκ (by decide) dJ22_hashCode_4_15 ?_
        refine r_iload_n hκ 0 rfl rfl dJ22_hashCode_4_17 ?_
        refine r_imul hκ dJ22_hashCode_4_18 ?_
        refine r_aload_n hκ 1 rfl rfl dJ22_hashCode_4_19 ?_
        refine r_iload hκ 3 rfl dJ22_hashCode_4_20 ?_
        obtain ⟨⟨h2, h3⟩, h⟩ := bck_i h
        refine r_iald hκ h2 h3 dJ22_hashCode_4_22 ?_
        refine r_iadd hκ dJ22_hashCode_4_23 ?_
        refine r_nm (fun t1 et1 => ?_)
        replace h := bvl_i h t1 et1
        refine r_istore_n hκ (L2 := [(0, (0, t1)), (1, (2, x1)), (4, (0, x2)), (5, (0, x3))]) (by decide) rfl rfl dJ22_hashCode_4_24 ?_
        refine r_iinc hκ (L2 := [(5, (0, (x3 + 1))), (0, (0, t1)), (1, (2, x1)), (4, (0, x2))]) 3 rfl (by decide) rfl dJ22_hashCode_4_25 ?_
        refine r_goto hκ (tgt := 8) (by decide) dJ22_hashCode_4_28 ?_
        exact r_sub [1, 2, 3, 0] rfl (ih 0 _ _ _ h rfl)
  | b + 1, h => trivial
set_option maxHeartbeats 4000000 in
set_option maxRecDepth 100000 in
theorem w_J22_hashCode_4 (Γ0 : bG) (l0 : Launch) {s0 st' : bS} {v a0 a1 a2 a3 : Int} (h : F_J22_hashCode_4 s0 a0 a1 a2 a3 = some (st', v)) : bCt Γ0 l0 yJ22_hashCode_4 cJ22_hashCode_4 6 (some .int) 0 0 [(0, a0), (2, a1), (0, a2), (0, a3)] s0 st' (some (0, v)) := by
  refine b_ent (own := RJ22) (by decide +kernel) rfl (Nat.le_of_ble_eq_true rfl) (L := [(0, (0, a0)), (1, (2, a1)), (2, (0, a2)), (3, (0, a3))]) rfl ?_
  intro κ hκ hi hf
  unfold F_J22_hashCode_4 at h
  refine r_iload_n hκ 2 rfl rfl dJ22_hashCode_4_0 ?_
  refine r_iload_n hκ 3 rfl rfl dJ22_hashCode_4_1 ?_
  refine r_iadd hκ dJ22_hashCode_4_2 ?_
  refine r_istore hκ (L2 := [(4, (0, (a2 + a3))), (0, (0, a0)), (1, (2, a1)), (2, (0, a2)), (3, (0, a3))]) (by decide) rfl dJ22_hashCode_4_3 ?_
  refine r_iload_n hκ 3 rfl rfl dJ22_hashCode_4_5 ?_
  refine r_istore hκ (L2 := [(5, (0, a2)), (4, (0, (a2 + a3))), (0, (0, a0)), (1, (2, a1)), (2, (0, a2)), (3, (0, a3))]) (by decide) rfl dJ22_hashCode_4_6 ?_
  exact r_sub [2, 3, 1, 0] rfl (w_J22_hashCode_4_r hκ hi hf 0 _ _ _ _ _ h)
/-- java/lang/StringLatin1.hashCode([B)I -/
def F_J20_hashCode (s0 : bS) (a0 : Int) : Option (bS × Int) :=
  bck (bg s0 0 a0 0 = 1000) <|
  bte (b_t (bg s0 4 a0 0) = 0) (some (s0, 0)) (bte (b_t (bg s0 4 a0 0) = 1) (bck (bg s0 0 a0 0 = 1000 ∧ (0 : Int) ≤ 0 ∧ 0 < bg s0 4 a0 0) <|
  some (s0, (b_iand (bg s0 8 a0 0) 255))) (bck (bg s0 0 a0 0 = 1000) <|
  none))
set_option maxHeartbeats 4000000 in
set_option maxRecDepth 100000 in
theorem w_J20_hashCode (Γ0 : bG) (l0 : Launch) {s0 st' : bS} {v a0 : Int} (h : F_J20_hashCode s0 a0 = some (st', v)) : bCt Γ0 l0 yJ20_hashCode cJ20_hashCode 1 (some .int) 0 0 [(2, a0)] s0 st' (some (0, v)) := by
  refine b_ent (own := RJ20) (by decide +kernel) rfl (Nat.le_of_ble_eq_true rfl) (L := [(0, (2, a0))]) rfl ?_
  intro κ hκ hi hf
  unfold F_J20_hashCode at h
  refine r_aload_n hκ 0 rfl rfl dJ20_hashCode_0 ?_
  obtain ⟨h1, h⟩ := bck_i h
  refine r_alen hκ (t := 0) h1 rfl dJ20_hashCode_1 ?_
  by_cases h2 : b_t (bg s0 4 a0 0) = 0
  · replace h := (bte_i h).1 h2
    refine r_lsw hκ (tgt := 28) (by decide) (by first | (rw [h2]; decide) | rw [h2]) (by decide) dJ20_hashCode_2 ?_
    refine r_iconst hκ dJ20_hashCode_28 ?_
    refine r_goto hκ (tgt := 51) (by decide) dJ20_hashCode_29 ?_
    exact r_iretH hκ hf h (nar_int _) dJ20_hashCode_51
  replace h := (bte_i h).2 h2
  by_cases h3 : b_t (bg s0 4 a0 0) = 1
  · replace h := (bte_i h).1 h3
    refine r_lsw hκ (tgt := 32) (by decide) (by first | (rw [h3]; decide) | rw [h3]) (by decide) dJ20_hashCode_2 ?_
    refine r_aload_n hκ 0 rfl rfl dJ20_hashCode_32 ?_
    refine r_iconst hκ dJ20_hashCode_33 ?_
    obtain ⟨⟨h4, h5⟩, h⟩ := bck_i h
    refine r_bald hκ h4 h5 dJ20_hashCode_34 ?_
    refine r_sipush hκ (by decide) dJ20_hashCode_35 ?_
    refine r_iand hκ dJ20_hashCode_38 ?_
    refine r_goto hκ (tgt := 51) (by decide) dJ20_hashCode_39 ?_
    exact r_iretH hκ hf h (nar_int _) dJ20_hashCode_51
  replace h := (bte_i h).2 h3
  refine r_lsw hκ (tgt := 42) (off := 40) (by decide) (by first | (simp only [Op.lookupswitch.offset_cons, Op.lookupswitch.offset_nil, Array.toList]; simp [*]; done) | (show (if (0 : Int) = _ then _ else (if (1 : Int) = _ then _ else _)) = _; rw [if_neg (fun q => h2 q.symm), if_neg (fun q => h3 q.symm)]; rfl)) (by decide) dJ20_hashCode_2 ?_
  refine r_aload_n hκ 0 rfl rfl dJ20_hashCode_42 ?_
  refine r_iconst hκ dJ20_hashCode_43 ?_
  refine r_aload_n hκ 0 rfl rfl dJ20_hashCode_44 ?_
  obtain ⟨h6, h⟩ := bck_i h
  refine r_alen hκ (t := 0) h6 rfl dJ20_hashCode_45 ?_
  refine r_iconst hκ dJ20_hashCode_46 ?_
  refine r_iconst hκ dJ20_hashCode_47 ?_
  cases h
/-- java/lang/String.hashCode()I -/
def F_J2_hashCode_r (b : Nat) (x0 x1 : Int) (s0 : bS) : Option (bS × Int) :=
  match b with
  | 0 =>
    bte (i32 x1 = 0)
    (bck ((bg s0 0 x0 0 = 20) ∧ ((1 : Int) = 0 ∨ (1 : Int) = 1) ∧ bg s0 1 (-1) 0 ≤ x0) <|
    bst (bw s0 436 x0 0 1) fun s4 =>
    some (s4, x1))
    (bck ((bg s0 0 x0 0 = 20) ∧ bg s0 1 (-1) 0 ≤ x0) <|
    bst (bw s0 432 x0 0 x1) fun s3 =>
    some (s3, x1))
  | _ => none
def F_J2_hashCode (s0 : bS) (a0 : Int) : Option (bS × Int) :=
  bck (bg s0 0 a0 0 = 20) <|
  bte (i32 (bg s0 432 a0 0) = 0)
  (bck (bg s0 0 a0 0 = 20) <|
  bte (i32 (bg s0 436 a0 0) = 0)
  (bck (bg s0 0 a0 0 = 20) <|
  bcl (F_J2_isLatin1 s0 a0) fun s1 v1 =>
  bte (i32 v1 = 0)
  (bck (bg s1 0 a0 0 = 20) <|
  none)
  (bck (bg s1 0 a0 0 = 20) <|
  bcl (F_J20_hashCode s1 (bg s1 426 a0 0)) fun s2 v2 =>
  F_J2_hashCode_r 0 a0 v2 s2))
  (some (s0, (bg s0 432 a0 0))))
  (some (s0, (bg s0 432 a0 0)))
set_option maxHeartbeats 4000000 in
set_option maxRecDepth 100000 in
set_option synthInstance.maxHeartbeats 4000000 in
theorem w_J2_hashCode_r {Γ0 : bG} {l0 : Launch} {κ : bK} {st' : bS} {v : Int} (hκ : bOk κ Γ0 l0 cJ2_hashCode RJ2 2 1 20) (hi : bIn κ yJ2_hashCode) (hf : bFin κ (some .int) st' (some (0, v))) (b : Nat) (x0 x1 : Int) (s0 : bS) (h : F_J2_hashCode_r b x0 x1 s0 = some (st', v)) : match (generalizing := false) b with | 0 => bJ κ s0 40 [(0, (2, x0))] [(0, x1)] | _ => True := by
  unfold F_J2_hashCode_r at h
  match b, h with
  | 0, h =>
      refine r_istore_n hκ (L2 := [(1, (0, x1)), (0, (2, x0))]) (by decide) rfl rfl dJ2_hashCode_40 ?_
      refine r_iload_n hκ 0 rfl rfl dJ2_hashCode_41 ?_
      refine r_if_ne hκ (tgt := 53) (by decide) dJ2_hashCode_42 (fun h11 => ?_) (fun h11 => ?_)
      · replace h := (bte_i h).2 h11
        refine r_aload_n hκ 1 rfl rfl dJ2_hashCode_53 ?_
        refine r_iload_n hκ 0 rfl rfl dJ2_hashCode_54 ?_
        obtain ⟨⟨h12, h13⟩, h⟩ := bck_i h
        refine r_put hκ (t := 19) (k := 2) (r := 432) (ty := .int) tyJ2 tyJ2_ok nmJ2 h12 rfl in_J2 (by decide) rfl q1173 (Or.inl rfl) rfl rfl rfl trivial (Or.inr h13) dJ2_hashCode_55 (fun s3 es3 => ?_)
        replace h := bst_i h s3 es3
        refine r_iload_n hκ 0 rfl rfl dJ2_hashCode_58 ?_
        exact r_iretH hκ hf h (nar_int _) dJ2_hashCode_59
      · replace h := (bte_i h).1 h11
        refine r_aload_n hκ 1 rfl rfl dJ2_hashCode_45 ?_
        refine r_iconst hκ dJ2_hashCode_46 ?_
        obtain ⟨⟨h14, h15, h16⟩, h⟩ := bck_i h
        refine r_put hκ (t := 19) (k := 3) (r := 436) (ty := .boolean) tyJ2 tyJ2_ok nmJ2 h14 rfl in_J2 (by decide) rfl q1174 (Or.inl rfl) rfl rfl rfl h15 (Or.inr h16) dJ2_hashCode_47 (fun s4 es4 => ?_)
        replace h := bst_i h s4 es4
        refine r_goto hκ (tgt := 58) (by decide) dJ2_hashCode_50 ?_
        refine r_iload_n hκ 0 rfl rfl dJ2_hashCode_58 ?_
        exact r_iretH hκ hf h (nar_int _) dJ2_hashCode_59
  | b + 1, h => trivial
set_option maxHeartbeats 4000000 in
set_option maxRecDepth 100000 in
theorem w_J2_hashCode (Γ0 : bG) (l0 : Launch) {s0 st' : bS} {v a0 : Int} (h : F_J2_hashCode s0 a0 = some (st', v)) : bCt Γ0 l0 yJ2_hashCode cJ2_hashCode 2 (some .int) 1 20 [(2, a0)] s0 st' (some (0, v)) := by
  refine b_ent (own := RJ2) (by decide +kernel) rfl (Nat.le_of_ble_eq_true rfl) (L := [(0, (2, a0))]) rfl ?_
  intro κ hκ hi hf
  unfold F_J2_hashCode at h
  refine r_aload_n hκ 0 rfl rfl dJ2_hashCode_0 ?_
  obtain ⟨h1, h⟩ := bck_i h
  refine r_get hκ (t := 19) (k := 2) (r := 432) h1 rfl in_J2 (by decide) rfl q1173 (Or.inl rfl) dJ2_hashCode_1 ?_
  refine r_istore_n hκ (L2 := [(1, (0, (bg s0 432 a0 0))), (0, (2, a0))]) (by decide) rfl rfl dJ2_hashCode_4 ?_
  refine r_iload_n hκ 0 rfl rfl dJ2_hashCode_5 ?_
  refine r_if_ne hκ (tgt := 58) (by decide) dJ2_hashCode_6 (fun h2 => ?_) (fun h2 => ?_)
  · replace h := (bte_i h).2 h2
    refine r_iload_n hκ 0 rfl rfl dJ2_hashCode_58 ?_
    exact r_iretH hκ hf h (nar_int _) dJ2_hashCode_59
  · replace h := (bte_i h).1 h2
    refine r_aload_n hκ 1 rfl rfl dJ2_hashCode_9 ?_
    obtain ⟨h3, h⟩ := bck_i h
    refine r_get hκ (t := 19) (k := 3) (r := 436) h3 rfl in_J2 (by decide) rfl q1174 (Or.inl rfl) dJ2_hashCode_10 ?_
    refine r_if_ne hκ (tgt := 58) (by decide) dJ2_hashCode_13 (fun h4 => ?_) (fun h4 => ?_)
    · replace h := (bte_i h).2 h4
      refine r_iload_n hκ 0 rfl rfl dJ2_hashCode_58 ?_
      exact r_iretH hκ hf h (nar_int _) dJ2_hashCode_59
    · replace h := (bte_i h).1 h4
      refine r_aload_n hκ 1 rfl rfl dJ2_hashCode_16 ?_
      obtain ⟨h5, h⟩ := bck_i h
      obtain ⟨s1, v1, h6, h⟩ := bcl_i h
      refine r_callV hκ (n' := 0) (index := 492) (w_J2_isLatin1 Γ0 l0 h6) (lw_V q895 q896 q897 q126 q898) (by decide +kernel) (t := 19) h5 rfl rfl (by decide) rfl (Nat.le_of_ble_eq_true rfl) dJ2_hashCode_17 ?_
      refine r_if_eq hκ (tgt := 33) (by decide) dJ2_hashCode_20 (fun h7 => ?_) (fun h7 => ?_)
      · replace h := (bte_i h).1 h7
        refine r_aload_n hκ 1 rfl rfl dJ2_hashCode_33 ?_
        obtain ⟨h8, h⟩ := bck_i h
        refine r_get hκ (t := 19) (k := 0) (r := 426) h8 rfl in_J2 (by decide) rfl q1171 (Or.inl rfl) dJ2_hashCode_34 ?_
        cases h
      · replace h := (bte_i h).2 h7
        refine r_aload_n hκ 1 rfl rfl dJ2_hashCode_23 ?_
        obtain ⟨h9, h⟩ := bck_i h
        refine r_get hκ (t := 19) (k := 0) (r := 426) h9 rfl in_J2 (by decide) rfl q1171 (Or.inl rfl) dJ2_hashCode_24 ?_
        obtain ⟨s2, v2, h10, h⟩ := bcl_i h
        refine r_callS hκ (n' := 1) (index := 628) (w_J20_hashCode Γ0 l0 h10) (lw_S q1185 q1186 q156 q1187) (by decide +kernel) rfl (by decide) rfl (Nat.le_of_ble_eq_true rfl) dJ2_hashCode_27 ?_
        refine r_goto hκ (tgt := 40) (by decide) dJ2_hashCode_30 ?_
        exact r_sub [1] rfl (w_J2_hashCode_r hκ hi hf 0 _ _ _ h)
/-- java/util/Arrays.rangeCheck(III)V -/
def F_J24_rangeCheck (s0 : bS) (a0 a1 a2 : Int) : Option (bS × Int) :=
  bte (i32 a1 ≤ i32 a2)
  (bte (0 ≤ i32 a1)
  (bte (i32 a2 ≤ i32 a0)
  (some (s0, 0))
  (none))
  (none))
  (none)
set_option maxHeartbeats 4000000 in
set_option maxRecDepth 100000 in
theorem w_J24_rangeCheck (Γ0 : bG) (l0 : Launch) {s0 st' : bS} {v a0 a1 a2 : Int} (h : F_J24_rangeCheck s0 a0 a1 a2 = some (st', v)) : bCt Γ0 l0 yJ24_rangeCheck cJ24_rangeCheck 3 none 0 0 [(0, a0), (0, a1), (0, a2)] s0 st' none := by
  refine b_ent (own := RJ24) (by decide +kernel) rfl (Nat.le_of_ble_eq_true rfl) (L := [(0, (0, a0)), (1, (0, a1)), (2, (0, a2))]) rfl ?_
  intro κ hκ hi hf
  unfold F_J24_rangeCheck at h
  refine r_iload_n hκ 1 rfl rfl dJ24_rangeCheck_0 ?_
  refine r_iload_n hκ 2 rfl rfl dJ24_rangeCheck_1 ?_
  refine r_icmp_le hκ (tgt := 46) (by decide) dJ24_rangeCheck_2 (fun h1 => ?_) (fun h1 => ?_)
  · replace h := (bte_i h).1 h1
    refine r_iload_n hκ 1 rfl rfl dJ24_rangeCheck_46 ?_
    refine r_if_ge hκ (tgt := 59) (by decide) dJ24_rangeCheck_47 (fun h2 => ?_) (fun h2 => ?_)
    · replace h := (bte_i h).1 h2
      refine r_iload_n hκ 2 rfl rfl dJ24_rangeCheck_59 ?_
      refine r_iload_n hκ 0 rfl rfl dJ24_rangeCheck_60 ?_
      refine r_icmp_le hκ (tgt := 73) (by decide) dJ24_rangeCheck_61 (fun h3 => ?_) (fun h3 => ?_)
      · replace h := (bte_i h).1 h3
        exact r_vretH hκ hf h dJ24_rangeCheck_73
      · replace h := (bte_i h).2 h3
        cases h
    · replace h := (bte_i h).2 h2
      cases h
  · replace h := (bte_i h).2 h1
    cases h
/-- java/util/Arrays.fill([BIIB)V -/
def F_J24_fill_r (b : Nat) (x0 x1 x2 x3 : Int) (s0 : bS) : Option (bS × Int) :=
  match b with
  | 0 =>
    bte (i32 x1 ≤ i32 x3)
    (some (s0, 0))
    (bck ((bg s0 0 x0 0 = 1000 ∧ (0 : Int) ≤ x3 ∧ x3 < bg s0 4 x0 0) ∧ bg s0 1 (-1) 0 ≤ x0) <|
    bst (bw s0 8 x0 x3 (b_i2b x2)) fun s2 =>
    F_J24_fill_r 0 x0 x1 x2 (x3 + 1) s2)
  | _ => none
partial_fixpoint
def F_J24_fill (s0 : bS) (a0 a1 a2 a3 : Int) : Option (bS × Int) :=
  bck (bg s0 0 a0 0 = 1000) <|
  bcl (F_J24_rangeCheck s0 (bg s0 4 a0 0) a1 a2) fun s1 v1 =>
  F_J24_fill_r 0 a0 a2 a3 a1 s1
set_option maxHeartbeats 4000000 in
set_option maxRecDepth 100000 in
set_option synthInstance.maxHeartbeats 4000000 in
theorem w_J24_fill_r {Γ0 : bG} {l0 : Launch} {κ : bK} {st' : bS} {v : Int} (hκ : bOk κ Γ0 l0 cJ24_fill RJ24 5 1 22) (hi : bIn κ yJ24_fill) (hf : bFin κ none st' none) (b : Nat) (x0 x1 x2 x3 : Int) (s0 : bS) (h : F_J24_fill_r b x0 x1 x2 x3 s0 = some (st', v)) : match (generalizing := false) b with | 0 => bJ κ s0 10 [(0, (2, x0)), (2, (0, x1)), (3, (0, x2)), (4, (0, x3))] [] | _ => True := by
  refine F_J24_fill_r.partial_correctness x0 x1 x2 (fun b x3 s0 r => r = (st', v) → match (generalizing := false) b with | 0 => bJ κ s0 10 [(0, (2, x0)), (2, (0, x1)), (3, (0, x2)), (4, (0, x3))] [] | _ => True) ?_ b x3 s0 _ h rfl
  intro f' ih b x3 s0 r h hr
  subst hr
  match b, h with
  | 0, h =>
      refine r_iload hκ 3 rfl dJ24_fill_10 ?_
      refine r_iload_n hκ 1 rfl rfl dJ24_fill_12 ?_
      refine r_icmp_ge hκ (tgt := 27) (by decide) dJ24_fill_13 (fun h3 => ?_) (fun h3 => ?_)
      · replace h := (bte_i h).1 h3
        exact r_vretH hκ hf h dJ24_fill_27
      · replace h := (bte_i h).2 h3
        refine r_aload_n hκ 0 rfl rfl dJ24_fill_16 ?_
        refine r_iload hκ 3 rfl dJ24_fill_17 ?_
        refine r_iload_n hκ 2 rfl rfl dJ24_fill_19 ?_
        obtain ⟨⟨⟨h4, h5⟩, h6⟩, h⟩ := bck_i h
        refine r_bast hκ h4 h5 h6 dJ24_fill_20 (fun s2 es2 => ?_)
        replace h := bst_i h s2 es2
        refine r_iinc hκ (L2 := [(4, (0, (x3 + 1))), (0, (2, x0)), (2, (0, x1)), (3, (0, x2))]) 3 rfl (by decide) rfl dJ24_fill_21 ?_
        refine r_goto hκ (tgt := 10) (by decide) dJ24_fill_24 ?_
        exact r_sub [1, 2, 3, 0] rfl (ih 0 _ _ _ h rfl)
  | b + 1, h => trivial
set_option maxHeartbeats 4000000 in
set_option maxRecDepth 100000 in
theorem w_J24_fill (Γ0 : bG) (l0 : Launch) {s0 st' : bS} {v a0 a1 a2 a3 : Int} (h : F_J24_fill s0 a0 a1 a2 a3 = some (st', v)) : bCt Γ0 l0 yJ24_fill cJ24_fill 5 none 1 22 [(2, a0), (0, a1), (0, a2), (0, a3)] s0 st' none := by
  refine b_ent (own := RJ24) (by decide +kernel) rfl (Nat.le_of_ble_eq_true rfl) (L := [(0, (2, a0)), (1, (0, a1)), (2, (0, a2)), (3, (0, a3))]) rfl ?_
  intro κ hκ hi hf
  unfold F_J24_fill at h
  refine r_aload_n hκ 0 rfl rfl dJ24_fill_0 ?_
  obtain ⟨h1, h⟩ := bck_i h
  refine r_alen hκ (t := 0) h1 rfl dJ24_fill_1 ?_
  refine r_iload_n hκ 1 rfl rfl dJ24_fill_2 ?_
  refine r_iload_n hκ 2 rfl rfl dJ24_fill_3 ?_
  obtain ⟨s1, v1, h2, h⟩ := bcl_i h
  refine r_callS hκ (n' := 3) (index := 13) (w_J24_rangeCheck Γ0 l0 h2) (lw_S q2841 q2842 q162 q2843) (by decide +kernel) rfl (by decide) rfl (Nat.le_of_ble_eq_true rfl) dJ24_fill_4 ?_
  refine r_iload_n hκ 1 rfl rfl dJ24_fill_7 ?_
  refine r_istore hκ (L2 := [(4, (0, a1)), (0, (2, a0)), (1, (0, a1)), (2, (0, a2)), (3, (0, a3))]) (by decide) rfl dJ24_fill_8 ?_
  exact r_sub [1, 3, 4, 0] rfl (w_J24_fill_r hκ hi hf 0 _ _ _ _ _ h)
/-- java/lang/StringLatin1.fillNull([BII)V -/
def F_J20_fillNull (s0 : bS) (a0 a1 a2 : Int) : Option (bS × Int) :=
  bcl (F_J24_fill s0 a0 a1 a2 0) fun s1 v1 =>
  some (s1, 0)
set_option maxHeartbeats 4000000 in
set_option maxRecDepth 100000 in
theorem w_J20_fillNull (Γ0 : bG) (l0 : Launch) {s0 st' : bS} {v a0 a1 a2 : Int} (h : F_J20_fillNull s0 a0 a1 a2 = some (st', v)) : bCt Γ0 l0 yJ20_fillNull cJ20_fillNull 3 none 2 46 [(2, a0), (0, a1), (0, a2)] s0 st' none := by
  refine b_ent (own := RJ20) (by decide +kernel) rfl (Nat.le_of_ble_eq_true rfl) (L := [(0, (2, a0)), (1, (0, a1)), (2, (0, a2))]) rfl ?_
  intro κ hκ hi hf
  unfold F_J20_fillNull at h
  refine r_aload_n hκ 0 rfl rfl dJ20_fillNull_0 ?_
  refine r_iload_n hκ 1 rfl rfl dJ20_fillNull_1 ?_
  refine r_iload_n hκ 2 rfl rfl dJ20_fillNull_2 ?_
  refine r_iconst hκ dJ20_fillNull_3 ?_
  obtain ⟨s1, v1, h1, h⟩ := bcl_i h
  refine r_callS hκ (n' := 4) (index := 236) (w_J24_fill Γ0 l0 h1) (lw_S q2838 q2839 q162 q2840) (by decide +kernel) rfl (by decide) rfl (Nat.le_of_ble_eq_true rfl) dJ20_fillNull_4 ?_
  exact r_vretH hκ hf h dJ20_fillNull_7
/-- java/lang/AbstractStringBuilder.setLength(I)V -/
def F_J0_setLength (s0 : bS) (a0 a1 : Int) : Option (bS × Int) :=
  bte (0 ≤ i32 a1)
  (bck (bg s0 0 a0 0 = 19) <|
  bcl (F_J0_ensureCapacityInternal s0 a0 a1) fun s1 v1 =>
  bck (bg s1 0 a0 0 = 19) <|
  bte (i32 a1 ≤ i32 (bg s1 420 a0 0))
  (bck (bg s1 0 a0 0 = 19) <|
  bte (i32 (bg s1 420 a0 0) ≤ i32 a1)
  (bck ((bg s1 0 a0 0 = 19)) <|
  bst (bw s1 420 a0 0 a1) fun s2 =>
  some (s2, 0))
  (bck ((bg s1 0 a0 0 = 19) ∧ ((1 : Int) = 0 ∨ (1 : Int) = 1)) <|
  bst (bw s1 416 a0 0 1) fun s3 =>
  bck ((bg s3 0 a0 0 = 19)) <|
  bst (bw s3 420 a0 0 a1) fun s4 =>
  some (s4, 0)))
  (bck (bg s1 0 a0 0 = 19) <|
  bcl (F_J0_isLatin1 s1 a0) fun s5 v2 =>
  bte (i32 v2 = 0)
  (bck (bg s5 0 a0 0 = 19) <|
  bck (bg s5 0 a0 0 = 19) <|
  none)
  (bck (bg s5 0 a0 0 = 19) <|
  bck (bg s5 0 a0 0 = 19) <|
  bcl (F_J20_fillNull s5 (bg s5 410 a0 0) (bg s5 420 a0 0) a1) fun s6 v3 =>
  bck ((bg s6 0 a0 0 = 19)) <|
  bst (bw s6 420 a0 0 a1) fun s7 =>
  some (s7, 0))))
  (none)
set_option maxHeartbeats 4000000 in
set_option maxRecDepth 100000 in
theorem w_J0_setLength (Γ0 : bG) (l0 : Launch) {s0 st' : bS} {v a0 a1 : Int} (h : F_J0_setLength s0 a0 a1 = some (st', v)) : bCt Γ0 l0 yJ0_setLength cJ0_setLength 2 none 4 91 [(2, a0), (0, a1)] s0 st' none := by
  refine b_ent (own := RJ0) (by decide +kernel) rfl (Nat.le_of_ble_eq_true rfl) (L := [(0, (2, a0)), (1, (0, a1))]) rfl ?_
  intro κ hκ hi hf
  unfold F_J0_setLength at h
  refine r_iload_n hκ 1 rfl rfl dJ0_setLength_0 ?_
  refine r_if_ge hκ (tgt := 13) (by decide) dJ0_setLength_1 (fun h1 => ?_) (fun h1 => ?_)
  · replace h := (bte_i h).1 h1
    refine r_aload_n hκ 0 rfl rfl dJ0_setLength_13 ?_
    refine r_iload_n hκ 1 rfl rfl dJ0_setLength_14 ?_
    obtain ⟨h2, h⟩ := bck_i h
    obtain ⟨s1, v1, h3, h⟩ := bcl_i h
    refine r_callP hκ (index := 100) (C := "java/lang/StringBuilder") (owner := "java/lang/AbstractStringBuilder") (n' := 1) (w_J0_ensureCapacityInternal Γ0 l0 h3) (fun R s args hts hsl hRR => va_cwU 1 (List.forall_mem_cons.mpr ⟨hsl ("java/lang/StringBuilder", ⟨"java/lang/AbstractStringBuilder", "ensureCapacityInternal", "(I)V"⟩) (by decide +kernel), hts⟩) (b_gP rfl q1025 q3586 q1027 q124 (lw_meth q1028)) rfl rfl rfl rfl (by decide +kernel) hRR) (t := 18) h2 rfl rfl (by decide) rfl (Nat.le_of_ble_eq_true rfl) dJ0_setLength_15 ?_
    refine r_aload_n hκ 0 rfl rfl dJ0_setLength_18 ?_
    obtain ⟨h4, h⟩ := bck_i h
    refine r_get hκ (t := 18) (k := 3) (r := 420) h4 rfl in_J1 (by decide) rfl q306 (Or.inl rfl) dJ0_setLength_19 ?_
    refine r_iload_n hκ 1 rfl rfl dJ0_setLength_22 ?_
    refine r_icmp_ge hκ (tgt := 63) (by decide) dJ0_setLength_23 (fun h5 => ?_) (fun h5 => ?_)
    · replace h := (bte_i h).1 h5
      refine r_aload_n hκ 0 rfl rfl dJ0_setLength_63 ?_
      obtain ⟨h6, h⟩ := bck_i h
      refine r_get hκ (t := 18) (k := 3) (r := 420) h6 rfl in_J1 (by decide) rfl q306 (Or.inl rfl) dJ0_setLength_64 ?_
      refine r_iload_n hκ 1 rfl rfl dJ0_setLength_67 ?_
      refine r_icmp_le hκ (tgt := 76) (by decide) dJ0_setLength_68 (fun h7 => ?_) (fun h7 => ?_)
      · replace h := (bte_i h).1 h7
        refine r_aload_n hκ 0 rfl rfl dJ0_setLength_76 ?_
        refine r_iload_n hκ 1 rfl rfl dJ0_setLength_77 ?_
        obtain ⟨h8, h⟩ := bck_i h
        refine r_put hκ (t := 18) (k := 3) (r := 420) (ty := .int) tyJ1 tyJ1_ok nmJ1 h8 rfl in_J1 (by decide) rfl q306 (Or.inl rfl) rfl rfl rfl trivial (Or.inl (by decide)) dJ0_setLength_78 (fun s2 es2 => ?_)
        replace h := bst_i h s2 es2
        exact r_vretH hκ hf h dJ0_setLength_81
      · replace h := (bte_i h).2 h7
        refine r_aload_n hκ 0 rfl rfl dJ0_setLength_71 ?_
        refine r_iconst hκ dJ0_setLength_72 ?_
        obtain ⟨⟨h9, h10⟩, h⟩ := bck_i h
        refine r_put hκ (t := 18) (k := 2) (r := 416) (ty := .boolean) tyJ1 tyJ1_ok nmJ1 h9 rfl in_J1 (by decide) rfl q304 (Or.inl rfl) rfl rfl rfl h10 (Or.inl (by decide)) dJ0_setLength_73 (fun s3 es3 => ?_)
        replace h := bst_i h s3 es3
        refine r_aload_n hκ 0 rfl rfl dJ0_setLength_76 ?_
        refine r_iload_n hκ 1 rfl rfl dJ0_setLength_77 ?_
        obtain ⟨h11, h⟩ := bck_i h
        refine r_put hκ (t := 18) (k := 3) (r := 420) (ty := .int) tyJ1 tyJ1_ok nmJ1 h11 rfl in_J1 (by decide) rfl q306 (Or.inl rfl) rfl rfl rfl trivial (Or.inl (by decide)) dJ0_setLength_78 (fun s4 es4 => ?_)
        replace h := bst_i h s4 es4
        exact r_vretH hκ hf h dJ0_setLength_81
    · replace h := (bte_i h).2 h5
      refine r_aload_n hκ 0 rfl rfl dJ0_setLength_26 ?_
      obtain ⟨h12, h⟩ := bck_i h
      obtain ⟨s5, v2, h13, h⟩ := bcl_i h
      refine r_callU hκ (index := 83) (C := "java/lang/StringBuilder") (owner := "java/lang/AbstractStringBuilder") (n' := 0) (w_J0_isLatin1 Γ0 l0 h13) (fun R s args hts hRR => va_cwU 0 hts (lw_app (lw_l5 q1058 q1060 q1061 q1059 q124) (lw_meth q1062)) rfl rfl rfl rfl (by decide +kernel) hRR) (t := 18) h12 rfl rfl (by decide) rfl (Nat.le_of_ble_eq_true rfl) dJ0_setLength_27 ?_
      refine r_if_eq hκ (tgt := 48) (by decide) dJ0_setLength_30 (fun h14 => ?_) (fun h14 => ?_)
      · replace h := (bte_i h).1 h14
        refine r_aload_n hκ 0 rfl rfl dJ0_setLength_48 ?_
        obtain ⟨h15, h⟩ := bck_i h
        refine r_get hκ (t := 18) (k := 0) (r := 410) h15 rfl in_J1 (by decide) rfl q302 (Or.inl rfl) dJ0_setLength_49 ?_
        refine r_aload_n hκ 0 rfl rfl dJ0_setLength_52 ?_
        obtain ⟨h16, h⟩ := bck_i h
        refine r_get hκ (t := 18) (k := 3) (r := 420) h16 rfl in_J1 (by decide) rfl q306 (Or.inl rfl) dJ0_setLength_53 ?_
        refine r_iload_n hκ 1 rfl rfl dJ0_setLength_56 ?_
        cases h
      · replace h := (bte_i h).2 h14
        refine r_aload_n hκ 0 rfl rfl dJ0_setLength_33 ?_
        obtain ⟨h17, h⟩ := bck_i h
        refine r_get hκ (t := 18) (k := 0) (r := 410) h17 rfl in_J1 (by decide) rfl q302 (Or.inl rfl) dJ0_setLength_34 ?_
        refine r_aload_n hκ 0 rfl rfl dJ0_setLength_37 ?_
        obtain ⟨h18, h⟩ := bck_i h
        refine r_get hκ (t := 18) (k := 3) (r := 420) h18 rfl in_J1 (by decide) rfl q306 (Or.inl rfl) dJ0_setLength_38 ?_
        refine r_iload_n hκ 1 rfl rfl dJ0_setLength_41 ?_
        obtain ⟨s6, v3, h19, h⟩ := bcl_i h
        refine r_callS hκ (n' := 3) (index := 133) (w_J20_fillNull Γ0 l0 h19) (lw_S q2835 q2836 q156 q2837) (by decide +kernel) rfl (by decide) rfl (Nat.le_of_ble_eq_true rfl) dJ0_setLength_42 ?_
        refine r_goto hκ (tgt := 76) (by decide) dJ0_setLength_45 ?_
        refine r_aload_n hκ 0 rfl rfl dJ0_setLength_76 ?_
        refine r_iload_n hκ 1 rfl rfl dJ0_setLength_77 ?_
        obtain ⟨h20, h⟩ := bck_i h
        refine r_put hκ (t := 18) (k := 3) (r := 420) (ty := .int) tyJ1 tyJ1_ok nmJ1 h20 rfl in_J1 (by decide) rfl q306 (Or.inl rfl) rfl rfl rfl trivial (Or.inl (by decide)) dJ0_setLength_78 (fun s7 es7 => ?_)
        replace h := bst_i h s7 es7
        exact r_vretH hκ hf h dJ0_setLength_81
  · replace h := (bte_i h).2 h1
    cases h
/-- java/lang/StringBuilder.setLength(I)V -/
def F_J1_setLength (s0 : bS) (a0 a1 : Int) : Option (bS × Int) :=
  bck (bg s0 0 a0 0 = 19) <|
  bcl (F_J0_setLength s0 a0 a1) fun s1 v1 =>
  some (s1, 0)
set_option maxHeartbeats 4000000 in
set_option maxRecDepth 100000 in
theorem w_J1_setLength (Γ0 : bG) (l0 : Launch) {s0 st' : bS} {v a0 a1 : Int} (h : F_J1_setLength s0 a0 a1 = some (st', v)) : bCt Γ0 l0 yJ1_setLength cJ1_setLength 2 none 5 112 [(2, a0), (0, a1)] s0 st' none := by
  refine b_ent (own := RJ1) (by decide +kernel) rfl (Nat.le_of_ble_eq_true rfl) (L := [(0, (2, a0)), (1, (0, a1))]) rfl ?_
  intro κ hκ hi hf
  unfold F_J1_setLength at h
  refine r_aload_n hκ 0 rfl rfl dJ1_setLength_0 ?_
  refine r_iload_n hκ 1 rfl rfl dJ1_setLength_1 ?_
  obtain ⟨h1, h⟩ := bck_i h
  obtain ⟨s1, v1, h2, h⟩ := bcl_i h
  refine r_callSU hκ (n' := 1) (index := 333) (w_J0_setLength Γ0 l0 h2) (lw_app (lw_l5 q2813 q3611 q315 q2814 q124) (lw_meth q2815)) (by decide +kernel) (t := 18) h1 rfl rfl (by decide) rfl (Nat.le_of_ble_eq_true rfl) dJ1_setLength_2 ?_
  exact r_vretH hκ hf h dJ1_setLength_5
/-- java/lang/AbstractStringBuilder.getCoder()B -/
def F_J0_getCoder (s0 : bS) (a0 : Int) : Option (bS × Int) :=
  bck (bg s0 0 a0 0 = 19) <|
  bck (-128 ≤ ((bg s0 412 a0 0) : Int) ∧ ((bg s0 412 a0 0) : Int) < 128) <|
  some (s0, (bg s0 412 a0 0))
set_option maxHeartbeats 4000000 in
set_option maxRecDepth 100000 in
theorem w_J0_getCoder (Γ0 : bG) (l0 : Launch) {s0 st' : bS} {v a0 : Int} (h : F_J0_getCoder s0 a0 = some (st', v)) : bCt Γ0 l0 yJ0_getCoder cJ0_getCoder 1 (some .byte) 0 0 [(2, a0)] s0 st' (some (0, v)) := by
  refine b_ent (own := RJ0) (by decide +kernel) rfl (Nat.le_of_ble_eq_true rfl) (L := [(0, (2, a0))]) rfl ?_
  intro κ hκ hi hf
  unfold F_J0_getCoder at h
  refine r_getsI hκ (x := 1) (by decide +kernel) q208 dJ0_getCoder_0 ?_
  refine r_if_eq hκ (tgt := 13) (by decide) dJ0_getCoder_3 (fun hc => absurd hc (by decide)) (fun _ => ?_)
  refine r_aload_n hκ 0 rfl rfl dJ0_getCoder_6 ?_
  obtain ⟨h1, h⟩ := bck_i h
  refine r_get hκ (t := 18) (k := 1) (r := 412) h1 rfl in_J1 (by decide) rfl q303 (Or.inl rfl) dJ0_getCoder_7 ?_
  refine r_goto hκ (tgt := 14) (by decide) dJ0_getCoder_10 ?_
  obtain ⟨h2, h⟩ := bck_i h
  exact r_iretH hκ hf h (nar_byte h2) dJ0_getCoder_14
/-- java/lang/AbstractStringBuilder.inflateIfNeededFor(Ljava/lang/AbstractStringBuilder;)V -/
def F_J0_inflateIfNeededFor_2 (s0 : bS) (a0 a1 : Int) : Option (bS × Int) :=
  bck (bg s0 0 a0 0 = 19) <|
  bck (bg s0 0 a1 0 = 19) <|
  bcl (F_J0_getCoder s0 a1) fun s1 v1 =>
  bte (i32 (bg s0 412 a0 0) = i32 v1)
  (some (s1, 0))
  (bck (bg s1 0 a0 0 = 19) <|
  bcl (F_J0_inflate s1 a0) fun s2 v2 =>
  some (s2, 0))
set_option maxHeartbeats 4000000 in
set_option maxRecDepth 100000 in
theorem w_J0_inflateIfNeededFor_2 (Γ0 : bG) (l0 : Launch) {s0 st' : bS} {v a0 a1 : Int} (h : F_J0_inflateIfNeededFor_2 s0 a0 a1 = some (st', v)) : bCt Γ0 l0 yJ0_inflateIfNeededFor_2 cJ0_inflateIfNeededFor_2 2 none 2 41 [(2, a0), (2, a1)] s0 st' none := by
  refine b_ent (own := RJ0) (by decide +kernel) rfl (Nat.le_of_ble_eq_true rfl) (L := [(0, (2, a0)), (1, (2, a1))]) rfl ?_
  intro κ hκ hi hf
  unfold F_J0_inflateIfNeededFor_2 at h
  refine r_getsI hκ (x := 1) (by decide +kernel) q208 dJ0_inflateIfNeededFor_2_0 ?_
  refine r_if_eq hκ (tgt := 21) (by decide) dJ0_inflateIfNeededFor_2_3 (fun hc => absurd hc (by decide)) (fun _ => ?_)
  refine r_aload_n hκ 0 rfl rfl dJ0_inflateIfNeededFor_2_6 ?_
  obtain ⟨h1, h⟩ := bck_i h
  refine r_get hκ (t := 18) (k := 1) (r := 412) h1 rfl in_J1 (by decide) rfl q303 (Or.inl rfl) dJ0_inflateIfNeededFor_2_7 ?_
  refine r_aload_n hκ 1 rfl rfl dJ0_inflateIfNeededFor_2_10 ?_
  obtain ⟨h2, h⟩ := bck_i h
  obtain ⟨s1, v1, h3, h⟩ := bcl_i h
  refine r_callU hκ (index := 70) (C := "java/lang/StringBuilder") (owner := "java/lang/AbstractStringBuilder") (n' := 0) (w_J0_getCoder Γ0 l0 h3) (fun R s args hts hRR => va_cwU 0 hts (lw_app (lw_l5 q2881 q2883 q2884 q2882 q124) (lw_meth q2885)) rfl rfl rfl rfl (by decide +kernel) hRR) (t := 18) h2 rfl rfl (by decide) rfl (Nat.le_of_ble_eq_true rfl) dJ0_inflateIfNeededFor_2_11 ?_
  refine r_icmp_eq hκ (tgt := 21) (by decide) dJ0_inflateIfNeededFor_2_14 (fun h4 => ?_) (fun h4 => ?_)
  · replace h := (bte_i h).1 h4
    exact r_vretH hκ hf h dJ0_inflateIfNeededFor_2_21
  · replace h := (bte_i h).2 h4
    refine r_aload_n hκ 0 rfl rfl dJ0_inflateIfNeededFor_2_17 ?_
    obtain ⟨h5, h⟩ := bck_i h
    obtain ⟨s2, v2, h6, h⟩ := bcl_i h
    refine r_callP hκ (index := 195) (C := "java/lang/StringBuilder") (owner := "java/lang/AbstractStringBuilder") (n' := 0) (w_J0_inflate Γ0 l0 h6) (fun R s args hts hsl hRR => va_cwU 0 (List.forall_mem_cons.mpr ⟨hsl ("java/lang/StringBuilder", ⟨"java/lang/AbstractStringBuilder", "inflate", "()V"⟩) (by decide +kernel), hts⟩) (b_gP rfl q1088 q3590 q1090 q124 (lw_meth q1091)) rfl rfl rfl rfl (by decide +kernel) hRR) (t := 18) h5 rfl rfl (by decide) rfl (Nat.le_of_ble_eq_true rfl) dJ0_inflateIfNeededFor_2_18 ?_
    exact r_vretH hκ hf h dJ0_inflateIfNeededFor_2_21
/-- java/lang/AbstractStringBuilder.getBytes([BIB)V -/
def F_J0_getBytes (s0 : bS) (a0 a1 a2 a3 : Int) : Option (bS × Int) :=
  bck (bg s0 0 a0 0 = 19) <|
  bte (i32 (bg s0 412 a0 0) = i32 a3)
  (bck (bg s0 0 a0 0 = 19) <|
  bck (bg s0 0 a0 0 = 19) <|
  bck ((bg s0 0 (bg s0 410 a0 0) 0 = 1000 ∧ bg s0 0 a1 0 = 1000) ∧ ((0 : Int) ≤ 0 ∧ (0 : Int) ≤ (b_ishl a2 a3) ∧ (0 : Int) ≤ (b_ishl (bg s0 420 a0 0) a3)) ∧ (0 + (b_ishl (bg s0 420 a0 0) a3) ≤ bg s0 4 (bg s0 410 a0 0) 0 ∧ (b_ishl a2 a3) + (b_ishl (bg s0 420 a0 0) a3) ≤ bg s0 4 a1 0) ∧ bg s0 1 (-1) 0 ≤ a1) <|
  bst (bcp s0 8 (bg s0 410 a0 0) 0 a1 (b_ishl a2 a3) (b_ishl (bg s0 420 a0 0) a3)) fun s2 =>
  some (s2, 0))
  (bck (bg s0 0 a0 0 = 19) <|
  bck (bg s0 0 a0 0 = 19) <|
  bcl (F_J20_inflate s0 (bg s0 410 a0 0) 0 a1 a2 (bg s0 420 a0 0)) fun s1 v1 =>
  some (s1, 0))
set_option maxHeartbeats 4000000 in
set_option maxRecDepth 100000 in
theorem w_J0_getBytes (Γ0 : bG) (l0 : Launch) {s0 st' : bS} {v a0 a1 a2 a3 : Int} (h : F_J0_getBytes s0 a0 a1 a2 a3 = some (st', v)) : bCt Γ0 l0 yJ0_getBytes cJ0_getBytes 4 none 1 40 [(2, a0), (2, a1), (0, a2), (0, a3)] s0 st' none := by
  refine b_ent (own := RJ0) (by decide +kernel) rfl (Nat.le_of_ble_eq_true rfl) (L := [(0, (2, a0)), (1, (2, a1)), (2, (0, a2)), (3, (0, a3))]) rfl ?_
  intro κ hκ hi hf
  unfold F_J0_getBytes at h
  refine r_aload_n hκ 0 rfl rfl dJ0_getBytes_0 ?_
  obtain ⟨h1, h⟩ := bck_i h
  refine r_get hκ (t := 18) (k := 1) (r := 412) h1 rfl in_J1 (by decide) rfl q303 (Or.inl rfl) dJ0_getBytes_1 ?_
  refine r_iload_n hκ 3 rfl rfl dJ0_getBytes_4 ?_
  refine r_icmp_ne hκ (tgt := 29) (by decide) dJ0_getBytes_5 (fun h2 => ?_) (fun h2 => ?_)
  · replace h := (bte_i h).2 h2
    refine r_aload_n hκ 0 rfl rfl dJ0_getBytes_29 ?_
    obtain ⟨h3, h⟩ := bck_i h
    refine r_get hκ (t := 18) (k := 0) (r := 410) h3 rfl in_J1 (by decide) rfl q302 (Or.inl rfl) dJ0_getBytes_30 ?_
    refine r_iconst hκ dJ0_getBytes_33 ?_
    refine r_aload_n hκ 1 rfl rfl dJ0_getBytes_34 ?_
    refine r_iload_n hκ 2 rfl rfl dJ0_getBytes_35 ?_
    refine r_aload_n hκ 0 rfl rfl dJ0_getBytes_36 ?_
    obtain ⟨h4, h⟩ := bck_i h
    refine r_get hκ (t := 18) (k := 3) (r := 420) h4 rfl in_J1 (by decide) rfl q306 (Or.inl rfl) dJ0_getBytes_37 ?_
    obtain ⟨s1, v1, h5, h⟩ := bcl_i h
    refine r_callS hκ (n' := 5) (index := 125) (w_J20_inflate Γ0 l0 h5) (lw_S q1092 q1093 q156 q1094) (by decide +kernel) rfl (by decide) rfl (Nat.le_of_ble_eq_true rfl) dJ0_getBytes_40 ?_
    exact r_vretH hκ hf h dJ0_getBytes_43
  · replace h := (bte_i h).1 h2
    refine r_aload_n hκ 0 rfl rfl dJ0_getBytes_8 ?_
    obtain ⟨h6, h⟩ := bck_i h
    refine r_get hκ (t := 18) (k := 0) (r := 410) h6 rfl in_J1 (by decide) rfl q302 (Or.inl rfl) dJ0_getBytes_9 ?_
    refine r_iconst hκ dJ0_getBytes_12 ?_
    refine r_aload_n hκ 1 rfl rfl dJ0_getBytes_13 ?_
    refine r_iload_n hκ 2 rfl rfl dJ0_getBytes_14 ?_
    refine r_iload_n hκ 3 rfl rfl dJ0_getBytes_15 ?_
    refine r_ishl hκ dJ0_getBytes_16 ?_
    refine r_aload_n hκ 0 rfl rfl dJ0_getBytes_17 ?_
    obtain ⟨h7, h⟩ := bck_i h
    refine r_get hκ (t := 18) (k := 3) (r := 420) h7 rfl in_J1 (by decide) rfl q306 (Or.inl rfl) dJ0_getBytes_18 ?_
    refine r_iload_n hκ 3 rfl rfl dJ0_getBytes_21 ?_
    refine r_ishl hκ dJ0_getBytes_22 ?_
    obtain ⟨⟨⟨h8, h9⟩, ⟨h10, h11, h12⟩, ⟨h13, h14⟩, h15⟩, h⟩ := bck_i h
    refine r_acopy hκ (t := 0) (er := 8) h8 h9 (Or.inl (by decide)) rfl h10 h11 h12 h13 h14 h15 (fun h9 => absurd h9 (by decide)) q2367 q743 q742 q152 (by decide) (Nat.le_of_ble_eq_true rfl) dJ0_getBytes_23 (fun s2 es2 => ?_)
    replace h := bst_i h s2 es2
    refine r_goto hκ (tgt := 43) (by decide) dJ0_getBytes_26 ?_
    exact r_vretH hκ hf h dJ0_getBytes_43
/-- java/lang/AbstractStringBuilder.append(Ljava/lang/AbstractStringBuilder;)Ljava/lang/AbstractStringBuilder; -/
def F_J0_append_5 (s0 : bS) (a0 a1 : Int) : Option (bS × Int) :=
  bte (a1 < 0)
  (bck (bg s0 0 a0 0 = 19) <|
  bcl (F_J0_appendNull s0 a0) fun s7 v5 =>
  some (s7, v5))
  (bck (bg s0 0 a1 0 = 19) <|
  bcl (F_J1_length s0 a1) fun s1 v1 =>
  bck (bg s1 0 a0 0 = 19) <|
  bck (bg s1 0 a0 0 = 19) <|
  bcl (F_J0_ensureCapacityInternal s1 a0 ((bg s1 420 a0 0) + v1)) fun s2 v2 =>
  bck (bg s2 0 a0 0 = 19) <|
  bcl (F_J0_inflateIfNeededFor_2 s2 a0 a1) fun s3 v3 =>
  bck (bg s3 0 a0 0 = 19) <|
  bck (bg s3 0 a0 0 = 19) <|
  bck (bg s3 0 a0 0 = 19) <|
  bck (bg s3 0 a1 0 = 19) <|
  bcl (F_J0_getBytes s3 a1 (bg s3 410 a0 0) (bg s3 420 a0 0) (bg s3 412 a0 0)) fun s4 v4 =>
  bck (bg s4 0 a0 0 = 19) <|
  bck ((bg s4 0 a0 0 = 19)) <|
  bst (bw s4 420 a0 0 ((bg s4 420 a0 0) + v1)) fun s5 =>
  bck (bg s5 0 a0 0 = 19) <|
  bck (bg s5 0 a1 0 = 19) <|
  bck ((bg s5 0 a0 0 = 19) ∧ (((b_ior (bg s5 416 a0 0) (bg s5 416 a1 0)) : Int) = 0 ∨ ((b_ior (bg s5 416 a0 0) (bg s5 416 a1 0)) : Int) = 1)) <|
  bst (bw s5 416 a0 0 (b_ior (bg s5 416 a0 0) (bg s5 416 a1 0))) fun s6 =>
  some (s6, a0))
set_option maxHeartbeats 4000000 in
set_option maxRecDepth 100000 in
theorem w_J0_append_5 (Γ0 : bG) (l0 : Launch) {s0 st' : bS} {v a0 a1 : Int} (h : F_J0_append_5 s0 a0 a1 = some (st', v)) : bCt Γ0 l0 yJ0_append_5 cJ0_append_5 3 (some (.object "java/lang/AbstractStringBuilder")) 5 113 [(2, a0), (2, a1)] s0 st' (some (2, v)) := by
  refine b_ent (own := RJ0) (by decide +kernel) rfl (Nat.le_of_ble_eq_true rfl) (L := [(0, (2, a0)), (1, (2, a1))]) rfl ?_
  intro κ hκ hi hf
  unfold F_J0_append_5 at h
  refine r_aload_n hκ 1 rfl rfl dJ0_append_5_0 ?_
  refine r_ifnonnull hκ (tgt := 9) (by decide) dJ0_append_5_1 (fun h1 => ?_) (fun h1 => ?_)
  · replace h := (bte_i h).2 h1
    refine r_aload_n hκ 1 rfl rfl dJ0_append_5_9 ?_
    obtain ⟨h2, h⟩ := bck_i h
    obtain ⟨s1, v1, h3, h⟩ := bcl_i h
    refine r_callU hκ (index := 160) (C := "java/lang/StringBuilder") (owner := "java/lang/AbstractStringBuilder") (n' := 0) (w_J1_length Γ0 l0 h3) (fun R s args hts hRR => va_cwO 0 hts (lw_app (lw_l6 q2876 q1145 q1144 q1146 q1147 q125) (lw_meth q1148)) rfl rfl rfl q1150 (by decide +kernel) hRR) (t := 18) h2 rfl rfl (by decide) rfl (Nat.le_of_ble_eq_true rfl) dJ0_append_5_10 ?_
    refine r_istore_n hκ (L2 := [(2, (0, v1)), (0, (2, a0)), (1, (2, a1))]) (by decide) rfl rfl dJ0_append_5_13 ?_
    refine r_aload_n hκ 1 rfl rfl dJ0_append_5_14 ?_
    refine r_aload_n hκ 1 rfl rfl dJ0_append_5_15 ?_
    obtain ⟨h4, h⟩ := bck_i h
    refine r_get hκ (t := 18) (k := 3) (r := 420) h4 rfl in_J1 (by decide) rfl q306 (Or.inl rfl) dJ0_append_5_16 ?_
    refine r_iload_n hκ 0 rfl rfl dJ0_append_5_19 ?_
    refine r_iadd hκ dJ0_append_5_20 ?_
    obtain ⟨h5, h⟩ := bck_i h
    obtain ⟨s2, v2, h6, h⟩ := bcl_i h
    refine r_callP hκ (index := 100) (C := "java/lang/StringBuilder") (owner := "java/lang/AbstractStringBuilder") (n' := 1) (w_J0_ensureCapacityInternal Γ0 l0 h6) (fun R s args hts hsl hRR => va_cwU 1 (List.forall_mem_cons.mpr ⟨hsl ("java/lang/StringBuilder", ⟨"java/lang/AbstractStringBuilder", "ensureCapacityInternal", "(I)V"⟩) (by decide +kernel), hts⟩) (b_gP rfl q1025 q3586 q1027 q124 (lw_meth q1028)) rfl rfl rfl rfl (by decide +kernel) hRR) (t := 18) h5 rfl rfl (by decide) rfl (Nat.le_of_ble_eq_true rfl) dJ0_append_5_21 ?_
    refine r_aload_n hκ 1 rfl rfl dJ0_append_5_24 ?_
    refine r_aload_n hκ 2 rfl rfl dJ0_append_5_25 ?_
    obtain ⟨h7, h⟩ := bck_i h
    obtain ⟨s3, v3, h8, h⟩ := bcl_i h
    refine r_callP hκ (index := 215) (C := "java/lang/StringBuilder") (owner := "java/lang/AbstractStringBuilder") (n' := 1) (w_J0_inflateIfNeededFor_2 Γ0 l0 h8) (fun R s args hts hsl hRR => va_cwU 1 (List.forall_mem_cons.mpr ⟨hsl ("java/lang/StringBuilder", ⟨"java/lang/AbstractStringBuilder", "inflateIfNeededFor", "(Ljava/lang/AbstractStringBuilder;)V"⟩) (by decide +kernel), hts⟩) (b_gP rfl q2877 q3614 q2879 q124 (lw_meth q2880)) rfl rfl rfl rfl (by decide +kernel) hRR) (t := 18) h7 rfl rfl (by decide) rfl (Nat.le_of_ble_eq_true rfl) dJ0_append_5_26 ?_
    refine r_aload_n hκ 2 rfl rfl dJ0_append_5_29 ?_
    refine r_aload_n hκ 1 rfl rfl dJ0_append_5_30 ?_
    obtain ⟨h9, h⟩ := bck_i h
    refine r_get hκ (t := 18) (k := 0) (r := 410) h9 rfl in_J1 (by decide) rfl q302 (Or.inl rfl) dJ0_append_5_31 ?_
    refine r_aload_n hκ 1 rfl rfl dJ0_append_5_34 ?_
    obtain ⟨h10, h⟩ := bck_i h
    refine r_get hκ (t := 18) (k := 3) (r := 420) h10 rfl in_J1 (by decide) rfl q306 (Or.inl rfl) dJ0_append_5_35 ?_
    refine r_aload_n hκ 1 rfl rfl dJ0_append_5_38 ?_
    obtain ⟨h11, h⟩ := bck_i h
    refine r_get hκ (t := 18) (k := 1) (r := 412) h11 rfl in_J1 (by decide) rfl q303 (Or.inl rfl) dJ0_append_5_39 ?_
    obtain ⟨h12, h⟩ := bck_i h
    obtain ⟨s4, v4, h13, h⟩ := bcl_i h
    refine r_callU hκ (index := 219) (C := "java/lang/StringBuilder") (owner := "java/lang/AbstractStringBuilder") (n' := 3) (w_J0_getBytes Γ0 l0 h13) (fun R s args hts hRR => va_cwU 3 hts (lw_app (lw_l5 q2886 q2888 q2889 q2887 q124) (lw_meth q2890)) rfl rfl rfl rfl (by decide +kernel) hRR) (t := 18) h12 rfl rfl (by decide) rfl (Nat.le_of_ble_eq_true rfl) dJ0_append_5_42 ?_
    refine r_aload_n hκ 1 rfl rfl dJ0_append_5_45 ?_
    refine r_dup hκ (bd_cat2k _) dJ0_append_5_46 ?_
    obtain ⟨h14, h⟩ := bck_i h
    refine r_get hκ (t := 18) (k := 3) (r := 420) h14 rfl in_J1 (by decide) rfl q306 (Or.inl rfl) dJ0_append_5_47 ?_
    refine r_iload_n hκ 0 rfl rfl dJ0_append_5_50 ?_
    refine r_iadd hκ dJ0_append_5_51 ?_
    obtain ⟨h15, h⟩ := bck_i h
    refine r_put hκ (t := 18) (k := 3) (r := 420) (ty := .int) tyJ1 tyJ1_ok nmJ1 h15 rfl in_J1 (by decide) rfl q306 (Or.inl rfl) rfl rfl rfl trivial (Or.inl (by decide)) dJ0_append_5_52 (fun s5 es5 => ?_)
    replace h := bst_i h s5 es5
    refine r_aload_n hκ 1 rfl rfl dJ0_append_5_55 ?_
    refine r_dup hκ (bd_cat2k _) dJ0_append_5_56 ?_
    obtain ⟨h16, h⟩ := bck_i h
    refine r_get hκ (t := 18) (k := 2) (r := 416) h16 rfl in_J1 (by decide) rfl q304 (Or.inl rfl) dJ0_append_5_57 ?_
    refine r_aload_n hκ 2 rfl rfl dJ0_append_5_60 ?_
    obtain ⟨h17, h⟩ := bck_i h
    refine r_get hκ (t := 18) (k := 2) (r := 416) h17 rfl in_J1 (by decide) rfl q304 (Or.inl rfl) dJ0_append_5_61 ?_
    refine r_ior hκ dJ0_append_5_64 ?_
    obtain ⟨⟨h18, h19⟩, h⟩ := bck_i h
    refine r_put hκ (t := 18) (k := 2) (r := 416) (ty := .boolean) tyJ1 tyJ1_ok nmJ1 h18 rfl in_J1 (by decide) rfl q304 (Or.inl rfl) rfl rfl rfl h19 (Or.inl (by decide)) dJ0_append_5_65 (fun s6 es6 => ?_)
    replace h := bst_i h s6 es6
    refine r_aload_n hκ 1 rfl rfl dJ0_append_5_68 ?_
    exact r_aretH hκ hf h rt_o dJ0_append_5_69
  · replace h := (bte_i h).1 h1
    refine r_aload_n hκ 0 rfl rfl dJ0_append_5_4 ?_
    obtain ⟨h20, h⟩ := bck_i h
    obtain ⟨s7, v5, h21, h⟩ := bcl_i h
    refine r_callP hκ (index := 204) (C := "java/lang/StringBuilder") (owner := "java/lang/AbstractStringBuilder") (n' := 0) (w_J0_appendNull Γ0 l0 h21) (fun R s args hts hsl hRR => va_cwU 0 (List.forall_mem_cons.mpr ⟨hsl ("java/lang/StringBuilder", ⟨"java/lang/AbstractStringBuilder", "appendNull", "()Ljava/lang/AbstractStringBuilder;"⟩) (by decide +kernel), hts⟩) (b_gP rfl q1021 q3585 q1023 q124 (lw_meth q1024)) rfl rfl rfl rfl (by decide +kernel) hRR) (t := 18) h20 rfl rfl (by decide) rfl (Nat.le_of_ble_eq_true rfl) dJ0_append_5_5 ?_
    exact r_aretH hκ hf h rt_o dJ0_append_5_8
/-- java/lang/String.value()[B -/
def F_J2_value (s0 : bS) (a0 : Int) : Option (bS × Int) :=
  bck (bg s0 0 a0 0 = 20) <|
  some (s0, (bg s0 426 a0 0))
set_option maxHeartbeats 4000000 in
set_option maxRecDepth 100000 in
theorem w_J2_value (Γ0 : bG) (l0 : Launch) {s0 st' : bS} {v a0 : Int} (h : F_J2_value s0 a0 = some (st', v)) : bCt Γ0 l0 yJ2_value cJ2_value 1 (some (.array .byte)) 0 0 [(2, a0)] s0 st' (some (2, v)) := by
  refine b_ent (own := RJ2) (by decide +kernel) rfl (Nat.le_of_ble_eq_true rfl) (L := [(0, (2, a0))]) rfl ?_
  intro κ hκ hi hf
  unfold F_J2_value at h
  refine r_aload_n hκ 0 rfl rfl dJ2_value_0 ?_
  obtain ⟨h1, h⟩ := bck_i h
  refine r_get hκ (t := 19) (k := 0) (r := 426) h1 rfl in_J2 (by decide) rfl q1171 (Or.inl rfl) dJ2_value_1 ?_
  exact r_aretH hκ hf h rt_a dJ2_value_4
/-- java/lang/AbstractStringBuilder.appendChars(Ljava/lang/String;II)V -/
def F_J0_appendChars_r (b : Nat) (xs : Int × Int × Int × Int × Int × Int × Int) (s0 : bS) : Option (bS × Int) :=
  match b, xs with
  | 0, (x0, x1, x2, x3, x4, x5, x6) =>
    bte (i32 x3 ≤ i32 x5)
    (F_J0_appendChars_r 1 (x0, x2, x3, 0, 0, 0, 0) s0)
    (bck (bg s0 0 x1 0 = 20) <|
    bcl (F_J2_charAt s0 x1 x5) fun s9 v6 =>
    bcl (F_J20_canEncode s9 v6) fun s10 v7 =>
    bte (i32 v7 = 0)
    (bck ((bg s10 0 x0 0 = 19)) <|
    bst (bw s10 420 x0 0 x6) fun s11 =>
    bck (bg s11 0 x0 0 = 19) <|
    bcl (F_J0_inflate s11 x0) fun s12 v8 =>
    bck (bg s12 0 x1 0 = 20) <|
    bcl (F_J2_value s12 x1) fun s13 v9 =>
    bck (bg s13 0 x0 0 = 19) <|
    bck ((bg s13 0 v9 0 = 1000 ∧ bg s13 0 (bg s13 410 x0 0) 0 = 1000) ∧ ((0 : Int) ≤ (b_ishl x5 1) ∧ (0 : Int) ≤ (b_ishl x6 1) ∧ (0 : Int) ≤ (b_ishl (x3 - x5) 1)) ∧ ((b_ishl x5 1) + (b_ishl (x3 - x5) 1) ≤ bg s13 4 v9 0 ∧ (b_ishl x6 1) + (b_ishl (x3 - x5) 1) ≤ bg s13 4 (bg s13 410 x0 0) 0) ∧ bg s13 1 (-1) 0 ≤ (bg s13 410 x0 0)) <|
    bst (bcp s13 8 v9 (b_ishl x5 1) (bg s13 410 x0 0) (b_ishl x6 1) (b_ishl (x3 - x5) 1)) fun s14 =>
    bck (bg s14 0 x0 0 = 19) <|
    bck ((bg s14 0 x0 0 = 19)) <|
    bst (bw s14 420 x0 0 ((bg s14 420 x0 0) + (x3 - x5))) fun s15 =>
    some (s15, 0))
    (bck ((bg s10 0 x4 0 = 1000 ∧ (0 : Int) ≤ x6 ∧ x6 < bg s10 4 x4 0) ∧ bg s10 1 (-1) 0 ≤ x4) <|
    bst (bw s10 8 x4 x6 (b_i2b (b_i2b v6))) fun s16 =>
    F_J0_appendChars_r 0 (x0, x1, x2, x3, x4, (x5 + 1), (x6 + 1)) s16))
  | 1, (x0, x1, x2, _, _, _, _) =>
    bck (bg s0 0 x0 0 = 19) <|
    bck ((bg s0 0 x0 0 = 19)) <|
    bst (bw s0 420 x0 0 ((bg s0 420 x0 0) + (x2 - x1))) fun s8 =>
    some (s8, 0)
  | _, _ => none
partial_fixpoint
def F_J0_appendChars (s0 : bS) (a0 a1 a2 a3 : Int) : Option (bS × Int) :=
  bck (bg s0 0 a0 0 = 19) <|
  bcl (F_J0_isLatin1 s0 a0) fun s1 v1 =>
  bte (i32 v1 = 0)
  (bck (bg s1 0 a1 0 = 20) <|
  bcl (F_J2_isLatin1 s1 a1) fun s2 v2 =>
  bte (i32 v2 = 0)
  (bck (bg s2 0 a1 0 = 20) <|
  bcl (F_J2_value s2 a1) fun s3 v3 =>
  bck (bg s3 0 a0 0 = 19) <|
  bck (bg s3 0 a0 0 = 19) <|
  bck ((bg s3 0 v3 0 = 1000 ∧ bg s3 0 (bg s3 410 a0 0) 0 = 1000) ∧ ((0 : Int) ≤ (b_ishl a2 1) ∧ (0 : Int) ≤ (b_ishl (bg s3 420 a0 0) 1) ∧ (0 : Int) ≤ (b_ishl (a3 - a2) 1)) ∧ ((b_ishl a2 1) + (b_ishl (a3 - a2) 1) ≤ bg s3 4 v3 0 ∧ (b_ishl (bg s3 420 a0 0) 1) + (b_ishl (a3 - a2) 1) ≤ bg s3 4 (bg s3 410 a0 0) 0) ∧ bg s3 1 (-1) 0 ≤ (bg s3 410 a0 0)) <|
  bst (bcp s3 8 v3 (b_ishl a2 1) (bg s3 410 a0 0) (b_ishl (bg s3 420 a0 0) 1) (b_ishl (a3 - a2) 1)) fun s4 =>
  F_J0_appendChars_r 1 (a0, a2, a3, 0, 0, 0, 0) s4)
  (bck (bg s2 0 a0 0 = 19) <|
  bck (bg s2 0 a0 0 = 19) <|
  none))
  (bck (bg s1 0 a1 0 = 20) <|
  bcl (F_J2_isLatin1 s1 a1) fun s5 v4 =>
  bte (i32 v4 = 0)
  (bck (bg s5 0 a0 0 = 19) <|
  bck (bg s5 0 a0 0 = 19) <|
  F_J0_appendChars_r 0 (a0, a1, a2, a3, (bg s5 410 a0 0), a2, (bg s5 420 a0 0)) s5)
  (bck (bg s5 0 a1 0 = 20) <|
  bcl (F_J2_value s5 a1) fun s6 v5 =>
  bck (bg s6 0 a0 0 = 19) <|
  bck (bg s6 0 a0 0 = 19) <|
  bck ((bg s6 0 v5 0 = 1000 ∧ bg s6 0 (bg s6 410 a0 0) 0 = 1000) ∧ ((0 : Int) ≤ a2 ∧ (0 : Int) ≤ (bg s6 420 a0 0) ∧ (0 : Int) ≤ (a3 - a2)) ∧ (a2 + (a3 - a2) ≤ bg s6 4 v5 0 ∧ (bg s6 420 a0 0) + (a3 - a2) ≤ bg s6 4 (bg s6 410 a0 0) 0) ∧ bg s6 1 (-1) 0 ≤ (bg s6 410 a0 0)) <|
  bst (bcp s6 8 v5 a2 (bg s6 410 a0 0) (bg s6 420 a0 0) (a3 - a2)) fun s7 =>
  F_J0_appendChars_r 1 (a0, a2, a3, 0, 0, 0, 0) s7))
set_option maxHeartbeats 4000000 in
set_option maxRecDepth 100000 in
set_option synthInstance.maxHeartbeats 4000000 in
theorem w_J0_appendChars_r {Γ0 : bG} {l0 : Launch} {κ : bK} {st' : bS} {v : Int} (hκ : bOk κ Γ0 l0 cJ0_appendChars RJ0 8 4 85) (hi : bIn κ yJ0_appendChars) (hf : bFin κ none st' none) (b : Nat) (x0 x1 x2 x3 x4 x5 x6 : Int) (s0 : bS) (h : F_J0_appendChars_r b (x0, x1, x2, x3, x4, x5, x6) s0 = some (st', v)) : match (generalizing := false) b with | 0 => bJ κ s0 51 [(0, (2, x0)), (1, (2, x1)), (2, (0, x2)), (3, (0, x3)), (4, (2, x4)), (5, (0, x5)), (6, (0, x6))] [] | 1 => bJ κ s0 194 [(0, (2, x0)), (2, (0, x1)), (3, (0, x2))] [] | _ => True := by
  refine F_J0_appendChars_r.partial_correctness (fun b xs s0 r => r = (st', v) → match (generalizing := false) b with | 0 => bJ κ s0 51 [(0, (2, xs.1)), (1, (2, xs.2.1)), (2, (0, xs.2.2.1)), (3, (0, xs.2.2.2.1)), (4, (2, xs.2.2.2.2.1)), (5, (0, xs.2.2.2.2.2.1)), (6, (0, xs.2.2.2.2.2.2))] [] | 1 => bJ κ s0 194 [(0, (2, xs.1)), (2, (0, xs.2.1)), (3, (0, xs.2.2.1))] [] | _ => True) ?_ b (x0, x1, x2, x3, x4, x5, x6) s0 _ h rfl
  intro f' ih b xs s0 r h hr
  subst hr
  match b, xs, h with
  | 0, (x0, x1, x2, x3, x4, x5, x6), h =>
      show bJ κ s0 51 [(0, (2, x0)), (1, (2, x1)), (2, (0, x2)), (3, (0, x3)), (4, (2, x4)), (5, (0, x5)), (6, (0, x6))] []
      refine r_iload hκ 5 rfl dJ0_appendChars_51 ?_
      refine r_iload_n hκ 3 rfl rfl dJ0_appendChars_53 ?_
      refine r_icmp_ge hκ (tgt := 142) (by decide) dJ0_appendChars_54 (fun h42 => ?_) (fun h42 => ?_)
      · replace h := (bte_i h).1 h42
        refine r_goto hκ (tgt := 194) (by decide) dJ0_appendChars_142 ?_
        exact r_sub [0, 2, 3] rfl (ih 1 _ _ _ h rfl)
      · replace h := (bte_i h).2 h42
        refine r_aload_n hκ 1 rfl rfl dJ0_appendChars_57 ?_
        refine r_iload hκ 5 rfl dJ0_appendChars_58 ?_
        obtain ⟨h43, h⟩ := bck_i h
        obtain ⟨s9, v6, h44, h⟩ := bcl_i h
        refine r_callV hκ (n' := 1) (index := 404) (w_J2_charAt Γ0 l0 h44) (lw_V q2916 q892 q893 q126 q894) (by decide +kernel) (t := 19) h43 rfl rfl (by decide) rfl (Nat.le_of_ble_eq_true rfl) dJ0_appendChars_60 ?_
        refine r_istore hκ (L2 := [(7, (0, v6)), (0, (2, x0)), (1, (2, x1)), (2, (0, x2)), (3, (0, x3)), (4, (2, x4)), (5, (0, x5)), (6, (0, x6))]) (by decide) rfl dJ0_appendChars_63 ?_
        refine r_iload hκ 0 rfl dJ0_appendChars_65 ?_
        obtain ⟨s10, v7, h45, h⟩ := bcl_i h
        refine r_callS hκ (n' := 1) (index := 191) (w_J20_canEncode Γ0 l0 h45) (lw_S q1120 q1121 q156 q1122) (by decide +kernel) rfl (by decide) rfl (Nat.le_of_ble_eq_true rfl) dJ0_appendChars_67 ?_
        refine r_if_eq hκ (tgt := 87) (by decide) dJ0_appendChars_70 (fun h46 => ?_) (fun h46 => ?_)
        · replace h := (bte_i h).1 h46
          refine r_aload_n hκ 1 rfl rfl dJ0_appendChars_87 ?_
          refine r_iload hκ 7 rfl dJ0_appendChars_88 ?_
          obtain ⟨h47, h⟩ := bck_i h
          refine r_put hκ (t := 18) (k := 3) (r := 420) (ty := .int) tyJ1 tyJ1_ok nmJ1 h47 rfl in_J1 (by decide) rfl q306 (Or.inl rfl) rfl rfl rfl trivial (Or.inl (by decide)) dJ0_appendChars_90 (fun s11 es11 => ?_)
          replace h := bst_i h s11 es11
          refine r_aload_n hκ 1 rfl rfl dJ0_appendChars_93 ?_
          obtain ⟨h48, h⟩ := bck_i h
          obtain ⟨s12, v8, h49, h⟩ := bcl_i h
          refine r_callP hκ (index := 195) (C := "java/lang/StringBuilder") (owner := "java/lang/AbstractStringBuilder") (n' := 0) (w_J0_inflate Γ0 l0 h49) (fun R s args hts hsl hRR => va_cwU 0 (List.forall_mem_cons.mpr ⟨hsl ("java/lang/StringBuilder", ⟨"java/lang/AbstractStringBuilder", "inflate", "()V"⟩) (by decide +kernel), hts⟩) (b_gP rfl q1088 q3590 q1090 q124 (lw_meth q1091)) rfl rfl rfl rfl (by decide +kernel) hRR) (t := 18) h48 rfl rfl (by decide) rfl (Nat.le_of_ble_eq_true rfl) dJ0_appendChars_94 ?_
          refine r_aload_n hκ 2 rfl rfl dJ0_appendChars_97 ?_
          obtain ⟨h50, h⟩ := bck_i h
          obtain ⟨s13, v9, h51, h⟩ := bcl_i h
          refine r_callV hκ (n' := 0) (index := 401) (w_J2_value Γ0 l0 h51) (lw_V q2912 q2913 q2914 q126 q2915) (by decide +kernel) (t := 19) h50 rfl rfl (by decide) rfl (Nat.le_of_ble_eq_true rfl) dJ0_appendChars_98 ?_
          refine r_iload hκ 6 rfl dJ0_appendChars_101 ?_
          refine r_iconst hκ dJ0_appendChars_103 ?_
          refine r_ishl hκ dJ0_appendChars_104 ?_
          refine r_aload_n hκ 1 rfl rfl dJ0_appendChars_105 ?_
          obtain ⟨h52, h⟩ := bck_i h
          refine r_get hκ (t := 18) (k := 0) (r := 410) h52 rfl in_J1 (by decide) rfl q302 (Or.inl rfl) dJ0_appendChars_106 ?_
          refine r_iload hκ 7 rfl dJ0_appendChars_109 ?_
          refine r_iconst hκ dJ0_appendChars_111 ?_
          refine r_ishl hκ dJ0_appendChars_112 ?_
          refine r_iload_n hκ 4 rfl rfl dJ0_appendChars_113 ?_
          refine r_iload hκ 6 rfl dJ0_appendChars_114 ?_
          refine r_isub hκ dJ0_appendChars_116 ?_
          refine r_iconst hκ dJ0_appendChars_117 ?_
          refine r_ishl hκ dJ0_appendChars_118 ?_
          obtain ⟨⟨⟨h53, h54⟩, ⟨h55, h56, h57⟩, ⟨h58, h59⟩, h60⟩, h⟩ := bck_i h
          refine r_acopy hκ (t := 0) (er := 8) h53 h54 (Or.inl (by decide)) rfl h55 h56 h57 h58 h59 h60 (fun h9 => absurd h9 (by decide)) q2367 q743 q742 q152 (by decide) (Nat.le_of_ble_eq_true rfl) dJ0_appendChars_119 (fun s14 es14 => ?_)
          replace h := bst_i h s14 es14
          refine r_aload_n hκ 1 rfl rfl dJ0_appendChars_122 ?_
          refine r_dup hκ (bd_cat2k _) dJ0_appendChars_123 ?_
          obtain ⟨h62, h⟩ := bck_i h
          refine r_get hκ (t := 18) (k := 3) (r := 420) h62 rfl in_J1 (by decide) rfl q306 (Or.inl rfl) dJ0_appendChars_124 ?_
          refine r_iload_n hκ 4 rfl rfl dJ0_appendChars_127 ?_
          refine r_iload hκ 6 rfl dJ0_appendChars_128 ?_
          refine r_isub hκ dJ0_appendChars_130 ?_
          refine r_iadd hκ dJ0_appendChars_131 ?_
          obtain ⟨h63, h⟩ := bck_i h
          refine r_put hκ (t := 18) (k := 3) (r := 420) (ty := .int) tyJ1 tyJ1_ok nmJ1 h63 rfl in_J1 (by decide) rfl q306 (Or.inl rfl) rfl rfl rfl trivial (Or.inl (by decide)) dJ0_appendChars_132 (fun s15 es15 => ?_)
          replace h := bst_i h s15 es15
          exact r_vretH hκ hf h dJ0_appendChars_135
        · replace h := (bte_i h).2 h46
          refine r_aload hκ 5 rfl dJ0_appendChars_73 ?_
          refine r_iload hκ 7 rfl dJ0_appendChars_75 ?_
          refine r_iinc hκ (L2 := [(6, (0, (x6 + 1))), (7, (0, v6)), (0, (2, x0)), (1, (2, x1)), (2, (0, x2)), (3, (0, x3)), (4, (2, x4)), (5, (0, x5))]) 7 rfl (by decide) rfl dJ0_appendChars_77 ?_
          refine r_iload hκ 1 rfl dJ0_appendChars_80 ?_
          refine r_i2b hκ dJ0_appendChars_82 ?_
          obtain ⟨⟨⟨h64, h65⟩, h66⟩, h⟩ := bck_i h
          refine r_bast hκ h64 h65 h66 dJ0_appendChars_83 (fun s16 es16 => ?_)
          replace h := bst_i h s16 es16
          refine r_goto hκ (tgt := 136) (by decide) dJ0_appendChars_84 ?_
          refine r_iinc hκ (L2 := [(5, (0, (x5 + 1))), (6, (0, (x6 + 1))), (7, (0, v6)), (0, (2, x0)), (1, (2, x1)), (2, (0, x2)), (3, (0, x3)), (4, (2, x4))]) 7 rfl (by decide) rfl dJ0_appendChars_136 ?_
          refine r_goto hκ (tgt := 51) (by decide) dJ0_appendChars_139 ?_
          exact r_sub [3, 4, 5, 6, 7, 0, 1] rfl (ih 0 _ _ _ h rfl)
  | 1, (x0, x1, x2, x3, x4, x5, x6), h =>
      show bJ κ s0 194 [(0, (2, x0)), (2, (0, x1)), (3, (0, x2))] []
      refine r_aload_n hκ 0 rfl rfl dJ0_appendChars_194 ?_
      refine r_dup hκ (bd_cat2k _) dJ0_appendChars_195 ?_
      obtain ⟨h40, h⟩ := bck_i h
      refine r_get hκ (t := 18) (k := 3) (r := 420) h40 rfl in_J1 (by decide) rfl q306 (Or.inl rfl) dJ0_appendChars_196 ?_
      refine r_iload_n hκ 2 rfl rfl dJ0_appendChars_199 ?_
      refine r_iload_n hκ 1 rfl rfl dJ0_appendChars_200 ?_
      refine r_isub hκ dJ0_appendChars_201 ?_
      refine r_iadd hκ dJ0_appendChars_202 ?_
      obtain ⟨h41, h⟩ := bck_i h
      refine r_put hκ (t := 18) (k := 3) (r := 420) (ty := .int) tyJ1 tyJ1_ok nmJ1 h41 rfl in_J1 (by decide) rfl q306 (Or.inl rfl) rfl rfl rfl trivial (Or.inl (by decide)) dJ0_appendChars_203 (fun s8 es8 => ?_)
      replace h := bst_i h s8 es8
      exact r_vretH hκ hf h dJ0_appendChars_206
  | b + 2, _, h => trivial
set_option maxHeartbeats 4000000 in
set_option maxRecDepth 100000 in
theorem w_J0_appendChars (Γ0 : bG) (l0 : Launch) {s0 st' : bS} {v a0 a1 a2 a3 : Int} (h : F_J0_appendChars s0 a0 a1 a2 a3 = some (st', v)) : bCt Γ0 l0 yJ0_appendChars cJ0_appendChars 8 none 4 85 [(2, a0), (2, a1), (0, a2), (0, a3)] s0 st' none := by
  refine b_ent (own := RJ0) (by decide +kernel) rfl (Nat.le_of_ble_eq_true rfl) (L := [(0, (2, a0)), (1, (2, a1)), (2, (0, a2)), (3, (0, a3))]) rfl ?_
  intro κ hκ hi hf
  unfold F_J0_appendChars at h
  refine r_aload_n hκ 0 rfl rfl dJ0_appendChars_0 ?_
  obtain ⟨h1, h⟩ := bck_i h
  obtain ⟨s1, v1, h2, h⟩ := bcl_i h
  refine r_callU hκ (index := 83) (C := "java/lang/StringBuilder") (owner := "java/lang/AbstractStringBuilder") (n' := 0) (w_J0_isLatin1 Γ0 l0 h2) (fun R s args hts hRR => va_cwU 0 hts (lw_app (lw_l5 q1058 q1060 q1061 q1059 q124) (lw_meth q1062)) rfl rfl rfl rfl (by decide +kernel) hRR) (t := 18) h1 rfl rfl (by decide) rfl (Nat.le_of_ble_eq_true rfl) dJ0_appendChars_1 ?_
  refine r_if_eq hκ (tgt := 145) (by decide) dJ0_appendChars_4 (fun h3 => ?_) (fun h3 => ?_)
  · replace h := (bte_i h).1 h3
    refine r_aload_n hκ 1 rfl rfl dJ0_appendChars_145 ?_
    obtain ⟨h4, h⟩ := bck_i h
    obtain ⟨s2, v2, h5, h⟩ := bcl_i h
    refine r_callV hκ (n' := 0) (index := 400) (w_J2_isLatin1 Γ0 l0 h5) (lw_V q2911 q896 q897 q126 q898) (by decide +kernel) (t := 19) h4 rfl rfl (by decide) rfl (Nat.le_of_ble_eq_true rfl) dJ0_appendChars_146 ?_
    refine r_if_eq hκ (tgt := 169) (by decide) dJ0_appendChars_149 (fun h6 => ?_) (fun h6 => ?_)
    · replace h := (bte_i h).1 h6
      refine r_aload_n hκ 1 rfl rfl dJ0_appendChars_169 ?_
      obtain ⟨h7, h⟩ := bck_i h
      obtain ⟨s3, v3, h8, h⟩ := bcl_i h
      refine r_callV hκ (n' := 0) (index := 401) (w_J2_value Γ0 l0 h8) (lw_V q2912 q2913 q2914 q126 q2915) (by decide +kernel) (t := 19) h7 rfl rfl (by decide) rfl (Nat.le_of_ble_eq_true rfl) dJ0_appendChars_170 ?_
      refine r_iload_n hκ 2 rfl rfl dJ0_appendChars_173 ?_
      refine r_iconst hκ dJ0_appendChars_174 ?_
      refine r_ishl hκ dJ0_appendChars_175 ?_
      refine r_aload_n hκ 0 rfl rfl dJ0_appendChars_176 ?_
      obtain ⟨h9, h⟩ := bck_i h
      refine r_get hκ (t := 18) (k := 0) (r := 410) h9 rfl in_J1 (by decide) rfl q302 (Or.inl rfl) dJ0_appendChars_177 ?_
      refine r_aload_n hκ 0 rfl rfl dJ0_appendChars_180 ?_
      obtain ⟨h10, h⟩ := bck_i h
      refine r_get hκ (t := 18) (k := 3) (r := 420) h10 rfl in_J1 (by decide) rfl q306 (Or.inl rfl) dJ0_appendChars_181 ?_
      refine r_iconst hκ dJ0_appendChars_184 ?_
      refine r_ishl hκ dJ0_appendChars_185 ?_
      refine r_iload_n hκ 3 rfl rfl dJ0_appendChars_186 ?_
      refine r_iload_n hκ 2 rfl rfl dJ0_appendChars_187 ?_
      refine r_isub hκ dJ0_appendChars_188 ?_
      refine r_iconst hκ dJ0_appendChars_189 ?_
      refine r_ishl hκ dJ0_appendChars_190 ?_
      obtain ⟨⟨⟨h11, h12⟩, ⟨h13, h14, h15⟩, ⟨h16, h17⟩, h18⟩, h⟩ := bck_i h
      refine r_acopy hκ (t := 0) (er := 8) h11 h12 (Or.inl (by decide)) rfl h13 h14 h15 h16 h17 h18 (fun h9 => absurd h9 (by decide)) q2367 q743 q742 q152 (by decide) (Nat.le_of_ble_eq_true rfl) dJ0_appendChars_191 (fun s4 es4 => ?_)
      replace h := bst_i h s4 es4
      exact r_sub [0, 2, 3] rfl (w_J0_appendChars_r hκ hi hf 1 _ _ _ _ _ _ _ _ h)
    · replace h := (bte_i h).2 h6
      refine r_aload_n hκ 0 rfl rfl dJ0_appendChars_152 ?_
      obtain ⟨h20, h⟩ := bck_i h
      refine r_get hκ (t := 18) (k := 0) (r := 410) h20 rfl in_J1 (by decide) rfl q302 (Or.inl rfl) dJ0_appendChars_153 ?_
      refine r_aload_n hκ 0 rfl rfl dJ0_appendChars_156 ?_
      obtain ⟨h21, h⟩ := bck_i h
      refine r_get hκ (t := 18) (k := 3) (r := 420) h21 rfl in_J1 (by decide) rfl q306 (Or.inl rfl) dJ0_appendChars_157 ?_
      refine r_aload_n hκ 1 rfl rfl dJ0_appendChars_160 ?_
      refine r_iload_n hκ 2 rfl rfl dJ0_appendChars_161 ?_
      refine r_iload_n hκ 3 rfl rfl dJ0_appendChars_162 ?_
      cases h
  · replace h := (bte_i h).2 h3
    refine r_aload_n hκ 1 rfl rfl dJ0_appendChars_7 ?_
    obtain ⟨h22, h⟩ := bck_i h
    obtain ⟨s5, v4, h23, h⟩ := bcl_i h
    refine r_callV hκ (n' := 0) (index := 400) (w_J2_isLatin1 Γ0 l0 h23) (lw_V q2911 q896 q897 q126 q898) (by decide +kernel) (t := 19) h22 rfl rfl (by decide) rfl (Nat.le_of_ble_eq_true rfl) dJ0_appendChars_8 ?_
    refine r_if_eq hκ (tgt := 36) (by decide) dJ0_appendChars_11 (fun h24 => ?_) (fun h24 => ?_)
    · replace h := (bte_i h).1 h24
      refine r_aload_n hκ 0 rfl rfl dJ0_appendChars_36 ?_
      obtain ⟨h25, h⟩ := bck_i h
      refine r_get hκ (t := 18) (k := 0) (r := 410) h25 rfl in_J1 (by decide) rfl q302 (Or.inl rfl) dJ0_appendChars_37 ?_
      refine r_astore hκ (L2 := [(4, (2, (bg s5 410 a0 0))), (0, (2, a0)), (1, (2, a1)), (2, (0, a2)), (3, (0, a3))]) (by decide) rfl dJ0_appendChars_40 ?_
      refine r_iload_n hκ 3 rfl rfl dJ0_appendChars_42 ?_
      refine r_istore hκ (L2 := [(5, (0, a2)), (4, (2, (bg s5 410 a0 0))), (0, (2, a0)), (1, (2, a1)), (2, (0, a2)), (3, (0, a3))]) (by decide) rfl dJ0_appendChars_43 ?_
      refine r_aload_n hκ 2 rfl rfl dJ0_appendChars_45 ?_
      obtain ⟨h26, h⟩ := bck_i h
      refine r_get hκ (t := 18) (k := 3) (r := 420) h26 rfl in_J1 (by decide) rfl q306 (Or.inl rfl) dJ0_appendChars_46 ?_
      refine r_istore hκ (L2 := [(6, (0, (bg s5 420 a0 0))), (5, (0, a2)), (4, (2, (bg s5 410 a0 0))), (0, (2, a0)), (1, (2, a1)), (2, (0, a2)), (3, (0, a3))]) (by decide) rfl dJ0_appendChars_49 ?_
      exact r_sub [3, 4, 5, 6, 2, 1, 0] rfl (w_J0_appendChars_r hκ hi hf 0 _ _ _ _ _ _ _ _ h)
    · replace h := (bte_i h).2 h24
      refine r_aload_n hκ 1 rfl rfl dJ0_appendChars_14 ?_
      obtain ⟨h27, h⟩ := bck_i h
      obtain ⟨s6, v5, h28, h⟩ := bcl_i h
      refine r_callV hκ (n' := 0) (index := 401) (w_J2_value Γ0 l0 h28) (lw_V q2912 q2913 q2914 q126 q2915) (by decide +kernel) (t := 19) h27 rfl rfl (by decide) rfl (Nat.le_of_ble_eq_true rfl) dJ0_appendChars_15 ?_
      refine r_iload_n hκ 2 rfl rfl dJ0_appendChars_18 ?_
      refine r_aload_n hκ 0 rfl rfl dJ0_appendChars_19 ?_
      obtain ⟨h29, h⟩ := bck_i h
      refine r_get hκ (t := 18) (k := 0) (r := 410) h29 rfl in_J1 (by decide) rfl q302 (Or.inl rfl) dJ0_appendChars_20 ?_
      refine r_aload_n hκ 0 rfl rfl dJ0_appendChars_23 ?_
      obtain ⟨h30, h⟩ := bck_i h
      refine r_get hκ (t := 18) (k := 3) (r := 420) h30 rfl in_J1 (by decide) rfl q306 (Or.inl rfl) dJ0_appendChars_24 ?_
      refine r_iload_n hκ 3 rfl rfl dJ0_appendChars_27 ?_
      refine r_iload_n hκ 2 rfl rfl dJ0_appendChars_28 ?_
      refine r_isub hκ dJ0_appendChars_29 ?_
      obtain ⟨⟨⟨h31, h32⟩, ⟨h33, h34, h35⟩, ⟨h36, h37⟩, h38⟩, h⟩ := bck_i h
      refine r_acopy hκ (t := 0) (er := 8) h31 h32 (Or.inl (by decide)) rfl h33 h34 h35 h36 h37 h38 (fun h9 => absurd h9 (by decide)) q2367 q743 q742 q152 (by decide) (Nat.le_of_ble_eq_true rfl) dJ0_appendChars_30 (fun s7 es7 => ?_)
      replace h := bst_i h s7 es7
      refine r_goto hκ (tgt := 194) (by decide) dJ0_appendChars_33 ?_
      exact r_sub [0, 2, 3] rfl (w_J0_appendChars_r hκ hi hf 1 _ _ _ _ _ _ _ _ h)
/-- java/lang/AbstractStringBuilder.appendChars(Ljava/lang/CharSequence;II)V -/
def F_J0_appendChars_2_r (b : Nat) (xs : Int × Int × Int × Int × Int × Int × Int) (s0 : bS) : Option (bS × Int) :=
  match b, xs with
  | 0, (x0, x1, x2, x3, x4, x5, x6) =>
    bte (i32 x3 ≤ i32 x5)
    (F_J0_appendChars_2_r 1 (x0, x2, x3, 0, 0, 0, 0) s0)
    (bcl (bte (bg s0 0 x1 0 = 19) (F_J1_charAt s0 x1 x5) (bte (bg s0 0 x1 0 = 20) (F_J2_charAt s0 x1 x5) (none))) fun s2 v2 =>
    bcl (F_J20_canEncode s2 v2) fun s3 v3 =>
    bte (i32 v3 = 0)
    (bck ((bg s3 0 x0 0 = 19)) <|
    bst (bw s3 420 x0 0 x6) fun s4 =>
    bck (bg s4 0 x0 0 = 19) <|
    bcl (F_J0_inflate s4 x0) fun s5 v4 =>
    bck (bg s5 0 x0 0 = 19) <|
    none)
    (bck ((bg s3 0 x4 0 = 1000 ∧ (0 : Int) ≤ x6 ∧ x6 < bg s3 4 x4 0) ∧ bg s3 1 (-1) 0 ≤ x4) <|
    bst (bw s3 8 x4 x6 (b_i2b (b_i2b v2))) fun s6 =>
    F_J0_appendChars_2_r 0 (x0, x1, x2, x3, x4, (x5 + 1), (x6 + 1)) s6))
  | 1, (x0, x1, x2, _, _, _, _) =>
    bck (bg s0 0 x0 0 = 19) <|
    bck ((bg s0 0 x0 0 = 19)) <|
    bst (bw s0 420 x0 0 ((bg s0 420 x0 0) + (x2 - x1))) fun s7 =>
    some (s7, 0)
  | _, _ => none
partial_fixpoint
def F_J0_appendChars_2 (s0 : bS) (a0 a1 a2 a3 : Int) : Option (bS × Int) :=
  bck (bg s0 0 a0 0 = 19) <|
  bcl (F_J0_isLatin1 s0 a0) fun s1 v1 =>
  bte (i32 v1 = 0)
  (bck (bg s1 0 a0 0 = 19) <|
  bck (bg s1 0 a0 0 = 19) <|
  none)
  (bck (bg s1 0 a0 0 = 19) <|
  bck (bg s1 0 a0 0 = 19) <|
  F_J0_appendChars_2_r 0 (a0, a1, a2, a3, (bg s1 410 a0 0), a2, (bg s1 420 a0 0)) s1)
set_option maxHeartbeats 4000000 in
set_option maxRecDepth 100000 in
set_option synthInstance.maxHeartbeats 4000000 in
theorem w_J0_appendChars_2_r {Γ0 : bG} {l0 : Launch} {κ : bK} {st' : bS} {v : Int} (hκ : bOk κ Γ0 l0 cJ0_appendChars_2 RJ0 8 4 88) (hi : bIn κ yJ0_appendChars_2) (hf : bFin κ none st' none) (b : Nat) (x0 x1 x2 x3 x4 x5 x6 : Int) (s0 : bS) (h : F_J0_appendChars_2_r b (x0, x1, x2, x3, x4, x5, x6) s0 = some (st', v)) : match (generalizing := false) b with | 0 => bJ κ s0 22 [(0, (2, x0)), (1, (2, x1)), (2, (0, x2)), (3, (0, x3)), (4, (2, x4)), (5, (0, x5)), (6, (0, x6))] [] | 1 => bJ κ s0 143 [(0, (2, x0)), (2, (0, x1)), (3, (0, x2))] [] | _ => True := by
  refine F_J0_appendChars_2_r.partial_correctness (fun b xs s0 r => r = (st', v) → match (generalizing := false) b with | 0 => bJ κ s0 22 [(0, (2, xs.1)), (1, (2, xs.2.1)), (2, (0, xs.2.2.1)), (3, (0, xs.2.2.2.1)), (4, (2, xs.2.2.2.2.1)), (5, (0, xs.2.2.2.2.2.1)), (6, (0, xs.2.2.2.2.2.2))] [] | 1 => bJ κ s0 143 [(0, (2, xs.1)), (2, (0, xs.2.1)), (3, (0, xs.2.2.1))] [] | _ => True) ?_ b (x0, x1, x2, x3, x4, x5, x6) s0 _ h rfl
  intro f' ih b xs s0 r h hr
  subst hr
  match b, xs, h with
  | 0, (x0, x1, x2, x3, x4, x5, x6), h =>
      show bJ κ s0 22 [(0, (2, x0)), (1, (2, x1)), (2, (0, x2)), (3, (0, x3)), (4, (2, x4)), (5, (0, x5)), (6, (0, x6))] []
      refine r_iload hκ 5 rfl dJ0_appendChars_2_22 ?_
      refine r_iload_n hκ 3 rfl rfl dJ0_appendChars_2_24 ?_
      refine r_icmp_ge hκ (tgt := 126) (by decide) dJ0_appendChars_2_25 (fun h8 => ?_) (fun h8 => ?_)
      · replace h := (bte_i h).1 h8
        refine r_goto hκ (tgt := 143) (by decide) dJ0_appendChars_2_126 ?_
        exact r_sub [0, 2, 3] rfl (ih 1 _ _ _ h rfl)
      · replace h := (bte_i h).2 h8
        refine r_aload_n hκ 1 rfl rfl dJ0_appendChars_2_28 ?_
        refine r_iload hκ 5 rfl dJ0_appendChars_2_29 ?_
        obtain ⟨s2, v2, h9, h⟩ := bcl_i h
        refine r_seq (A := bJ κ s2 36 [(0, (2, x0)), (1, (2, x1)), (2, (0, x2)), (3, (0, x3)), (4, (2, x4)), (5, (0, x5)), (6, (0, x6))] [(0, v2)]) ?_ (fun k0 => ?_)
        case refine_2 =>
          by_cases h10 : bg s0 0 x1 0 = 19
          · have hq0 := (bte_i h9).1 h10
            exact r_callF hκ (n' := 1) (index := 390) (C := "java/lang/StringBuilder") (w_J1_charAt Γ0 l0 hq0) (lw_app (lw_l4 q2927 q2032 q2034 q125) (lw_meth q2036)) (by decide +kernel) (by decide +kernel) (t := 18) h10 rfl rfl (by decide) rfl (Nat.le_of_ble_eq_true rfl) dJ0_appendChars_2_31 k0
          replace h9 := (bte_i h9).2 h10
          by_cases h11 : bg s0 0 x1 0 = 20
          · have hq0 := (bte_i h9).1 h11
            exact r_callF hκ (n' := 1) (index := 390) (C := "java/lang/String") (w_J2_charAt Γ0 l0 hq0) (lw_app (lw_l4 q2927 q2029 q892 q126) (lw_meth q894)) (by decide +kernel) (by decide +kernel) (t := 19) h11 rfl rfl (by decide) rfl (Nat.le_of_ble_eq_true rfl) dJ0_appendChars_2_31 k0
          replace h9 := (bte_i h9).2 h11
          cases h9
        refine r_istore hκ (L2 := [(7, (0, v2)), (0, (2, x0)), (1, (2, x1)), (2, (0, x2)), (3, (0, x3)), (4, (2, x4)), (5, (0, x5)), (6, (0, x6))]) (by decide) rfl dJ0_appendChars_2_36 ?_
        refine r_iload hκ 0 rfl dJ0_appendChars_2_38 ?_
        obtain ⟨s3, v3, h12, h⟩ := bcl_i h
        refine r_callS hκ (n' := 1) (index := 191) (w_J20_canEncode Γ0 l0 h12) (lw_S q1120 q1121 q156 q1122) (by decide +kernel) rfl (by decide) rfl (Nat.le_of_ble_eq_true rfl) dJ0_appendChars_2_40 ?_
        refine r_if_eq hκ (tgt := 60) (by decide) dJ0_appendChars_2_43 (fun h13 => ?_) (fun h13 => ?_)
        · replace h := (bte_i h).1 h13
          refine r_aload_n hκ 1 rfl rfl dJ0_appendChars_2_60 ?_
          refine r_iload hκ 7 rfl dJ0_appendChars_2_61 ?_
          obtain ⟨h14, h⟩ := bck_i h
          refine r_put hκ (t := 18) (k := 3) (r := 420) (ty := .int) tyJ1 tyJ1_ok nmJ1 h14 rfl in_J1 (by decide) rfl q306 (Or.inl rfl) rfl rfl rfl trivial (Or.inl (by decide)) dJ0_appendChars_2_63 (fun s4 es4 => ?_)
          replace h := bst_i h s4 es4
          refine r_aload_n hκ 1 rfl rfl dJ0_appendChars_2_66 ?_
          obtain ⟨h15, h⟩ := bck_i h
          obtain ⟨s5, v4, h16, h⟩ := bcl_i h
          refine r_callP hκ (index := 195) (C := "java/lang/StringBuilder") (owner := "java/lang/AbstractStringBuilder") (n' := 0) (w_J0_inflate Γ0 l0 h16) (fun R s args hts hsl hRR => va_cwU 0 (List.forall_mem_cons.mpr ⟨hsl ("java/lang/StringBuilder", ⟨"java/lang/AbstractStringBuilder", "inflate", "()V"⟩) (by decide +kernel), hts⟩) (b_gP rfl q1088 q3590 q1090 q124 (lw_meth q1091)) rfl rfl rfl rfl (by decide +kernel) hRR) (t := 18) h15 rfl rfl (by decide) rfl (Nat.le_of_ble_eq_true rfl) dJ0_appendChars_2_67 ?_
          refine r_aload_n hκ 1 rfl rfl dJ0_appendChars_2_70 ?_
          obtain ⟨h17, h⟩ := bck_i h
          refine r_get hκ (t := 18) (k := 0) (r := 410) h17 rfl in_J1 (by decide) rfl q302 (Or.inl rfl) dJ0_appendChars_2_71 ?_
          refine r_iload hκ 7 rfl dJ0_appendChars_2_74 ?_
          refine r_iinc hκ (L2 := [(6, (0, (x6 + 1))), (7, (0, v2)), (0, (2, x0)), (1, (2, x1)), (2, (0, x2)), (3, (0, x3)), (4, (2, x4)), (5, (0, x5))]) 7 rfl (by decide) rfl dJ0_appendChars_2_76 ?_
          refine r_iload hκ 1 rfl dJ0_appendChars_2_79 ?_
          cases h
        · replace h := (bte_i h).2 h13
          refine r_aload hκ 5 rfl dJ0_appendChars_2_46 ?_
          refine r_iload hκ 7 rfl dJ0_appendChars_2_48 ?_
          refine r_iinc hκ (L2 := [(6, (0, (x6 + 1))), (7, (0, v2)), (0, (2, x0)), (1, (2, x1)), (2, (0, x2)), (3, (0, x3)), (4, (2, x4)), (5, (0, x5))]) 7 rfl (by decide) rfl dJ0_appendChars_2_50 ?_
          refine r_iload hκ 1 rfl dJ0_appendChars_2_53 ?_
          refine r_i2b hκ dJ0_appendChars_2_55 ?_
          obtain ⟨⟨⟨h18, h19⟩, h20⟩, h⟩ := bck_i h
          refine r_bast hκ h18 h19 h20 dJ0_appendChars_2_56 (fun s6 es6 => ?_)
          replace h := bst_i h s6 es6
          refine r_goto hκ (tgt := 120) (by decide) dJ0_appendChars_2_57 ?_
          refine r_iinc hκ (L2 := [(5, (0, (x5 + 1))), (6, (0, (x6 + 1))), (7, (0, v2)), (0, (2, x0)), (1, (2, x1)), (2, (0, x2)), (3, (0, x3)), (4, (2, x4))]) 7 rfl (by decide) rfl dJ0_appendChars_2_120 ?_
          refine r_goto hκ (tgt := 22) (by decide) dJ0_appendChars_2_123 ?_
          exact r_sub [3, 4, 5, 6, 7, 0, 1] rfl (ih 0 _ _ _ h rfl)
  | 1, (x0, x1, x2, x3, x4, x5, x6), h =>
      show bJ κ s0 143 [(0, (2, x0)), (2, (0, x1)), (3, (0, x2))] []
      refine r_aload_n hκ 0 rfl rfl dJ0_appendChars_2_143 ?_
      refine r_dup hκ (bd_cat2k _) dJ0_appendChars_2_144 ?_
      obtain ⟨h21, h⟩ := bck_i h
      refine r_get hκ (t := 18) (k := 3) (r := 420) h21 rfl in_J1 (by decide) rfl q306 (Or.inl rfl) dJ0_appendChars_2_145 ?_
      refine r_iload_n hκ 2 rfl rfl dJ0_appendChars_2_148 ?_
      refine r_iload_n hκ 1 rfl rfl dJ0_appendChars_2_149 ?_
      refine r_isub hκ dJ0_appendChars_2_150 ?_
      refine r_iadd hκ dJ0_appendChars_2_151 ?_
      obtain ⟨h22, h⟩ := bck_i h
      refine r_put hκ (t := 18) (k := 3) (r := 420) (ty := .int) tyJ1 tyJ1_ok nmJ1 h22 rfl in_J1 (by decide) rfl q306 (Or.inl rfl) rfl rfl rfl trivial (Or.inl (by decide)) dJ0_appendChars_2_152 (fun s7 es7 => ?_)
      replace h := bst_i h s7 es7
      exact r_vretH hκ hf h dJ0_appendChars_2_155
  | b + 2, _, h => trivial
set_option maxHeartbeats 4000000 in
set_option maxRecDepth 100000 in
theorem w_J0_appendChars_2 (Γ0 : bG) (l0 : Launch) {s0 st' : bS} {v a0 a1 a2 a3 : Int} (h : F_J0_appendChars_2 s0 a0 a1 a2 a3 = some (st', v)) : bCt Γ0 l0 yJ0_appendChars_2 cJ0_appendChars_2 8 none 4 88 [(2, a0), (2, a1), (0, a2), (0, a3)] s0 st' none := by
  refine b_ent (own := RJ0) (by decide +kernel) rfl (Nat.le_of_ble_eq_true rfl) (L := [(0, (2, a0)), (1, (2, a1)), (2, (0, a2)), (3, (0, a3))]) rfl ?_
  intro κ hκ hi hf
  unfold F_J0_appendChars_2 at h
  refine r_aload_n hκ 0 rfl rfl dJ0_appendChars_2_0 ?_
  obtain ⟨h1, h⟩ := bck_i h
  obtain ⟨s1, v1, h2, h⟩ := bcl_i h
  refine r_callU hκ (index := 83) (C := "java/lang/StringBuilder") (owner := "java/lang/AbstractStringBuilder") (n' := 0) (w_J0_isLatin1 Γ0 l0 h2) (fun R s args hts hRR => va_cwU 0 hts (lw_app (lw_l5 q1058 q1060 q1061 q1059 q124) (lw_meth q1062)) rfl rfl rfl rfl (by decide +kernel) hRR) (t := 18) h1 rfl rfl (by decide) rfl (Nat.le_of_ble_eq_true rfl) dJ0_appendChars_2_1 ?_
  refine r_if_eq hκ (tgt := 129) (by decide) dJ0_appendChars_2_4 (fun h3 => ?_) (fun h3 => ?_)
  · replace h := (bte_i h).1 h3
    refine r_aload_n hκ 0 rfl rfl dJ0_appendChars_2_129 ?_
    obtain ⟨h4, h⟩ := bck_i h
    refine r_get hκ (t := 18) (k := 0) (r := 410) h4 rfl in_J1 (by decide) rfl q302 (Or.inl rfl) dJ0_appendChars_2_130 ?_
    refine r_aload_n hκ 0 rfl rfl dJ0_appendChars_2_133 ?_
    obtain ⟨h5, h⟩ := bck_i h
    refine r_get hκ (t := 18) (k := 3) (r := 420) h5 rfl in_J1 (by decide) rfl q306 (Or.inl rfl) dJ0_appendChars_2_134 ?_
    refine r_aload_n hκ 1 rfl rfl dJ0_appendChars_2_137 ?_
    refine r_iload_n hκ 2 rfl rfl dJ0_appendChars_2_138 ?_
    refine r_iload_n hκ 3 rfl rfl dJ0_appendChars_2_139 ?_
    cases h
  · replace h := (bte_i h).2 h3
    refine r_aload_n hκ 0 rfl rfl dJ0_appendChars_2_7 ?_
    obtain ⟨h6, h⟩ := bck_i h
    refine r_get hκ (t := 18) (k := 0) (r := 410) h6 rfl in_J1 (by decide) rfl q302 (Or.inl rfl) dJ0_appendChars_2_8 ?_
    refine r_astore hκ (L2 := [(4, (2, (bg s1 410 a0 0))), (0, (2, a0)), (1, (2, a1)), (2, (0, a2)), (3, (0, a3))]) (by decide) rfl dJ0_appendChars_2_11 ?_
    refine r_iload_n hκ 3 rfl rfl dJ0_appendChars_2_13 ?_
    refine r_istore hκ (L2 := [(5, (0, a2)), (4, (2, (bg s1 410 a0 0))), (0, (2, a0)), (1, (2, a1)), (2, (0, a2)), (3, (0, a3))]) (by decide) rfl dJ0_appendChars_2_14 ?_
    refine r_aload_n hκ 2 rfl rfl dJ0_appendChars_2_16 ?_
    obtain ⟨h7, h⟩ := bck_i h
    refine r_get hκ (t := 18) (k := 3) (r := 420) h7 rfl in_J1 (by decide) rfl q306 (Or.inl rfl) dJ0_appendChars_2_17 ?_
    refine r_istore hκ (L2 := [(6, (0, (bg s1 420 a0 0))), (5, (0, a2)), (4, (2, (bg s1 410 a0 0))), (0, (2, a0)), (1, (2, a1)), (2, (0, a2)), (3, (0, a3))]) (by decide) rfl dJ0_appendChars_2_20 ?_
    exact r_sub [3, 4, 5, 6, 2, 1, 0] rfl (w_J0_appendChars_2_r hκ hi hf 0 _ _ _ _ _ _ _ _ h)
/-- java/lang/AbstractStringBuilder.append(Ljava/lang/CharSequence;II)Ljava/lang/AbstractStringBuilder; -/
def F_J0_append_6_r (b : Nat) (x0 x1 x2 x3 : Int) (s0 : bS) : Option (bS × Int) :=
  match b with
  | 0 =>
    bcl (bte (bg s0 0 x1 0 = 19) (F_J1_length s0 x1) (bte (bg s0 0 x1 0 = 20) (F_J2_length s0 x1) (none))) fun s1 v1 =>
    bcl (F_J18_checkFromToIndex s1 x2 x3 v1 (bg s1 1 (-(2 + 1)) 0)) fun s2 v2 =>
    bck (bg s2 0 x0 0 = 19) <|
    bck (bg s2 0 x0 0 = 19) <|
    bcl (F_J0_ensureCapacityInternal s2 x0 ((bg s2 420 x0 0) + (x3 - x2))) fun s3 v3 =>
    bte (bg s3 0 x1 0 = 20) (bck (x1 < 0 ∨ bg s3 0 x1 0 = 20) <|
    bck (bg s3 0 x0 0 = 19) <|
    bcl (F_J0_appendChars s3 x0 x1 x2 x3) fun s4 v4 =>
    some (s4, x0)) (bck (x1 < 0 ∨ False) <| bck (bg s3 0 x0 0 = 19) <|
    bcl (F_J0_appendChars_2 s3 x0 x1 x2 x3) fun s5 v5 =>
    some (s5, x0))
  | _ => none
def F_J0_append_6 (s0 : bS) (a0 a1 a2 a3 : Int) : Option (bS × Int) :=
  bte (a1 < 0)
  (none)
  (F_J0_append_6_r 0 a0 a1 a2 a3 s0)
set_option maxHeartbeats 4000000 in
set_option maxRecDepth 100000 in
set_option synthInstance.maxHeartbeats 4000000 in
theorem w_J0_append_6_r {Γ0 : bG} {l0 : Launch} {κ : bK} {st' : bS} {v : Int} (hκ : bOk κ Γ0 l0 cJ0_append_6 RJ0 5 5 115) (hi : bIn κ yJ0_append_6) (hf : bFin κ (some (.object "java/lang/AbstractStringBuilder")) st' (some (2, v))) (b : Nat) (x0 x1 x2 x3 : Int) (s0 : bS) (h : F_J0_append_6_r b x0 x1 x2 x3 s0 = some (st', v)) : match (generalizing := false) b with | 0 => bJ κ s0 7 [(0, (2, x0)), (1, (2, x1)), (2, (0, x2)), (3, (0, x3))] [] | _ => True := by
  unfold F_J0_append_6_r at h
  match b, h with
  | 0, h =>
      refine r_iload_n hκ 2 rfl rfl dJ0_append_6_7 ?_
      refine r_iload_n hκ 3 rfl rfl dJ0_append_6_8 ?_
      refine r_aload_n hκ 1 rfl rfl dJ0_append_6_9 ?_
      obtain ⟨s1, v1, h2, h⟩ := bcl_i h
      refine r_seq (A := bJ κ s1 15 [(0, (2, x0)), (1, (2, x1)), (2, (0, x2)), (3, (0, x3))] [(0, v1), (0, x3), (0, x2)]) ?_ (fun k0 => ?_)
      case refine_2 =>
        by_cases h3 : bg s0 0 x1 0 = 19
        · have hq0 := (bte_i h2).1 h3
          exact r_callF hκ (n' := 0) (index := 47) (C := "java/lang/StringBuilder") (w_J1_length Γ0 l0 hq0) (lw_app (lw_l4 q2892 q2022 q1147 q125) (lw_meth q1148)) (by decide +kernel) (by decide +kernel) (t := 18) h3 rfl rfl (by decide) rfl (Nat.le_of_ble_eq_true rfl) dJ0_append_6_10 k0
        replace h2 := (bte_i h2).2 h3
        by_cases h4 : bg s0 0 x1 0 = 20
        · have hq0 := (bte_i h2).1 h4
          exact r_callF hκ (n' := 0) (index := 47) (C := "java/lang/String") (w_J2_length Γ0 l0 hq0) (lw_app (lw_l4 q2892 q2019 q874 q126) (lw_meth q876)) (by decide +kernel) (by decide +kernel) (t := 19) h4 rfl rfl (by decide) rfl (Nat.le_of_ble_eq_true rfl) dJ0_append_6_10 k0
        replace h2 := (bte_i h2).2 h4
        cases h2
      refine r_getsR hκ (j := 1) (by decide +kernel) q2905 dJ0_append_6_15 ?_
      obtain ⟨s2, v2, h5, h⟩ := bcl_i h
      refine r_callS hκ (n' := 4) (index := 161) (w_J18_checkFromToIndex Γ0 l0 h5) (lw_S q2202 q1073 q154 q1074) (by decide +kernel) rfl (by decide) rfl (Nat.le_of_ble_eq_true rfl) dJ0_append_6_18 ?_
      refine r_pop hκ (bd_cat0k _) dJ0_append_6_21 ?_
      refine r_iload_n hκ 3 rfl rfl dJ0_append_6_22 ?_
      refine r_iload_n hκ 2 rfl rfl dJ0_append_6_23 ?_
      refine r_isub hκ dJ0_append_6_24 ?_
      refine r_istore hκ (L2 := [(4, (0, (x3 - x2))), (0, (2, x0)), (1, (2, x1)), (2, (0, x2)), (3, (0, x3))]) (by decide) rfl dJ0_append_6_25 ?_
      refine r_aload_n hκ 1 rfl rfl dJ0_append_6_27 ?_
      refine r_aload_n hκ 1 rfl rfl dJ0_append_6_28 ?_
      obtain ⟨h6, h⟩ := bck_i h
      refine r_get hκ (t := 18) (k := 3) (r := 420) h6 rfl in_J1 (by decide) rfl q306 (Or.inl rfl) dJ0_append_6_29 ?_
      refine r_iload hκ 0 rfl dJ0_append_6_32 ?_
      refine r_iadd hκ dJ0_append_6_34 ?_
      obtain ⟨h7, h⟩ := bck_i h
      obtain ⟨s3, v3, h8, h⟩ := bcl_i h
      refine r_callP hκ (index := 100) (C := "java/lang/StringBuilder") (owner := "java/lang/AbstractStringBuilder") (n' := 1) (w_J0_ensureCapacityInternal Γ0 l0 h8) (fun R s args hts hsl hRR => va_cwU 1 (List.forall_mem_cons.mpr ⟨hsl ("java/lang/StringBuilder", ⟨"java/lang/AbstractStringBuilder", "ensureCapacityInternal", "(I)V"⟩) (by decide +kernel), hts⟩) (b_gP rfl q1025 q3586 q1027 q124 (lw_meth q1028)) rfl rfl rfl rfl (by decide +kernel) hRR) (t := 18) h7 rfl rfl (by decide) rfl (Nat.le_of_ble_eq_true rfl) dJ0_append_6_35 ?_
      refine r_aload_n hκ 2 rfl rfl dJ0_append_6_38 ?_
      by_cases h9 : bg s3 0 x1 0 = 20
      · replace h := (bte_i h).1 h9
        refine r_instGY hκ q2865 (⟨20, _, h9, by decide, rfl, Or.inl (by decide +kernel)⟩) dJ0_append_6_39 ?_
        refine r_if_eq hκ (tgt := 58) (by decide) dJ0_append_6_42 (fun hc => absurd hc (by decide)) (fun _ => ?_)
        refine r_aload_n hκ 1 rfl rfl dJ0_append_6_45 ?_
        refine r_aload_n hκ 2 rfl rfl dJ0_append_6_46 ?_
        obtain ⟨h11, h⟩ := bck_i h
        refine r_cast hκ q2865 (Or.elim h11 (fun h11 => Or.inl h11) (fun h11 => Or.inr ⟨19, _, h11, rfl, Or.inl rfl⟩)) dJ0_append_6_47 ?_
        refine r_iload_n hκ 3 rfl rfl dJ0_append_6_50 ?_
        refine r_iload_n hκ 4 rfl rfl dJ0_append_6_51 ?_
        obtain ⟨h12, h⟩ := bck_i h
        obtain ⟨s4, v4, h13, h⟩ := bcl_i h
        refine r_callP hκ (index := 232) (C := "java/lang/StringBuilder") (owner := "java/lang/AbstractStringBuilder") (n' := 3) (w_J0_appendChars Γ0 l0 h13) (fun R s args hts hsl hRR => va_cwU 3 (List.forall_mem_cons.mpr ⟨hsl ("java/lang/StringBuilder", ⟨"java/lang/AbstractStringBuilder", "appendChars", "(Ljava/lang/String;II)V"⟩) (by decide +kernel), hts⟩) (b_gP rfl q2907 q3615 q2909 q124 (lw_meth q2910)) rfl rfl rfl rfl (by decide +kernel) hRR) (t := 18) h12 rfl rfl (by decide) rfl (Nat.le_of_ble_eq_true rfl) dJ0_append_6_52 ?_
        refine r_goto hκ (tgt := 65) (by decide) dJ0_append_6_55 ?_
        refine r_aload_n hκ 1 rfl rfl dJ0_append_6_65 ?_
        exact r_aretH hκ hf h rt_o dJ0_append_6_66
      · replace h := (bte_i h).2 h9
        obtain ⟨h10, h⟩ := bck_i h
        refine r_instGN hκ q2865 (Or.elim h10 (fun h10 => Or.inl h10) (fun h10 => h10.elim)) dJ0_append_6_39 ?_
        refine r_if_eq hκ (tgt := 58) (by decide) dJ0_append_6_42 (fun _ => ?_) (fun hc => absurd hc (by decide))
        refine r_aload_n hκ 1 rfl rfl dJ0_append_6_58 ?_
        refine r_aload_n hκ 2 rfl rfl dJ0_append_6_59 ?_
        refine r_iload_n hκ 3 rfl rfl dJ0_append_6_60 ?_
        refine r_iload_n hκ 4 rfl rfl dJ0_append_6_61 ?_
        obtain ⟨h14, h⟩ := bck_i h
        obtain ⟨s5, v5, h15, h⟩ := bcl_i h
        refine r_callP hκ (index := 236) (C := "java/lang/StringBuilder") (owner := "java/lang/AbstractStringBuilder") (n' := 3) (w_J0_appendChars_2 Γ0 l0 h15) (fun R s args hts hsl hRR => va_cwU 3 (List.forall_mem_cons.mpr ⟨hsl ("java/lang/StringBuilder", ⟨"java/lang/AbstractStringBuilder", "appendChars", "(Ljava/lang/CharSequence;II)V"⟩) (by decide +kernel), hts⟩) (b_gP rfl q2922 q3616 q2924 q124 (lw_meth q2925)) rfl rfl rfl rfl (by decide +kernel) hRR) (t := 18) h14 rfl rfl (by decide) rfl (Nat.le_of_ble_eq_true rfl) dJ0_append_6_62 ?_
        refine r_aload_n hκ 1 rfl rfl dJ0_append_6_65 ?_
        exact r_aretH hκ hf h rt_o dJ0_append_6_66
  | b + 1, h => trivial
set_option maxHeartbeats 4000000 in
set_option maxRecDepth 100000 in
theorem w_J0_append_6 (Γ0 : bG) (l0 : Launch) {s0 st' : bS} {v a0 a1 a2 a3 : Int} (h : F_J0_append_6 s0 a0 a1 a2 a3 = some (st', v)) : bCt Γ0 l0 yJ0_append_6 cJ0_append_6 5 (some (.object "java/lang/AbstractStringBuilder")) 5 115 [(2, a0), (2, a1), (0, a2), (0, a3)] s0 st' (some (2, v)) := by
  refine b_ent (own := RJ0) (by decide +kernel) rfl (Nat.le_of_ble_eq_true rfl) (L := [(0, (2, a0)), (1, (2, a1)), (2, (0, a2)), (3, (0, a3))]) rfl ?_
  intro κ hκ hi hf
  unfold F_J0_append_6 at h
  refine r_aload_n hκ 1 rfl rfl dJ0_append_6_0 ?_
  refine r_ifnonnull hκ (tgt := 7) (by decide) dJ0_append_6_1 (fun h1 => ?_) (fun h1 => ?_)
  · replace h := (bte_i h).2 h1
    exact r_sub [0, 1, 2, 3] rfl (w_J0_append_6_r hκ hi hf 0 _ _ _ _ _ h)
  · replace h := (bte_i h).1 h1
    cases h
/-- java/lang/StringBuilder.append(Ljava/lang/CharSequence;II)Ljava/lang/StringBuilder; -/
def F_J1_append_7 (s0 : bS) (a0 a1 a2 a3 : Int) : Option (bS × Int) :=
  bck (bg s0 0 a0 0 = 19) <|
  bcl (F_J0_append_6 s0 a0 a1 a2 a3) fun s1 v1 =>
  some (s1, a0)
set_option maxHeartbeats 4000000 in
set_option maxRecDepth 100000 in
theorem w_J1_append_7 (Γ0 : bG) (l0 : Launch) {s0 st' : bS} {v a0 a1 a2 a3 : Int} (h : F_J1_append_7 s0 a0 a1 a2 a3 = some (st', v)) : bCt Γ0 l0 yJ1_append_7 cJ1_append_7 4 (some (.object "java/lang/StringBuilder")) 6 139 [(2, a0), (2, a1), (0, a2), (0, a3)] s0 st' (some (2, v)) := by
  refine b_ent (own := RJ1) (by decide +kernel) rfl (Nat.le_of_ble_eq_true rfl) (L := [(0, (2, a0)), (1, (2, a1)), (2, (0, a2)), (3, (0, a3))]) rfl ?_
  intro κ hκ hi hf
  unfold F_J1_append_7 at h
  refine r_aload_n hκ 0 rfl rfl dJ1_append_7_0 ?_
  refine r_aload_n hκ 1 rfl rfl dJ1_append_7_1 ?_
  refine r_iload_n hκ 2 rfl rfl dJ1_append_7_2 ?_
  refine r_iload_n hκ 3 rfl rfl dJ1_append_7_3 ?_
  obtain ⟨h1, h⟩ := bck_i h
  obtain ⟨s1, v1, h2, h⟩ := bcl_i h
  refine r_callSU hκ (n' := 3) (index := 38) (w_J0_append_6 Γ0 l0 h2) (lw_app (lw_l5 q2903 q2895 q315 q2894 q124) (lw_meth q2904)) (by decide +kernel) (t := 18) h1 rfl rfl (by decide) rfl (Nat.le_of_ble_eq_true rfl) dJ1_append_7_4 ?_
  refine r_pop hκ (bd_cat2k _) dJ1_append_7_7 ?_
  refine r_aload_n hκ 0 rfl rfl dJ1_append_7_8 ?_
  exact r_aretH hκ hf h rt_o dJ1_append_7_9
/-- java/lang/StringBuilder.append(Ljava/lang/CharSequence;II)Ljava/lang/AbstractStringBuilder; -/
def F_J1_append_6 (s0 : bS) (a0 a1 a2 a3 : Int) : Option (bS × Int) :=
  bck (bg s0 0 a0 0 = 19) <|
  bcl (F_J1_append_7 s0 a0 a1 a2 a3) fun s1 v1 =>
  some (s1, v1)
set_option maxHeartbeats 4000000 in
set_option maxRecDepth 100000 in
theorem w_J1_append_6 (Γ0 : bG) (l0 : Launch) {s0 st' : bS} {v a0 a1 a2 a3 : Int} (h : F_J1_append_6 s0 a0 a1 a2 a3 = some (st', v)) : bCt Γ0 l0 yJ1_append_6 cJ1_append_6 4 (some (.object "java/lang/AbstractStringBuilder")) 7 162 [(2, a0), (2, a1), (0, a2), (0, a3)] s0 st' (some (2, v)) := by
  refine b_ent (own := RJ1) (by decide +kernel) rfl (Nat.le_of_ble_eq_true rfl) (L := [(0, (2, a0)), (1, (2, a1)), (2, (0, a2)), (3, (0, a3))]) rfl ?_
  intro κ hκ hi hf
  unfold F_J1_append_6 at h
  refine r_aload_n hκ 0 rfl rfl dJ1_append_6_0 ?_
  refine r_aload_n hκ 1 rfl rfl dJ1_append_6_1 ?_
  refine r_iload_n hκ 2 rfl rfl dJ1_append_6_2 ?_
  refine r_iload_n hκ 3 rfl rfl dJ1_append_6_3 ?_
  obtain ⟨h1, h⟩ := bck_i h
  obtain ⟨s1, v1, h2, h⟩ := bcl_i h
  refine r_callV hκ (n' := 3) (index := 296) (w_J1_append_7 Γ0 l0 h2) (lw_V q2899 q2900 q2901 q125 q2902) (by decide +kernel) (t := 18) h1 rfl rfl (by decide) rfl (Nat.le_of_ble_eq_true rfl) dJ1_append_6_4 ?_
  exact r_aretH hκ hf h rt_o dJ1_append_6_7
/-- java/lang/AbstractStringBuilder.append(Ljava/lang/CharSequence;)Ljava/lang/AbstractStringBuilder; -/
def F_J0_append_4 (s0 : bS) (a0 a1 : Int) : Option (bS × Int) :=
  bte (a1 < 0)
  (bck (bg s0 0 a0 0 = 19) <|
  bcl (F_J0_appendNull s0 a0) fun s5 v5 =>
  some (s5, v5))
  (bte (bg s0 0 a1 0 = 20) (bck (a1 < 0 ∨ bg s0 0 a1 0 = 20) <|
  bck (bg s0 0 a0 0 = 19) <|
  bcl (F_J1_append_5 s0 a0 a1) fun s1 v1 =>
  some (s1, v1)) (bck (a1 < 0 ∨ False) <| bte (bg s0 0 a1 0 = 19) (bck (a1 < 0 ∨ bg s0 0 a1 0 = 19) <|
  bck (bg s0 0 a0 0 = 19) <|
  bcl (F_J0_append_5 s0 a0 a1) fun s2 v2 =>
  some (s2, v2)) (bck (a1 < 0 ∨ False) <| bcl (bte (bg s0 0 a1 0 = 19) (F_J1_length s0 a1) (bte (bg s0 0 a1 0 = 20) (F_J2_length s0 a1) (none))) fun s3 v3 =>
  bck (bg s3 0 a0 0 = 19) <|
  bcl (F_J1_append_6 s3 a0 a1 0 v3) fun s4 v4 =>
  some (s4, v4))))
set_option maxHeartbeats 4000000 in
set_option maxRecDepth 100000 in
theorem w_J0_append_4 (Γ0 : bG) (l0 : Launch) {s0 st' : bS} {v a0 a1 : Int} (h : F_J0_append_4 s0 a0 a1 = some (st', v)) : bCt Γ0 l0 yJ0_append_4 cJ0_append_4 2 (some (.object "java/lang/AbstractStringBuilder")) 8 185 [(2, a0), (2, a1)] s0 st' (some (2, v)) := by
  refine b_ent (own := RJ0) (by decide +kernel) rfl (Nat.le_of_ble_eq_true rfl) (L := [(0, (2, a0)), (1, (2, a1))]) rfl ?_
  intro κ hκ hi hf
  unfold F_J0_append_4 at h
  refine r_aload_n hκ 1 rfl rfl dJ0_append_4_0 ?_
  refine r_ifnonnull hκ (tgt := 9) (by decide) dJ0_append_4_1 (fun h1 => ?_) (fun h1 => ?_)
  · replace h := (bte_i h).2 h1
    refine r_aload_n hκ 1 rfl rfl dJ0_append_4_9 ?_
    by_cases h2 : bg s0 0 a1 0 = 20
    · replace h := (bte_i h).1 h2
      refine r_instGY hκ q2865 (⟨20, _, h2, by decide, rfl, Or.inl (by decide +kernel)⟩) dJ0_append_4_10 ?_
      refine r_if_eq hκ (tgt := 25) (by decide) dJ0_append_4_13 (fun hc => absurd hc (by decide)) (fun _ => ?_)
      refine r_aload_n hκ 0 rfl rfl dJ0_append_4_16 ?_
      refine r_aload_n hκ 1 rfl rfl dJ0_append_4_17 ?_
      obtain ⟨h4, h⟩ := bck_i h
      refine r_cast hκ q2865 (Or.elim h4 (fun h4 => Or.inl h4) (fun h4 => Or.inr ⟨19, _, h4, rfl, Or.inl rfl⟩)) dJ0_append_4_18 ?_
      obtain ⟨h5, h⟩ := bck_i h
      obtain ⟨s1, v1, h6, h⟩ := bcl_i h
      refine r_callU hκ (index := 43) (C := "java/lang/StringBuilder") (owner := "java/lang/AbstractStringBuilder") (n' := 1) (w_J1_append_5 Γ0 l0 h6) (fun R s args hts hRR => va_cwO 1 hts (lw_app (lw_l6 q2866 q3584 q1019 q3613 q2867 q125) (lw_meth q2868)) rfl rfl rfl q1020 (by decide +kernel) hRR) (t := 18) h5 rfl rfl (by decide) rfl (Nat.le_of_ble_eq_true rfl) dJ0_append_4_21 ?_
      exact r_aretH hκ hf h rt_o dJ0_append_4_24
    · replace h := (bte_i h).2 h2
      obtain ⟨h3, h⟩ := bck_i h
      refine r_instGN hκ q2865 (Or.elim h3 (fun h3 => Or.inl h3) (fun h3 => h3.elim)) dJ0_append_4_10 ?_
      refine r_if_eq hκ (tgt := 25) (by decide) dJ0_append_4_13 (fun _ => ?_) (fun hc => absurd hc (by decide))
      refine r_aload_n hκ 1 rfl rfl dJ0_append_4_25 ?_
      by_cases h7 : bg s0 0 a1 0 = 19
      · replace h := (bte_i h).1 h7
        refine r_instGY hκ q2870 (⟨19, _, h7, by decide, rfl, Or.inr (by decide +kernel)⟩) dJ0_append_4_26 ?_
        refine r_if_eq hκ (tgt := 41) (by decide) dJ0_append_4_29 (fun hc => absurd hc (by decide)) (fun _ => ?_)
        refine r_aload_n hκ 0 rfl rfl dJ0_append_4_32 ?_
        refine r_aload_n hκ 1 rfl rfl dJ0_append_4_33 ?_
        obtain ⟨h9, h⟩ := bck_i h
        refine r_cast hκ q2870 (Or.elim h9 (fun h9 => Or.inl h9) (fun h9 => Or.inr ⟨18, _, h9, rfl, Or.inr (by decide +kernel)⟩)) dJ0_append_4_34 ?_
        obtain ⟨h10, h⟩ := bck_i h
        obtain ⟨s2, v2, h11, h⟩ := bcl_i h
        refine r_callU hκ (index := 212) (C := "java/lang/StringBuilder") (owner := "java/lang/AbstractStringBuilder") (n' := 1) (w_J0_append_5 Γ0 l0 h11) (fun R s args hts hRR => va_cwU 1 hts (lw_app (lw_l5 q2871 q2873 q2874 q2872 q124) (lw_meth q2875)) rfl rfl rfl rfl (by decide +kernel) hRR) (t := 18) h10 rfl rfl (by decide) rfl (Nat.le_of_ble_eq_true rfl) dJ0_append_4_37 ?_
        exact r_aretH hκ hf h rt_o dJ0_append_4_40
      · replace h := (bte_i h).2 h7
        obtain ⟨h8, h⟩ := bck_i h
        refine r_instGN hκ q2870 (Or.elim h8 (fun h8 => Or.inl h8) (fun h8 => h8.elim)) dJ0_append_4_26 ?_
        refine r_if_eq hκ (tgt := 41) (by decide) dJ0_append_4_29 (fun _ => ?_) (fun hc => absurd hc (by decide))
        refine r_aload_n hκ 0 rfl rfl dJ0_append_4_41 ?_
        refine r_aload_n hκ 1 rfl rfl dJ0_append_4_42 ?_
        refine r_iconst hκ dJ0_append_4_43 ?_
        refine r_aload_n hκ 1 rfl rfl dJ0_append_4_44 ?_
        obtain ⟨s3, v3, h12, h⟩ := bcl_i h
        refine r_seq (A := bJ κ s3 50 [(0, (2, a0)), (1, (2, a1))] [(0, v3), (0, 0), (2, a1), (2, a0)]) ?_ (fun k0 => ?_)
        case refine_2 =>
          by_cases h13 : bg s0 0 a1 0 = 19
          · have hq0 := (bte_i h12).1 h13
            exact r_callF hκ (n' := 0) (index := 47) (C := "java/lang/StringBuilder") (w_J1_length Γ0 l0 hq0) (lw_app (lw_l4 q2892 q2022 q1147 q125) (lw_meth q1148)) (by decide +kernel) (by decide +kernel) (t := 18) h13 rfl rfl (by decide) rfl (Nat.le_of_ble_eq_true rfl) dJ0_append_4_45 k0
          replace h12 := (bte_i h12).2 h13
          by_cases h14 : bg s0 0 a1 0 = 20
          · have hq0 := (bte_i h12).1 h14
            exact r_callF hκ (n' := 0) (index := 47) (C := "java/lang/String") (w_J2_length Γ0 l0 hq0) (lw_app (lw_l4 q2892 q2019 q874 q126) (lw_meth q876)) (by decide +kernel) (by decide +kernel) (t := 19) h14 rfl rfl (by decide) rfl (Nat.le_of_ble_eq_true rfl) dJ0_append_4_45 k0
          replace h12 := (bte_i h12).2 h14
          cases h12
        obtain ⟨h15, h⟩ := bck_i h
        obtain ⟨s4, v4, h16, h⟩ := bcl_i h
        refine r_callU hκ (index := 223) (C := "java/lang/StringBuilder") (owner := "java/lang/AbstractStringBuilder") (n' := 3) (w_J1_append_6 Γ0 l0 h16) (fun R s args hts hRR => va_cwO 3 hts (lw_app (lw_l6 q2893 q2895 q2894 q2896 q2897 q125) (lw_meth q2898)) rfl rfl rfl q2904 (by decide +kernel) hRR) (t := 18) h15 rfl rfl (by decide) rfl (Nat.le_of_ble_eq_true rfl) dJ0_append_4_50 ?_
        exact r_aretH hκ hf h rt_o dJ0_append_4_53
  · replace h := (bte_i h).1 h1
    refine r_aload_n hκ 0 rfl rfl dJ0_append_4_4 ?_
    obtain ⟨h17, h⟩ := bck_i h
    obtain ⟨s5, v5, h18, h⟩ := bcl_i h
    refine r_callP hκ (index := 204) (C := "java/lang/StringBuilder") (owner := "java/lang/AbstractStringBuilder") (n' := 0) (w_J0_appendNull Γ0 l0 h18) (fun R s args hts hsl hRR => va_cwU 0 (List.forall_mem_cons.mpr ⟨hsl ("java/lang/StringBuilder", ⟨"java/lang/AbstractStringBuilder", "appendNull", "()Ljava/lang/AbstractStringBuilder;"⟩) (by decide +kernel), hts⟩) (b_gP rfl q1021 q3585 q1023 q124 (lw_meth q1024)) rfl rfl rfl rfl (by decide +kernel) hRR) (t := 18) h17 rfl rfl (by decide) rfl (Nat.le_of_ble_eq_true rfl) dJ0_append_4_5 ?_
    exact r_aretH hκ hf h rt_o dJ0_append_4_8
/-- java/lang/StringBuilder.append(Ljava/lang/CharSequence;)Ljava/lang/StringBuilder; -/
def F_J1_append_4 (s0 : bS) (a0 a1 : Int) : Option (bS × Int) :=
  bck (bg s0 0 a0 0 = 19) <|
  bcl (F_J0_append_4 s0 a0 a1) fun s1 v1 =>
  some (s1, a0)
set_option maxHeartbeats 4000000 in
set_option maxRecDepth 100000 in
theorem w_J1_append_4 (Γ0 : bG) (l0 : Launch) {s0 st' : bS} {v a0 a1 : Int} (h : F_J1_append_4 s0 a0 a1 = some (st', v)) : bCt Γ0 l0 yJ1_append_4 cJ1_append_4 2 (some (.object "java/lang/StringBuilder")) 9 206 [(2, a0), (2, a1)] s0 st' (some (2, v)) := by
  refine b_ent (own := RJ1) (by decide +kernel) rfl (Nat.le_of_ble_eq_true rfl) (L := [(0, (2, a0)), (1, (2, a1))]) rfl ?_
  intro κ hκ hi hf
  unfold F_J1_append_4 at h
  refine r_aload_n hκ 0 rfl rfl dJ1_append_4_0 ?_
  refine r_aload_n hκ 1 rfl rfl dJ1_append_4_1 ?_
  obtain ⟨h1, h⟩ := bck_i h
  obtain ⟨s1, v1, h2, h⟩ := bcl_i h
  refine r_callSU hκ (n' := 1) (index := 35) (w_J0_append_4 Γ0 l0 h2) (lw_app (lw_l5 q2862 q3612 q315 q2863 q124) (lw_meth q2864)) (by decide +kernel) (t := 18) h1 rfl rfl (by decide) rfl (Nat.le_of_ble_eq_true rfl) dJ1_append_4_2 ?_
  refine r_pop hκ (bd_cat2k _) dJ1_append_4_5 ?_
  refine r_aload_n hκ 0 rfl rfl dJ1_append_4_6 ?_
  exact r_aretH hκ hf h rt_o dJ1_append_4_7
/-- java/util/ArrayList.rangeCheckForAdd(I)V -/
def F_J10_rangeCheckForAdd_r (b : Nat) (x0 x1 : Int) (s0 : bS) : Option (bS × Int) :=
  match b with
  | 0 =>
    none
  | _ => none
def F_J10_rangeCheckForAdd (s0 : bS) (a0 a1 : Int) : Option (bS × Int) :=
  bck (bg s0 0 a0 0 = 21) <|
  bte (i32 (bg s0 448 a0 0) < i32 a1)
  (F_J10_rangeCheckForAdd_r 0 a0 a1 s0)
  (bte (0 ≤ i32 a1)
  (some (s0, 0))
  (F_J10_rangeCheckForAdd_r 0 a0 a1 s0))
set_option maxHeartbeats 4000000 in
set_option maxRecDepth 100000 in
set_option synthInstance.maxHeartbeats 4000000 in
theorem w_J10_rangeCheckForAdd_r {Γ0 : bG} {l0 : Launch} {κ : bK} {st' : bS} {v : Int} (hκ : bOk κ Γ0 l0 cJ10_rangeCheckForAdd RJ10 2 0 0) (hi : bIn κ yJ10_rangeCheckForAdd) (hf : bFin κ none st' none) (b : Nat) (x0 x1 : Int) (s0 : bS) (h : F_J10_rangeCheckForAdd_r b x0 x1 s0 = some (st', v)) : match (generalizing := false) b with | 0 => bJ κ s0 12 [(0, (2, x0)), (1, (0, x1))] [] | _ => True := by
  unfold F_J10_rangeCheckForAdd_r at h
  match b, h with
  | 0, h =>
      cases h
  | b + 1, h => trivial
set_option maxHeartbeats 4000000 in
set_option maxRecDepth 100000 in
theorem w_J10_rangeCheckForAdd (Γ0 : bG) (l0 : Launch) {s0 st' : bS} {v a0 a1 : Int} (h : F_J10_rangeCheckForAdd s0 a0 a1 = some (st', v)) : bCt Γ0 l0 yJ10_rangeCheckForAdd cJ10_rangeCheckForAdd 2 none 0 0 [(2, a0), (0, a1)] s0 st' none := by
  refine b_ent (own := RJ10) (by decide +kernel) rfl (Nat.le_of_ble_eq_true rfl) (L := [(0, (2, a0)), (1, (0, a1))]) rfl ?_
  intro κ hκ hi hf
  unfold F_J10_rangeCheckForAdd at h
  refine r_iload_n hκ 1 rfl rfl dJ10_rangeCheckForAdd_0 ?_
  refine r_aload_n hκ 0 rfl rfl dJ10_rangeCheckForAdd_1 ?_
  obtain ⟨h1, h⟩ := bck_i h
  refine r_get hκ (t := 20) (k := 2) (r := 448) h1 rfl in_J10 (by decide) rfl q340 (Or.inl rfl) dJ10_rangeCheckForAdd_2 ?_
  refine r_icmp_gt hκ (tgt := 12) (by decide) dJ10_rangeCheckForAdd_5 (fun h2 => ?_) (fun h2 => ?_)
  · replace h := (bte_i h).1 h2
    exact r_sub [0, 1] rfl (w_J10_rangeCheckForAdd_r hκ hi hf 0 _ _ _ h)
  · replace h := (bte_i h).2 h2
    refine r_iload_n hκ 1 rfl rfl dJ10_rangeCheckForAdd_8 ?_
    refine r_if_ge hκ (tgt := 25) (by decide) dJ10_rangeCheckForAdd_9 (fun h3 => ?_) (fun h3 => ?_)
    · replace h := (bte_i h).1 h3
      exact r_vretH hκ hf h dJ10_rangeCheckForAdd_25
    · replace h := (bte_i h).2 h3
      exact r_sub [0, 1] rfl (w_J10_rangeCheckForAdd_r hκ hi hf 0 _ _ _ h)
/-- java/util/ArrayList.listIterator(I)Ljava/util/ListIterator; -/
def F_J10_listIterator (s0 : bS) (a0 a1 : Int) : Option (bS × Int) :=
  bck (bg s0 0 a0 0 = 21) <|
  bcl (F_J10_rangeCheckForAdd s0 a0 a1) fun s1 v1 =>
  none
set_option maxHeartbeats 4000000 in
set_option maxRecDepth 100000 in
theorem w_J10_listIterator (Γ0 : bG) (l0 : Launch) {s0 st' : bS} {v a0 a1 : Int} (h : F_J10_listIterator s0 a0 a1 = some (st', v)) : bCt Γ0 l0 yJ10_listIterator cJ10_listIterator 2 (some (.object "java/util/ListIterator")) 1 21 [(2, a0), (0, a1)] s0 st' (some (2, v)) := by
  refine b_ent (own := RJ10) (by decide +kernel) rfl (Nat.le_of_ble_eq_true rfl) (L := [(0, (2, a0)), (1, (0, a1))]) rfl ?_
  intro κ hκ hi hf
  unfold F_J10_listIterator at h
  refine r_aload_n hκ 0 rfl rfl dJ10_listIterator_0 ?_
  refine r_iload_n hκ 1 rfl rfl dJ10_listIterator_1 ?_
  obtain ⟨h1, h⟩ := bck_i h
  obtain ⟨s1, v1, h2, h⟩ := bcl_i h
  refine r_callV hκ (n' := 1) (index := 135) (w_J10_rangeCheckForAdd Γ0 l0 h2) (lw_V q2951 q2953 qs64 q134 q2954) (by decide +kernel) (t := 20) h1 rfl rfl (by decide) rfl (Nat.le_of_ble_eq_true rfl) dJ10_listIterator_2 ?_
  cases h
/-- java/util/LinkedList.isPositionIndex(I)Z -/
def F_J12_isPositionIndex (s0 : bS) (a0 a1 : Int) : Option (bS × Int) :=
  bte (i32 a1 < 0)
  (some (s0, 0))
  (bck (bg s0 0 a0 0 = 22) <|
  bte (i32 (bg s0 452 a0 0) < i32 a1)
  (some (s0, 0))
  (some (s0, 1)))
set_option maxHeartbeats 4000000 in
set_option maxRecDepth 100000 in
theorem w_J12_isPositionIndex (Γ0 : bG) (l0 : Launch) {s0 st' : bS} {v a0 a1 : Int} (h : F_J12_isPositionIndex s0 a0 a1 = some (st', v)) : bCt Γ0 l0 yJ12_isPositionIndex cJ12_isPositionIndex 2 (some .boolean) 0 0 [(2, a0), (0, a1)] s0 st' (some (0, v)) := by
  refine b_ent (own := RJ12) (by decide +kernel) rfl (Nat.le_of_ble_eq_true rfl) (L := [(0, (2, a0)), (1, (0, a1))]) rfl ?_
  intro κ hκ hi hf
  unfold F_J12_isPositionIndex at h
  refine r_iload_n hκ 1 rfl rfl dJ12_isPositionIndex_0 ?_
  refine r_if_lt hκ (tgt := 16) (by decide) dJ12_isPositionIndex_1 (fun h1 => ?_) (fun h1 => ?_)
  · replace h := (bte_i h).1 h1
    refine r_iconst hκ dJ12_isPositionIndex_16 ?_
    exact r_iretH hκ hf h (nar_bool (by decide)) dJ12_isPositionIndex_17
  · replace h := (bte_i h).2 h1
    refine r_iload_n hκ 1 rfl rfl dJ12_isPositionIndex_4 ?_
    refine r_aload_n hκ 0 rfl rfl dJ12_isPositionIndex_5 ?_
    obtain ⟨h2, h⟩ := bck_i h
    refine r_get hκ (t := 21) (k := 1) (r := 452) h2 rfl in_J12 (by decide) rfl q459 (Or.inl rfl) dJ12_isPositionIndex_6 ?_
    refine r_icmp_gt hκ (tgt := 16) (by decide) dJ12_isPositionIndex_9 (fun h3 => ?_) (fun h3 => ?_)
    · replace h := (bte_i h).1 h3
      refine r_iconst hκ dJ12_isPositionIndex_16 ?_
      exact r_iretH hκ hf h (nar_bool (by decide)) dJ12_isPositionIndex_17
    · replace h := (bte_i h).2 h3
      refine r_iconst hκ dJ12_isPositionIndex_12 ?_
      refine r_goto hκ (tgt := 17) (by decide) dJ12_isPositionIndex_13 ?_
      exact r_iretH hκ hf h (nar_bool (by decide)) dJ12_isPositionIndex_17
/-- java/util/LinkedList.checkPositionIndex(I)V -/
def F_J12_checkPositionIndex (s0 : bS) (a0 a1 : Int) : Option (bS × Int) :=
  bck (bg s0 0 a0 0 = 22) <|
  bcl (F_J12_isPositionIndex s0 a0 a1) fun s1 v1 =>
  bte (i32 v1 = 0)
  (none)
  (some (s1, 0))
set_option maxHeartbeats 4000000 in
set_option maxRecDepth 100000 in
theorem w_J12_checkPositionIndex (Γ0 : bG) (l0 : Launch) {s0 st' : bS} {v a0 a1 : Int} (h : F_J12_checkPositionIndex s0 a0 a1 = some (st', v)) : bCt Γ0 l0 yJ12_checkPositionIndex cJ12_checkPositionIndex 2 none 1 21 [(2, a0), (0, a1)] s0 st' none := by
  refine b_ent (own := RJ12) (by decide +kernel) rfl (Nat.le_of_ble_eq_true rfl) (L := [(0, (2, a0)), (1, (0, a1))]) rfl ?_
  intro κ hκ hi hf
  unfold F_J12_checkPositionIndex at h
  refine r_aload_n hκ 0 rfl rfl dJ12_checkPositionIndex_0 ?_
  refine r_iload_n hκ 1 rfl rfl dJ12_checkPositionIndex_1 ?_
  obtain ⟨h1, h⟩ := bck_i h
  obtain ⟨s1, v1, h2, h⟩ := bcl_i h
  refine r_callV hκ (n' := 1) (index := 128) (w_J12_isPositionIndex Γ0 l0 h2) (lw_V q3002 q3004 qs67 q144 q3005) (by decide +kernel) (t := 21) h1 rfl rfl (by decide) rfl (Nat.le_of_ble_eq_true rfl) dJ12_checkPositionIndex_2 ?_
  refine r_if_ne hκ (tgt := 21) (by decide) dJ12_checkPositionIndex_5 (fun h3 => ?_) (fun h3 => ?_)
  · replace h := (bte_i h).2 h3
    exact r_vretH hκ hf h dJ12_checkPositionIndex_21
  · replace h := (bte_i h).1 h3
    cases h
/-- java/util/LinkedList.listIterator(I)Ljava/util/ListIterator; -/
def F_J12_listIterator (s0 : bS) (a0 a1 : Int) : Option (bS × Int) :=
  bck (bg s0 0 a0 0 = 22) <|
  bcl (F_J12_checkPositionIndex s0 a0 a1) fun s1 v1 =>
  bck (bc s1 + 1 ≤ bCM ∧ bk s1 + 5 ≤ bKM) <|
  bst (bnw s1 25 0 5) fun s2 =>
  bck (bg s2 0 (bnx s1 : Int) 0 = 25) <|
  bcl (F_J28_init s2 (bnx s1 : Int) a0 a1) fun s3 v2 =>
  some (s3, (bnx s1 : Int))
set_option maxHeartbeats 4000000 in
set_option maxRecDepth 100000 in
theorem w_J12_listIterator (Γ0 : bG) (l0 : Launch) {s0 st' : bS} {v a0 a1 : Int} (h : F_J12_listIterator s0 a0 a1 = some (st', v)) : bCt Γ0 l0 yJ12_listIterator cJ12_listIterator 2 (some (.object "java/util/ListIterator")) 2 45 [(2, a0), (0, a1)] s0 st' (some (2, v)) := by
  refine b_ent (own := RJ12) (by decide +kernel) rfl (Nat.le_of_ble_eq_true rfl) (L := [(0, (2, a0)), (1, (0, a1))]) rfl ?_
  intro κ hκ hi hf
  unfold F_J12_listIterator at h
  refine r_aload_n hκ 0 rfl rfl dJ12_listIterator_0 ?_
  refine r_iload_n hκ 1 rfl rfl dJ12_listIterator_1 ?_
  obtain ⟨h1, h⟩ := bck_i h
  obtain ⟨s1, v1, h2, h⟩ := bcl_i h
  refine r_callV hκ (n' := 1) (index := 76) (w_J12_checkPositionIndex Γ0 l0 h2) (lw_V q2998 q3000 qs66 q144 q3001) (by decide +kernel) (t := 21) h1 rfl rfl (by decide) rfl (Nat.le_of_ble_eq_true rfl) dJ12_listIterator_2 ?_
  obtain ⟨h3, h⟩ := bck_i h
  refine r_new hκ (t := 24) tyJ28 tyJ28_ok dfJ28 rfl in_J28 q3006 q2581 q171 h3 dJ12_listIterator_5 (fun s2 es2 => ?_)
  replace h := bst_i h s2 es2
  refine r_dup hκ (bd_cat2k _) dJ12_listIterator_8 ?_
  refine r_aload_n hκ 0 rfl rfl dJ12_listIterator_9 ?_
  refine r_iload_n hκ 1 rfl rfl dJ12_listIterator_10 ?_
  obtain ⟨h4, h⟩ := bck_i h
  obtain ⟨s3, v2, h5, h⟩ := bcl_i h
  refine r_callI hκ (n' := 2) (index := 152) (w_J28_init Γ0 l0 h5) (lw_meth q2585) q171 q3007 q2584 rfl (by decide +kernel) (t := 24) h4 rfl rfl (by decide) rfl (Nat.le_of_ble_eq_true rfl) dJ12_listIterator_11 ?_
  exact r_aretH hκ hf h rt_o dJ12_listIterator_14
/-- java/util/AbstractList.listIterator()Ljava/util/ListIterator; -/
def F_J9_listIterator (s0 : bS) (a0 : Int) : Option (bS × Int) :=
  bcl (bte (bg s0 0 a0 0 = 21) (F_J10_listIterator s0 a0 0) (bte (bg s0 0 a0 0 = 22) (F_J12_listIterator s0 a0 0) (none))) fun s1 v1 =>
  some (s1, v1)
set_option maxHeartbeats 4000000 in
set_option maxRecDepth 100000 in
theorem w_J9_listIterator (Γ0 : bG) (l0 : Launch) {s0 st' : bS} {v a0 : Int} (h : F_J9_listIterator s0 a0 = some (st', v)) : bCt Γ0 l0 yJ9_listIterator cJ9_listIterator 1 (some (.object "java/util/ListIterator")) 3 66 [(2, a0)] s0 st' (some (2, v)) := by
  refine b_ent (own := RJ9) (by decide +kernel) rfl (Nat.le_of_ble_eq_true rfl) (L := [(0, (2, a0))]) rfl ?_
  intro κ hκ hi hf
  unfold F_J9_listIterator at h
  refine r_aload_n hκ 0 rfl rfl dJ9_listIterator_0 ?_
  refine r_iconst hκ dJ9_listIterator_1 ?_
  obtain ⟨s1, v1, h1, h⟩ := bcl_i h
  refine r_seq (A := bJ κ s1 5 [(0, (2, a0))] [(2, v1)]) ?_ (fun k0 => ?_)
  case refine_2 =>
    by_cases h2 : bg s0 0 a0 0 = 21
    · have hq0 := (bte_i h1).1 h2
      exact r_callUA hκ (n' := 1) (index := 47) (C := "java/util/ArrayList") (owner := "java/util/AbstractList") (w_J10_listIterator Γ0 l0 hq0) (lw_app (lw_l5 q2945 q2947 q2948 q2949 q134) (lw_meth q2950)) (by decide +kernel) (by decide +kernel) (t := 20) h2 rfl rfl (by decide) rfl (Nat.le_of_ble_eq_true rfl) dJ9_listIterator_2 k0
    replace h1 := (bte_i h1).2 h2
    by_cases h3 : bg s0 0 a0 0 = 22
    · have hq0 := (bte_i h1).1 h3
      exact r_callUA hκ (n' := 1) (index := 47) (C := "java/util/LinkedList") (owner := "java/util/AbstractList") (w_J12_listIterator Γ0 l0 hq0) (lw_app (lw_l5 q2945 q2947 q2995 q2996 q144) (lw_meth q2997)) (by decide +kernel) (by decide +kernel) (t := 21) h3 rfl rfl (by decide) rfl (Nat.le_of_ble_eq_true rfl) dJ9_listIterator_2 k0
    replace h1 := (bte_i h1).2 h3
    cases h1
  exact r_aretH hκ hf h rt_o dJ9_listIterator_5
/-- java/util/AbstractSequentialList.iterator()Ljava/util/Iterator; -/
def F_J11_iterator (s0 : bS) (a0 : Int) : Option (bS × Int) :=
  bck (bg s0 0 a0 0 = 22) <|
  bcl (F_J9_listIterator s0 a0) fun s1 v1 =>
  some (s1, v1)
set_option maxHeartbeats 4000000 in
set_option maxRecDepth 100000 in
theorem w_J11_iterator (Γ0 : bG) (l0 : Launch) {s0 st' : bS} {v a0 : Int} (h : F_J11_iterator s0 a0 = some (st', v)) : bCt Γ0 l0 yJ11_iterator cJ11_iterator 1 (some (.object "java/util/Iterator")) 4 86 [(2, a0)] s0 st' (some (2, v)) := by
  refine b_ent (own := RJ11) (by decide +kernel) rfl (Nat.le_of_ble_eq_true rfl) (L := [(0, (2, a0))]) rfl ?_
  intro κ hκ hi hf
  unfold F_J11_iterator at h
  refine r_aload_n hκ 0 rfl rfl dJ11_iterator_0 ?_
  obtain ⟨h1, h⟩ := bck_i h
  obtain ⟨s1, v1, h2, h⟩ := bcl_i h
  refine r_callU hκ (index := 65) (C := "java/util/LinkedList") (owner := "java/util/AbstractList") (n' := 0) (w_J9_listIterator Γ0 l0 h2) (fun R s args hts hRR => va_cwU 0 hts (lw_app (lw_l5 q2939 q2940 q2942 q2943 q133) (lw_meth q2944)) rfl rfl rfl rfl (by decide +kernel) hRR) (t := 21) h1 rfl rfl (by decide) rfl (Nat.le_of_ble_eq_true rfl) dJ11_iterator_1 ?_
  exact r_aretH hκ hf h rt_o dJ11_iterator_4
