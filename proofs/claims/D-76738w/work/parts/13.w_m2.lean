/-! walks, printed by dec.py: 13.w_m2 -/
/-- EditsMeetModel.isTooLarge(I)Z -/
def F_X12_isTooLarge (s0 : bS) (a0 a1 : Int) : Option (bS × Int) :=
  bck (bg s0 0 a0 0 = 11) <|
  bck (bg s0 0 (bg s0 250 a0 0) 0 = 1010 ∧ (0 : Int) ≤ a1 ∧ a1 < bg s0 4 (bg s0 250 a0 0) 0) <|
  bck (bg s0 0 a0 0 = 11) <|
  bck (bg s0 0 (bg s0 254 a0 0) 0 = 1003 ∧ (0 : Int) ≤ a1 ∧ a1 < bg s0 4 (bg s0 254 a0 0) 0) <|
  bcl (F_X12_count s0 (bg s0 10 (bg s0 250 a0 0) a1) (bg s0 20 (bg s0 254 a0 0) a1) 1048576) fun s1 v1 =>
  bte (i32 400 < i32 v1)
  (some (s1, 1))
  (bck (bg s1 0 a0 0 = 11) <|
  bck (bg s1 0 (bg s1 254 a0 0) 0 = 1003 ∧ (0 : Int) ≤ a1 ∧ a1 < bg s1 4 (bg s1 254 a0 0) 0) <|
  bte (i32 9999 < i32 ((bg s1 20 (bg s1 254 a0 0) a1) - v1))
  (some (s1, 1))
  (bck (bg s1 0 a0 0 = 11) <|
  bck (bg s1 0 (bg s1 254 a0 0) 0 = 1003 ∧ (0 : Int) ≤ a1 ∧ a1 < bg s1 4 (bg s1 254 a0 0) 0) <|
  bck (bg s1 0 a0 0 = 11) <|
  bck (bg s1 0 (bg s1 250 a0 0) 0 = 1010 ∧ (0 : Int) ≤ a1 ∧ a1 < bg s1 4 (bg s1 250 a0 0) 0) <|
  bck (bg s1 0 a0 0 = 11) <|
  bck (bg s1 0 (bg s1 254 a0 0) 0 = 1003 ∧ (0 : Int) ≤ a1 ∧ a1 < bg s1 4 (bg s1 254 a0 0) 0) <|
  bcl (F_X12_count s1 (bg s1 10 (bg s1 250 a0 0) a1) (bg s1 20 (bg s1 254 a0 0) a1) 3145728) fun s2 v2 =>
  bte (i32 ((bg s1 20 (bg s1 254 a0 0) a1) - v2) ≤ i32 9999)
  (some (s2, 0))
  (some (s2, 1))))
set_option maxHeartbeats 4000000 in
set_option maxRecDepth 100000 in
theorem w_X12_isTooLarge (Γ0 : bG) (l0 : Launch) {s0 st' : bS} {v a0 a1 : Int} (h : F_X12_isTooLarge s0 a0 a1 = some (st', v)) : bCt Γ0 l0 yX12_isTooLarge cX12_isTooLarge 3 (some .boolean) 2 44 [(2, a0), (0, a1)] s0 st' (some (0, v)) := by
  refine b_ent (own := RX12) (by decide +kernel) rfl (Nat.le_of_ble_eq_true rfl) (L := [(0, (2, a0)), (1, (0, a1))]) rfl ?_
  intro κ hκ hi hf
  unfold F_X12_isTooLarge at h
  refine r_aload_n hκ 0 rfl rfl dX12_isTooLarge_0 ?_
  obtain ⟨h1, h⟩ := bck_i h
  refine r_get hκ (t := 10) (k := 9) (r := 250) h1 rfl in_X12 (by decide) rfl q3060 (Or.inl rfl) dX12_isTooLarge_1 ?_
  refine r_iload_n hκ 1 rfl rfl dX12_isTooLarge_4 ?_
  obtain ⟨⟨h2, h3⟩, h⟩ := bck_i h
  refine r_aald hκ (t := 10) (by decide) h2 h3 dX12_isTooLarge_5 ?_
  refine r_aload_n hκ 0 rfl rfl dX12_isTooLarge_6 ?_
  obtain ⟨h4, h⟩ := bck_i h
  refine r_get hκ (t := 10) (k := 10) (r := 254) h4 rfl in_X12 (by decide) rfl q3061 (Or.inl rfl) dX12_isTooLarge_7 ?_
  refine r_iload_n hκ 1 rfl rfl dX12_isTooLarge_10 ?_
  obtain ⟨⟨h5, h6⟩, h⟩ := bck_i h
  refine r_iald hκ h5 h6 dX12_isTooLarge_11 ?_
  refine r_ldci hκ (x := 1048576) q3185 (by decide) dX12_isTooLarge_12 ?_
  obtain ⟨s1, v1, h7, h⟩ := bcl_i h
  refine r_callS hκ (n' := 3) (index := 111) (w_X12_count Γ0 l0 h7) (lw_S q3238 q3239 q146 q3240) (by decide +kernel) rfl (by decide) rfl (Nat.le_of_ble_eq_true rfl) dX12_isTooLarge_14 ?_
  refine r_istore_n hκ (L2 := [(2, (0, v1)), (0, (2, a0)), (1, (0, a1))]) (by decide) rfl rfl dX12_isTooLarge_17 ?_
  refine r_iload_n hκ 0 rfl rfl dX12_isTooLarge_18 ?_
  refine r_sipush hκ (by decide) dX12_isTooLarge_19 ?_
  refine r_icmp_gt hκ (tgt := 69) (by decide) dX12_isTooLarge_22 (fun h8 => ?_) (fun h8 => ?_)
  · replace h := (bte_i h).1 h8
    refine r_iconst hκ dX12_isTooLarge_69 ?_
    refine r_goto hκ (tgt := 74) (by decide) dX12_isTooLarge_70 ?_
    exact r_iretH hκ hf h (nar_bool (by decide)) dX12_isTooLarge_74
  · replace h := (bte_i h).2 h8
    refine r_aload_n hκ 1 rfl rfl dX12_isTooLarge_25 ?_
    obtain ⟨h9, h⟩ := bck_i h
    refine r_get hκ (t := 10) (k := 10) (r := 254) h9 rfl in_X12 (by decide) rfl q3061 (Or.inl rfl) dX12_isTooLarge_26 ?_
    refine r_iload_n hκ 2 rfl rfl dX12_isTooLarge_29 ?_
    obtain ⟨⟨h10, h11⟩, h⟩ := bck_i h
    refine r_iald hκ h10 h11 dX12_isTooLarge_30 ?_
    refine r_iload_n hκ 0 rfl rfl dX12_isTooLarge_31 ?_
    refine r_isub hκ dX12_isTooLarge_32 ?_
    refine r_sipush hκ (by decide) dX12_isTooLarge_33 ?_
    refine r_icmp_gt hκ (tgt := 69) (by decide) dX12_isTooLarge_36 (fun h12 => ?_) (fun h12 => ?_)
    · replace h := (bte_i h).1 h12
      refine r_iconst hκ dX12_isTooLarge_69 ?_
      refine r_goto hκ (tgt := 74) (by decide) dX12_isTooLarge_70 ?_
      exact r_iretH hκ hf h (nar_bool (by decide)) dX12_isTooLarge_74
    · replace h := (bte_i h).2 h12
      refine r_aload_n hκ 1 rfl rfl dX12_isTooLarge_39 ?_
      obtain ⟨h13, h⟩ := bck_i h
      refine r_get hκ (t := 10) (k := 10) (r := 254) h13 rfl in_X12 (by decide) rfl q3061 (Or.inl rfl) dX12_isTooLarge_40 ?_
      refine r_iload_n hκ 2 rfl rfl dX12_isTooLarge_43 ?_
      obtain ⟨⟨h14, h15⟩, h⟩ := bck_i h
      refine r_iald hκ h14 h15 dX12_isTooLarge_44 ?_
      refine r_aload_n hκ 1 rfl rfl dX12_isTooLarge_45 ?_
      obtain ⟨h16, h⟩ := bck_i h
      refine r_get hκ (t := 10) (k := 9) (r := 250) h16 rfl in_X12 (by decide) rfl q3060 (Or.inl rfl) dX12_isTooLarge_46 ?_
      refine r_iload_n hκ 2 rfl rfl dX12_isTooLarge_49 ?_
      obtain ⟨⟨h17, h18⟩, h⟩ := bck_i h
      refine r_aald hκ (t := 10) (by decide) h17 h18 dX12_isTooLarge_50 ?_
      refine r_aload_n hκ 1 rfl rfl dX12_isTooLarge_51 ?_
      obtain ⟨h19, h⟩ := bck_i h
      refine r_get hκ (t := 10) (k := 10) (r := 254) h19 rfl in_X12 (by decide) rfl q3061 (Or.inl rfl) dX12_isTooLarge_52 ?_
      refine r_iload_n hκ 2 rfl rfl dX12_isTooLarge_55 ?_
      obtain ⟨⟨h20, h21⟩, h⟩ := bck_i h
      refine r_iald hκ h20 h21 dX12_isTooLarge_56 ?_
      refine r_ldci hκ (x := 3145728) q3197 (by decide) dX12_isTooLarge_57 ?_
      obtain ⟨s2, v2, h22, h⟩ := bcl_i h
      refine r_callS hκ (n' := 3) (index := 111) (w_X12_count Γ0 l0 h22) (lw_S q3238 q3239 q146 q3240) (by decide +kernel) rfl (by decide) rfl (Nat.le_of_ble_eq_true rfl) dX12_isTooLarge_59 ?_
      refine r_isub hκ dX12_isTooLarge_62 ?_
      refine r_sipush hκ (by decide) dX12_isTooLarge_63 ?_
      refine r_icmp_le hκ (tgt := 73) (by decide) dX12_isTooLarge_66 (fun h23 => ?_) (fun h23 => ?_)
      · replace h := (bte_i h).1 h23
        refine r_iconst hκ dX12_isTooLarge_73 ?_
        exact r_iretH hκ hf h (nar_bool (by decide)) dX12_isTooLarge_74
      · replace h := (bte_i h).2 h23
        refine r_iconst hκ dX12_isTooLarge_69 ?_
        refine r_goto hκ (tgt := 74) (by decide) dX12_isTooLarge_70 ?_
        exact r_iretH hκ hf h (nar_bool (by decide)) dX12_isTooLarge_74
/-- EditsMeetModel.made(II)I -/
def F_X12_made (s0 : bS) (a0 a1 a2 : Int) : Option (bS × Int) :=
  bck (bg s0 0 a0 0 = 11) <|
  bcl (F_X12_isTooLarge s0 a0 a2) fun s1 v1 =>
  bte (i32 v1 = 0)
  (bck (bg s1 0 a0 0 = 11) <|
  bcl (F_X12_comes s1 a0 a1 a2) fun s2 v2 =>
  some (s2, v2))
  (bck (bg s1 0 a0 0 = 11) <|
  bcl (F_X12_refused s1 a0 (-6)) fun s3 v3 =>
  some (s3, v3))
set_option maxHeartbeats 4000000 in
set_option maxRecDepth 100000 in
theorem w_X12_made (Γ0 : bG) (l0 : Launch) {s0 st' : bS} {v a0 a1 a2 : Int} (h : F_X12_made s0 a0 a1 a2 = some (st', v)) : bCt Γ0 l0 yX12_made cX12_made 3 (some .int) 4 86 [(2, a0), (0, a1), (0, a2)] s0 st' (some (0, v)) := by
  refine b_ent (own := RX12) (by decide +kernel) rfl (Nat.le_of_ble_eq_true rfl) (L := [(0, (2, a0)), (1, (0, a1)), (2, (0, a2))]) rfl ?_
  intro κ hκ hi hf
  unfold F_X12_made at h
  refine r_aload_n hκ 0 rfl rfl dX12_made_0 ?_
  refine r_iload_n hκ 2 rfl rfl dX12_made_1 ?_
  obtain ⟨h1, h⟩ := bck_i h
  obtain ⟨s1, v1, h2, h⟩ := bcl_i h
  refine r_callV hκ (n' := 1) (index := 266) (w_X12_isTooLarge Γ0 l0 h2) (lw_V q3304 q3306 qs94 q146 q3307) (by decide +kernel) (t := 10) h1 rfl rfl (by decide) rfl (Nat.le_of_ble_eq_true rfl) dX12_made_2 ?_
  refine r_if_eq hκ (tgt := 17) (by decide) dX12_made_5 (fun h3 => ?_) (fun h3 => ?_)
  · replace h := (bte_i h).1 h3
    refine r_aload_n hκ 0 rfl rfl dX12_made_17 ?_
    refine r_iload_n hκ 1 rfl rfl dX12_made_18 ?_
    refine r_iload_n hκ 2 rfl rfl dX12_made_19 ?_
    obtain ⟨h4, h⟩ := bck_i h
    obtain ⟨s2, v2, h5, h⟩ := bcl_i h
    refine r_callV hκ (n' := 2) (index := 218) (w_X12_comes Γ0 l0 h5) (lw_V q3207 q3209 qs79 q146 q3210) (by decide +kernel) (t := 10) h4 rfl rfl (by decide) rfl (Nat.le_of_ble_eq_true rfl) dX12_made_20 ?_
    exact r_iretH hκ hf h (nar_int _) dX12_made_23
  · replace h := (bte_i h).2 h3
    refine r_aload_n hκ 0 rfl rfl dX12_made_8 ?_
    refine r_bipush hκ (by decide) dX12_made_9 ?_
    obtain ⟨h6, h⟩ := bck_i h
    obtain ⟨s3, v3, h7, h⟩ := bcl_i h
    refine r_callV hκ (n' := 1) (index := 183) (w_X12_refused Γ0 l0 h7) (lw_V q3159 q3161 qs73 q146 q3162) (by decide +kernel) (t := 10) h6 rfl rfl (by decide) rfl (Nat.le_of_ble_eq_true rfl) dX12_made_11 ?_
    refine r_goto hκ (tgt := 23) (by decide) dX12_made_14 ?_
    exact r_iretH hκ hf h (nar_int _) dX12_made_23
/-- EditsMeetModel.takesRow(II)V -/
def F_X12_takesRow_r (b : Nat) (x0 x1 x2 x3 : Int) (s0 : bS) : Option (bS × Int) :=
  match b with
  | 0 =>
    bck (bg s0 0 x0 0 = 11) <|
    bck (bg s0 0 (bg s0 218 x0 0) 0 = 1003 ∧ (0 : Int) ≤ x2 ∧ x2 < bg s0 4 (bg s0 218 x0 0) 0) <|
    bte (i32 (bg s0 20 (bg s0 218 x0 0) x2) ≤ i32 x3)
    (some (s0, 0))
    (bck (bg s0 0 x0 0 = 11) <|
    bck (bg s0 0 (bg s0 250 x0 0) 0 = 1010 ∧ (0 : Int) ≤ x1 ∧ x1 < bg s0 4 (bg s0 250 x0 0) 0) <|
    bck (bg s0 0 x0 0 = 11) <|
    bck (bg s0 0 (bg s0 214 x0 0) 0 = 1010 ∧ (0 : Int) ≤ x2 ∧ x2 < bg s0 4 (bg s0 214 x0 0) 0) <|
    bck (bg s0 0 (bg s0 10 (bg s0 214 x0 0) x2) 0 = 1003 ∧ (0 : Int) ≤ x3 ∧ x3 < bg s0 4 (bg s0 10 (bg s0 214 x0 0) x2) 0) <|
    bck (bg s0 0 (bg s0 10 (bg s0 250 x0 0) x1) 0 = 1003 ∧ (0 : Int) ≤ x3 ∧ x3 < bg s0 4 (bg s0 10 (bg s0 250 x0 0) x1) 0) <|
    bst (bw s0 20 (bg s0 10 (bg s0 250 x0 0) x1) x3 (bg s0 20 (bg s0 10 (bg s0 214 x0 0) x2) x3)) fun s2 =>
    F_X12_takesRow_r 0 x0 x1 x2 (x3 + 1) s2)
  | _ => none
partial_fixpoint
def F_X12_takesRow (s0 : bS) (a0 a1 a2 : Int) : Option (bS × Int) :=
  bck (bg s0 0 a0 0 = 11) <|
  bck (bg s0 0 a0 0 = 11) <|
  bck (bg s0 0 (bg s0 218 a0 0) 0 = 1003 ∧ (0 : Int) ≤ a2 ∧ a2 < bg s0 4 (bg s0 218 a0 0) 0) <|
  bck (bg s0 0 (bg s0 254 a0 0) 0 = 1003 ∧ (0 : Int) ≤ a1 ∧ a1 < bg s0 4 (bg s0 254 a0 0) 0) <|
  bst (bw s0 20 (bg s0 254 a0 0) a1 (bg s0 20 (bg s0 218 a0 0) a2)) fun s1 =>
  F_X12_takesRow_r 0 a0 a1 a2 0 s1
set_option maxHeartbeats 4000000 in
set_option maxRecDepth 100000 in
set_option synthInstance.maxHeartbeats 4000000 in
theorem w_X12_takesRow_r {Γ0 : bG} {l0 : Launch} {κ : bK} {st' : bS} {v : Int} (hκ : bOk κ Γ0 l0 cX12_takesRow RX12 4 0 0) (hi : bIn κ yX12_takesRow) (hf : bFin κ none st' none) (b : Nat) (x0 x1 x2 x3 : Int) (s0 : bS) (h : F_X12_takesRow_r b x0 x1 x2 x3 s0 = some (st', v)) : match (generalizing := false) b with | 0 => bJ κ s0 14 [(0, (2, x0)), (1, (0, x1)), (2, (0, x2)), (3, (0, x3))] [] | _ => True := by
  refine F_X12_takesRow_r.partial_correctness x0 x1 x2 (fun b x3 s0 r => r = (st', v) → match (generalizing := false) b with | 0 => bJ κ s0 14 [(0, (2, x0)), (1, (0, x1)), (2, (0, x2)), (3, (0, x3))] [] | _ => True) ?_ b x3 s0 _ h rfl
  intro f' ih b x3 s0 r h hr
  subst hr
  match b, h with
  | 0, h =>
      refine r_iload_n hκ 3 rfl rfl dX12_takesRow_14 ?_
      refine r_aload_n hκ 0 rfl rfl dX12_takesRow_15 ?_
      obtain ⟨h7, h⟩ := bck_i h
      refine r_get hκ (t := 10) (k := 1) (r := 218) h7 rfl in_X12 (by decide) rfl q3052 (Or.inl rfl) dX12_takesRow_16 ?_
      refine r_iload_n hκ 2 rfl rfl dX12_takesRow_19 ?_
      obtain ⟨⟨h8, h9⟩, h⟩ := bck_i h
      refine r_iald hκ h8 h9 dX12_takesRow_20 ?_
      refine r_icmp_ge hκ (tgt := 46) (by decide) dX12_takesRow_21 (fun h10 => ?_) (fun h10 => ?_)
      · replace h := (bte_i h).1 h10
        exact r_vretH hκ hf h dX12_takesRow_46
      · replace h := (bte_i h).2 h10
        refine r_aload_n hκ 0 rfl rfl dX12_takesRow_24 ?_
        obtain ⟨h11, h⟩ := bck_i h
        refine r_get hκ (t := 10) (k := 9) (r := 250) h11 rfl in_X12 (by decide) rfl q3060 (Or.inl rfl) dX12_takesRow_25 ?_
        refine r_iload_n hκ 1 rfl rfl dX12_takesRow_28 ?_
        obtain ⟨⟨h12, h13⟩, h⟩ := bck_i h
        refine r_aald hκ (t := 10) (by decide) h12 h13 dX12_takesRow_29 ?_
        refine r_iload_n hκ 3 rfl rfl dX12_takesRow_30 ?_
        refine r_aload_n hκ 0 rfl rfl dX12_takesRow_31 ?_
        obtain ⟨h14, h⟩ := bck_i h
        refine r_get hκ (t := 10) (k := 0) (r := 214) h14 rfl in_X12 (by decide) rfl q3051 (Or.inl rfl) dX12_takesRow_32 ?_
        refine r_iload_n hκ 2 rfl rfl dX12_takesRow_35 ?_
        obtain ⟨⟨h15, h16⟩, h⟩ := bck_i h
        refine r_aald hκ (t := 10) (by decide) h15 h16 dX12_takesRow_36 ?_
        refine r_iload_n hκ 3 rfl rfl dX12_takesRow_37 ?_
        obtain ⟨⟨h17, h18⟩, h⟩ := bck_i h
        refine r_iald hκ h17 h18 dX12_takesRow_38 ?_
        obtain ⟨⟨h19, h20⟩, h⟩ := bck_i h
        refine r_iast hκ h19 h20 dX12_takesRow_39 (fun s2 es2 => ?_)
        replace h := bst_i h s2 es2
        refine r_iinc hκ (L2 := [(3, (0, (x3 + 1))), (0, (2, x0)), (1, (0, x1)), (2, (0, x2))]) 3 rfl (by decide) rfl dX12_takesRow_40 ?_
        refine r_goto hκ (tgt := 14) (by decide) dX12_takesRow_43 ?_
        exact r_sub [1, 2, 3, 0] rfl (ih 0 _ _ _ h rfl)
  | b + 1, h => trivial
set_option maxHeartbeats 4000000 in
set_option maxRecDepth 100000 in
theorem w_X12_takesRow (Γ0 : bG) (l0 : Launch) {s0 st' : bS} {v a0 a1 a2 : Int} (h : F_X12_takesRow s0 a0 a1 a2 = some (st', v)) : bCt Γ0 l0 yX12_takesRow cX12_takesRow 4 none 0 0 [(2, a0), (0, a1), (0, a2)] s0 st' none := by
  refine b_ent (own := RX12) (by decide +kernel) rfl (Nat.le_of_ble_eq_true rfl) (L := [(0, (2, a0)), (1, (0, a1)), (2, (0, a2))]) rfl ?_
  intro κ hκ hi hf
  unfold F_X12_takesRow at h
  refine r_aload_n hκ 0 rfl rfl dX12_takesRow_0 ?_
  obtain ⟨h1, h⟩ := bck_i h
  refine r_get hκ (t := 10) (k := 10) (r := 254) h1 rfl in_X12 (by decide) rfl q3061 (Or.inl rfl) dX12_takesRow_1 ?_
  refine r_iload_n hκ 1 rfl rfl dX12_takesRow_4 ?_
  refine r_aload_n hκ 0 rfl rfl dX12_takesRow_5 ?_
  obtain ⟨h2, h⟩ := bck_i h
  refine r_get hκ (t := 10) (k := 1) (r := 218) h2 rfl in_X12 (by decide) rfl q3052 (Or.inl rfl) dX12_takesRow_6 ?_
  refine r_iload_n hκ 2 rfl rfl dX12_takesRow_9 ?_
  obtain ⟨⟨h3, h4⟩, h⟩ := bck_i h
  refine r_iald hκ h3 h4 dX12_takesRow_10 ?_
  obtain ⟨⟨h5, h6⟩, h⟩ := bck_i h
  refine r_iast hκ h5 h6 dX12_takesRow_11 (fun s1 es1 => ?_)
  replace h := bst_i h s1 es1
  refine r_iconst hκ dX12_takesRow_12 ?_
  refine r_istore_n hκ (L2 := [(3, (0, 0)), (0, (2, a0)), (1, (0, a1)), (2, (0, a2))]) (by decide) rfl rfl dX12_takesRow_13 ?_
  exact r_sub [1, 2, 3, 0] rfl (w_X12_takesRow_r hκ hi hf 0 _ _ _ _ _ h)
/-- EditsMeetModel.behind(III)I -/
def F_X12_behind_r (b : Nat) (x0 : Int) (s0 : bS) : Option (bS × Int) :=
  match b with
  | 0 =>
    bck (bg s0 0 x0 0 = 11) <|
    bcl (F_X12_refused s0 x0 (-2)) fun s13 v13 =>
    some (s13, v13)
  | 1 =>
    bck (bg s0 0 x0 0 = 11) <|
    bcl (F_X12_refused s0 x0 (-4)) fun s14 v14 =>
    some (s14, v14)
  | _ => none
def F_X12_behind (s0 : bS) (a0 a1 a2 a3 : Int) : Option (bS × Int) :=
  bcl (F_X12_isEdit s0 a1) fun s1 v1 =>
  bte (i32 v1 = 0)
  (F_X12_behind_r 0 a0 s1)
  (bcl (F_X12_isEdit s1 a2) fun s2 v2 =>
  bte (i32 v2 = 0)
  (F_X12_behind_r 0 a0 s2)
  (bcl (F_X12_isEdit s2 a3) fun s3 v3 =>
  bte (i32 v3 = 0)
  (F_X12_behind_r 0 a0 s3)
  (bck (bg s3 0 a0 0 = 11) <|
  bcl (F_X12_isKept s3 a0 a2) fun s4 v4 =>
  bte (i32 v4 = 0)
  (F_X12_behind_r 1 a0 s4)
  (bck (bg s4 0 a0 0 = 11) <|
  bcl (F_X12_isKept s4 a0 a3) fun s5 v5 =>
  bte (i32 v5 = 0)
  (F_X12_behind_r 1 a0 s5)
  (bck (bg s5 0 a0 0 = 11) <|
  bcl (F_X12_to s5 a0 a2) fun s6 v6 =>
  bck (bg s6 0 a0 0 = 11) <|
  bcl (F_X12_from s6 a0 a3) fun s7 v7 =>
  bte (i32 v6 = i32 v7)
  (bck (bg s7 0 a0 0 = 11) <|
  bcl (F_X12_takesRow s7 a0 0 a2) fun s8 v8 =>
  bck (bg s8 0 a0 0 = 11) <|
  bcl (F_X12_takesRow s8 a0 1 a3) fun s9 v9 =>
  bck (bg s9 0 a0 0 = 11) <|
  bcl (F_X12_behindRow s9 a0 0 1 2) fun s10 v10 =>
  bck (bg s10 0 a0 0 = 11) <|
  bcl (F_X12_made s10 a0 a1 2) fun s11 v11 =>
  some (s11, v11))
  (bck (bg s7 0 a0 0 = 11) <|
  bcl (F_X12_refused s7 a0 (-5)) fun s12 v12 =>
  some (s12, v12)))))))
set_option maxHeartbeats 4000000 in
set_option maxRecDepth 100000 in
set_option synthInstance.maxHeartbeats 4000000 in
theorem w_X12_behind_r {Γ0 : bG} {l0 : Launch} {κ : bK} {st' : bS} {v : Int} (hκ : bOk κ Γ0 l0 cX12_behind RX12 4 5 108) (hi : bIn κ yX12_behind) (hf : bFin κ (some .int) st' (some (0, v))) (b : Nat) (x0 : Int) (s0 : bS) (h : F_X12_behind_r b x0 s0 = some (st', v)) : match (generalizing := false) b with | 0 => bJ κ s0 21 [(0, (2, x0))] [] | 1 => bJ κ s0 44 [(0, (2, x0))] [] | _ => True := by
  unfold F_X12_behind_r at h
  match b, h with
  | 0, h =>
      refine r_aload_n hκ 0 rfl rfl dX12_behind_21 ?_
      refine r_bipush hκ (by decide) dX12_behind_22 ?_
      obtain ⟨h28, h⟩ := bck_i h
      obtain ⟨s13, v13, h29, h⟩ := bcl_i h
      refine r_callV hκ (n' := 1) (index := 183) (w_X12_refused Γ0 l0 h29) (lw_V q3159 q3161 qs73 q146 q3162) (by decide +kernel) (t := 10) h28 rfl rfl (by decide) rfl (Nat.le_of_ble_eq_true rfl) dX12_behind_24 ?_
      exact r_iretH hκ hf h (nar_int _) dX12_behind_27
  | 1, h =>
      refine r_aload_n hκ 0 rfl rfl dX12_behind_44 ?_
      refine r_bipush hκ (by decide) dX12_behind_45 ?_
      obtain ⟨h30, h⟩ := bck_i h
      obtain ⟨s14, v14, h31, h⟩ := bcl_i h
      refine r_callV hκ (n' := 1) (index := 183) (w_X12_refused Γ0 l0 h31) (lw_V q3159 q3161 qs73 q146 q3162) (by decide +kernel) (t := 10) h30 rfl rfl (by decide) rfl (Nat.le_of_ble_eq_true rfl) dX12_behind_47 ?_
      exact r_iretH hκ hf h (nar_int _) dX12_behind_50
  | b + 2, h => trivial
set_option maxHeartbeats 4000000 in
set_option maxRecDepth 100000 in
theorem w_X12_behind (Γ0 : bG) (l0 : Launch) {s0 st' : bS} {v a0 a1 a2 a3 : Int} (h : F_X12_behind s0 a0 a1 a2 a3 = some (st', v)) : bCt Γ0 l0 yX12_behind cX12_behind 4 (some .int) 5 108 [(2, a0), (0, a1), (0, a2), (0, a3)] s0 st' (some (0, v)) := by
  refine b_ent (own := RX12) (by decide +kernel) rfl (Nat.le_of_ble_eq_true rfl) (L := [(0, (2, a0)), (1, (0, a1)), (2, (0, a2)), (3, (0, a3))]) rfl ?_
  intro κ hκ hi hf
  unfold F_X12_behind at h
  refine r_iload_n hκ 1 rfl rfl dX12_behind_0 ?_
  obtain ⟨s1, v1, h1, h⟩ := bcl_i h
  refine r_callS hκ (n' := 1) (index := 211) (w_X12_isEdit Γ0 l0 h1) (lw_S q3171 q3172 q146 q3173) (by decide +kernel) rfl (by decide) rfl (Nat.le_of_ble_eq_true rfl) dX12_behind_1 ?_
  refine r_if_eq hκ (tgt := 21) (by decide) dX12_behind_4 (fun h2 => ?_) (fun h2 => ?_)
  · replace h := (bte_i h).1 h2
    exact r_sub [0] rfl (w_X12_behind_r hκ hi hf 0 _ _ h)
  · replace h := (bte_i h).2 h2
    refine r_iload_n hκ 2 rfl rfl dX12_behind_7 ?_
    obtain ⟨s2, v2, h3, h⟩ := bcl_i h
    refine r_callS hκ (n' := 1) (index := 211) (w_X12_isEdit Γ0 l0 h3) (lw_S q3171 q3172 q146 q3173) (by decide +kernel) rfl (by decide) rfl (Nat.le_of_ble_eq_true rfl) dX12_behind_8 ?_
    refine r_if_eq hκ (tgt := 21) (by decide) dX12_behind_11 (fun h4 => ?_) (fun h4 => ?_)
    · replace h := (bte_i h).1 h4
      exact r_sub [0] rfl (w_X12_behind_r hκ hi hf 0 _ _ h)
    · replace h := (bte_i h).2 h4
      refine r_iload_n hκ 3 rfl rfl dX12_behind_14 ?_
      obtain ⟨s3, v3, h5, h⟩ := bcl_i h
      refine r_callS hκ (n' := 1) (index := 211) (w_X12_isEdit Γ0 l0 h5) (lw_S q3171 q3172 q146 q3173) (by decide +kernel) rfl (by decide) rfl (Nat.le_of_ble_eq_true rfl) dX12_behind_15 ?_
      refine r_if_ne hκ (tgt := 28) (by decide) dX12_behind_18 (fun h6 => ?_) (fun h6 => ?_)
      · replace h := (bte_i h).2 h6
        refine r_aload_n hκ 0 rfl rfl dX12_behind_28 ?_
        refine r_iload_n hκ 2 rfl rfl dX12_behind_29 ?_
        obtain ⟨h7, h⟩ := bck_i h
        obtain ⟨s4, v4, h8, h⟩ := bcl_i h
        refine r_callV hκ (n' := 1) (index := 230) (w_X12_isKept Γ0 l0 h8) (lw_V q3230 q3232 qs82 q146 q3233) (by decide +kernel) (t := 10) h7 rfl rfl (by decide) rfl (Nat.le_of_ble_eq_true rfl) dX12_behind_30 ?_
        refine r_if_eq hκ (tgt := 44) (by decide) dX12_behind_33 (fun h9 => ?_) (fun h9 => ?_)
        · replace h := (bte_i h).1 h9
          exact r_sub [0] rfl (w_X12_behind_r hκ hi hf 1 _ _ h)
        · replace h := (bte_i h).2 h9
          refine r_aload_n hκ 0 rfl rfl dX12_behind_36 ?_
          refine r_iload_n hκ 3 rfl rfl dX12_behind_37 ?_
          obtain ⟨h10, h⟩ := bck_i h
          obtain ⟨s5, v5, h11, h⟩ := bcl_i h
          refine r_callV hκ (n' := 1) (index := 230) (w_X12_isKept Γ0 l0 h11) (lw_V q3230 q3232 qs82 q146 q3233) (by decide +kernel) (t := 10) h10 rfl rfl (by decide) rfl (Nat.le_of_ble_eq_true rfl) dX12_behind_38 ?_
          refine r_if_ne hκ (tgt := 51) (by decide) dX12_behind_41 (fun h12 => ?_) (fun h12 => ?_)
          · replace h := (bte_i h).2 h12
            refine r_aload_n hκ 0 rfl rfl dX12_behind_51 ?_
            refine r_iload_n hκ 2 rfl rfl dX12_behind_52 ?_
            obtain ⟨h13, h⟩ := bck_i h
            obtain ⟨s6, v6, h14, h⟩ := bcl_i h
            refine r_callV hκ (n' := 1) (index := 236) (w_X12_to Γ0 l0 h14) (lw_V q3241 q3243 qs84 q146 q3244) (by decide +kernel) (t := 10) h13 rfl rfl (by decide) rfl (Nat.le_of_ble_eq_true rfl) dX12_behind_53 ?_
            refine r_aload_n hκ 0 rfl rfl dX12_behind_56 ?_
            refine r_iload_n hκ 3 rfl rfl dX12_behind_57 ?_
            obtain ⟨h15, h⟩ := bck_i h
            obtain ⟨s7, v7, h16, h⟩ := bcl_i h
            refine r_callV hκ (n' := 1) (index := 233) (w_X12_from Γ0 l0 h16) (lw_V q3234 q3236 qs83 q146 q3237) (by decide +kernel) (t := 10) h15 rfl rfl (by decide) rfl (Nat.le_of_ble_eq_true rfl) dX12_behind_58 ?_
            refine r_icmp_eq hκ (tgt := 71) (by decide) dX12_behind_61 (fun h17 => ?_) (fun h17 => ?_)
            · replace h := (bte_i h).1 h17
              refine r_aload_n hκ 0 rfl rfl dX12_behind_71 ?_
              refine r_iconst hκ dX12_behind_72 ?_
              refine r_iload_n hκ 2 rfl rfl dX12_behind_73 ?_
              obtain ⟨h18, h⟩ := bck_i h
              obtain ⟨s8, v8, h19, h⟩ := bcl_i h
              refine r_callV hκ (n' := 2) (index := 97) (w_X12_takesRow Γ0 l0 h19) (lw_V q3285 q3287 qs90 q146 q3288) (by decide +kernel) (t := 10) h18 rfl rfl (by decide) rfl (Nat.le_of_ble_eq_true rfl) dX12_behind_74 ?_
              refine r_aload_n hκ 0 rfl rfl dX12_behind_77 ?_
              refine r_iconst hκ dX12_behind_78 ?_
              refine r_iload_n hκ 3 rfl rfl dX12_behind_79 ?_
              obtain ⟨h20, h⟩ := bck_i h
              obtain ⟨s9, v9, h21, h⟩ := bcl_i h
              refine r_callV hκ (n' := 2) (index := 97) (w_X12_takesRow Γ0 l0 h21) (lw_V q3285 q3287 qs90 q146 q3288) (by decide +kernel) (t := 10) h20 rfl rfl (by decide) rfl (Nat.le_of_ble_eq_true rfl) dX12_behind_80 ?_
              refine r_aload_n hκ 0 rfl rfl dX12_behind_83 ?_
              refine r_iconst hκ dX12_behind_84 ?_
              refine r_iconst hκ dX12_behind_85 ?_
              refine r_iconst hκ dX12_behind_86 ?_
              obtain ⟨h22, h⟩ := bck_i h
              obtain ⟨s10, v10, h23, h⟩ := bcl_i h
              refine r_callV hκ (n' := 3) (index := 158) (w_X12_behindRow Γ0 l0 h23) (lw_V q3289 q3291 qs91 q146 q3292) (by decide +kernel) (t := 10) h22 rfl rfl (by decide) rfl (Nat.le_of_ble_eq_true rfl) dX12_behind_87 ?_
              refine r_aload_n hκ 0 rfl rfl dX12_behind_90 ?_
              refine r_iload_n hκ 1 rfl rfl dX12_behind_91 ?_
              refine r_iconst hκ dX12_behind_92 ?_
              obtain ⟨h24, h⟩ := bck_i h
              obtain ⟨s11, v11, h25, h⟩ := bcl_i h
              refine r_callV hκ (n' := 2) (index := 269) (w_X12_made Γ0 l0 h25) (lw_V q3300 q3302 qs93 q146 q3303) (by decide +kernel) (t := 10) h24 rfl rfl (by decide) rfl (Nat.le_of_ble_eq_true rfl) dX12_behind_93 ?_
              exact r_iretH hκ hf h (nar_int _) dX12_behind_96
            · replace h := (bte_i h).2 h17
              refine r_aload_n hκ 0 rfl rfl dX12_behind_64 ?_
              refine r_bipush hκ (by decide) dX12_behind_65 ?_
              obtain ⟨h26, h⟩ := bck_i h
              obtain ⟨s12, v12, h27, h⟩ := bcl_i h
              refine r_callV hκ (n' := 1) (index := 183) (w_X12_refused Γ0 l0 h27) (lw_V q3159 q3161 qs73 q146 q3162) (by decide +kernel) (t := 10) h26 rfl rfl (by decide) rfl (Nat.le_of_ble_eq_true rfl) dX12_behind_67 ?_
              exact r_iretH hκ hf h (nar_int _) dX12_behind_70
          · replace h := (bte_i h).1 h12
            exact r_sub [0] rfl (w_X12_behind_r hκ hi hf 1 _ _ h)
      · replace h := (bte_i h).1 h6
        exact r_sub [0] rfl (w_X12_behind_r hκ hi hf 0 _ _ h)
/-- EditsMeetModel.overOne(IIII)V -/
def F_X12_overOne_r (b : Nat) (x0 x1 x2 : Int) (s0 : bS) : Option (bS × Int) :=
  match b with
  | 0 =>
    bck (bg s0 0 x0 0 = 11) <|
    bcl (F_X12_adds s0 x0 x2 x1) fun s6 v6 =>
    some (s6, 0)
  | _ => none
def F_X12_overOne (s0 : bS) (a0 a1 a2 a3 a4 : Int) : Option (bS × Int) :=
  bcl (F_X12_kind s0 a2) fun s1 v1 =>
  bte (i32 v1 = i32 3145728)
  (some (s1, 0))
  (bcl (F_X12_kind s1 a1) fun s2 v2 =>
  bte (i32 v2 = i32 4194304)
  (bcl (F_X12_kind s2 a2) fun s3 v3 =>
  bte (i32 v3 = i32 4194304)
  (bte (i32 a3 = i32 1)
  (bvl ((b_ior (b_iand (b_ishr a2 4) 15) (b_iand a2 15))) fun t1 =>
  bvl ((b_iand (b_iand (b_iand a1 (b_ixor t1 (-1))) (b_ixor (b_ishl t1 4) (-1))) 255)) fun t2 =>
  bte (i32 t2 = 0)
  (bck (bg s3 0 a0 0 = 11) <|
  bcl (F_X12_adds s3 a0 a4 2097152) fun s5 v5 =>
  some (s5, 0))
  (bck (bg s3 0 a0 0 = 11) <|
  bcl (F_X12_adds s3 a0 a4 (b_ior 4194304 t2)) fun s4 v4 =>
  some (s4, 0)))
  (F_X12_overOne_r 0 a0 a1 a4 s3))
  (F_X12_overOne_r 0 a0 a1 a4 s3))
  (F_X12_overOne_r 0 a0 a1 a4 s2))
set_option maxHeartbeats 4000000 in
set_option maxRecDepth 100000 in
set_option synthInstance.maxHeartbeats 4000000 in
theorem w_X12_overOne_r {Γ0 : bG} {l0 : Launch} {κ : bK} {st' : bS} {v : Int} (hκ : bOk κ Γ0 l0 cX12_overOne RX12 7 1 22) (hi : bIn κ yX12_overOne) (hf : bFin κ none st' none) (b : Nat) (x0 x1 x2 : Int) (s0 : bS) (h : F_X12_overOne_r b x0 x1 x2 s0 = some (st', v)) : match (generalizing := false) b with | 0 => bJ κ s0 89 [(0, (2, x0)), (1, (0, x1)), (4, (0, x2))] [] | _ => True := by
  unfold F_X12_overOne_r at h
  match b, h with
  | 0, h =>
      refine r_aload_n hκ 0 rfl rfl dX12_overOne_89 ?_
      refine r_iload hκ 2 rfl dX12_overOne_90 ?_
      refine r_iload_n hκ 1 rfl rfl dX12_overOne_92 ?_
      obtain ⟨h13, h⟩ := bck_i h
      obtain ⟨s6, v6, h14, h⟩ := bcl_i h
      refine r_callV hκ (n' := 2) (index := 115) (w_X12_adds Γ0 l0 h14) (lw_V q3186 q3188 qs76 q146 q3189) (by decide +kernel) (t := 10) h13 rfl rfl (by decide) rfl (Nat.le_of_ble_eq_true rfl) dX12_overOne_93 ?_
      exact r_vretH hκ hf h dX12_overOne_96
  | b + 1, h => trivial
set_option maxHeartbeats 4000000 in
set_option maxRecDepth 100000 in
theorem w_X12_overOne (Γ0 : bG) (l0 : Launch) {s0 st' : bS} {v a0 a1 a2 a3 a4 : Int} (h : F_X12_overOne s0 a0 a1 a2 a3 a4 = some (st', v)) : bCt Γ0 l0 yX12_overOne cX12_overOne 7 none 1 22 [(2, a0), (0, a1), (0, a2), (0, a3), (0, a4)] s0 st' none := by
  refine b_ent (own := RX12) (by decide +kernel) rfl (Nat.le_of_ble_eq_true rfl) (L := [(0, (2, a0)), (1, (0, a1)), (2, (0, a2)), (3, (0, a3)), (4, (0, a4))]) rfl ?_
  intro κ hκ hi hf
  unfold F_X12_overOne at h
  refine r_iload_n hκ 2 rfl rfl dX12_overOne_0 ?_
  obtain ⟨s1, v1, h1, h⟩ := bcl_i h
  refine r_callS hκ (n' := 1) (index := 104) (w_X12_kind Γ0 l0 h1) (lw_S q3203 q3204 q146 q3205) (by decide +kernel) rfl (by decide) rfl (Nat.le_of_ble_eq_true rfl) dX12_overOne_1 ?_
  refine r_ldci hκ (x := 3145728) q3197 (by decide) dX12_overOne_4 ?_
  refine r_icmp_ne hκ (tgt := 10) (by decide) dX12_overOne_6 (fun h2 => ?_) (fun h2 => ?_)
  · replace h := (bte_i h).2 h2
    refine r_iload_n hκ 1 rfl rfl dX12_overOne_10 ?_
    obtain ⟨s2, v2, h3, h⟩ := bcl_i h
    refine r_callS hκ (n' := 1) (index := 104) (w_X12_kind Γ0 l0 h3) (lw_S q3203 q3204 q146 q3205) (by decide +kernel) rfl (by decide) rfl (Nat.le_of_ble_eq_true rfl) dX12_overOne_11 ?_
    refine r_ldci hκ (x := 4194304) q3198 (by decide) dX12_overOne_14 ?_
    refine r_icmp_ne hκ (tgt := 89) (by decide) dX12_overOne_16 (fun h4 => ?_) (fun h4 => ?_)
    · replace h := (bte_i h).2 h4
      exact r_sub [0, 1, 4] rfl (w_X12_overOne_r hκ hi hf 0 _ _ _ _ h)
    · replace h := (bte_i h).1 h4
      refine r_iload_n hκ 2 rfl rfl dX12_overOne_19 ?_
      obtain ⟨s3, v3, h5, h⟩ := bcl_i h
      refine r_callS hκ (n' := 1) (index := 104) (w_X12_kind Γ0 l0 h5) (lw_S q3203 q3204 q146 q3205) (by decide +kernel) rfl (by decide) rfl (Nat.le_of_ble_eq_true rfl) dX12_overOne_20 ?_
      refine r_ldci hκ (x := 4194304) q3198 (by decide) dX12_overOne_23 ?_
      refine r_icmp_ne hκ (tgt := 89) (by decide) dX12_overOne_25 (fun h6 => ?_) (fun h6 => ?_)
      · replace h := (bte_i h).2 h6
        exact r_sub [0, 1, 4] rfl (w_X12_overOne_r hκ hi hf 0 _ _ _ _ h)
      · replace h := (bte_i h).1 h6
        refine r_iload_n hκ 3 rfl rfl dX12_overOne_28 ?_
        refine r_iconst hκ dX12_overOne_29 ?_
        refine r_icmp_ne hκ (tgt := 89) (by decide) dX12_overOne_30 (fun h7 => ?_) (fun h7 => ?_)
        · replace h := (bte_i h).2 h7
          exact r_sub [0, 1, 4] rfl (w_X12_overOne_r hκ hi hf 0 _ _ _ _ h)
        · replace h := (bte_i h).1 h7
          refine r_iload_n hκ 2 rfl rfl dX12_overOne_33 ?_
          refine r_iconst hκ dX12_overOne_34 ?_
          refine r_ishr hκ dX12_overOne_35 ?_
          refine r_bipush hκ (by decide) dX12_overOne_36 ?_
          refine r_iand hκ dX12_overOne_38 ?_
          refine r_iload_n hκ 2 rfl rfl dX12_overOne_39 ?_
          refine r_bipush hκ (by decide) dX12_overOne_40 ?_
          refine r_iand hκ dX12_overOne_42 ?_
          refine r_ior hκ dX12_overOne_43 ?_
          refine r_nm (fun t1 et1 => ?_)
          replace h := bvl_i h t1 et1
          refine r_istore hκ (L2 := [(5, (0, t1)), (0, (2, a0)), (1, (0, a1)), (2, (0, a2)), (3, (0, a3)), (4, (0, a4))]) (by decide) rfl dX12_overOne_44 ?_
          refine r_iload_n hκ 2 rfl rfl dX12_overOne_46 ?_
          refine r_iload hκ 0 rfl dX12_overOne_47 ?_
          refine r_iconst hκ dX12_overOne_49 ?_
          refine r_ixor hκ dX12_overOne_50 ?_
          refine r_iand hκ dX12_overOne_51 ?_
          refine r_iload hκ 0 rfl dX12_overOne_52 ?_
          refine r_iconst hκ dX12_overOne_54 ?_
          refine r_ishl hκ dX12_overOne_55 ?_
          refine r_iconst hκ dX12_overOne_56 ?_
          refine r_ixor hκ dX12_overOne_57 ?_
          refine r_iand hκ dX12_overOne_58 ?_
          refine r_sipush hκ (by decide) dX12_overOne_59 ?_
          refine r_iand hκ dX12_overOne_62 ?_
          refine r_nm (fun t2 et2 => ?_)
          replace h := bvl_i h t2 et2
          refine r_istore hκ (L2 := [(6, (0, t2)), (5, (0, t1)), (0, (2, a0)), (1, (0, a1)), (2, (0, a2)), (3, (0, a3)), (4, (0, a4))]) (by decide) rfl dX12_overOne_63 ?_
          refine r_aload_n hκ 2 rfl rfl dX12_overOne_65 ?_
          refine r_iload hκ 6 rfl dX12_overOne_66 ?_
          refine r_iload hκ 0 rfl dX12_overOne_68 ?_
          refine r_if_ne hκ (tgt := 78) (by decide) dX12_overOne_70 (fun h8 => ?_) (fun h8 => ?_)
          · replace h := (bte_i h).2 h8
            refine r_ldci hκ (x := 4194304) q3198 (by decide) dX12_overOne_78 ?_
            refine r_iload hκ 0 rfl dX12_overOne_80 ?_
            refine r_ior hκ dX12_overOne_82 ?_
            obtain ⟨h9, h⟩ := bck_i h
            obtain ⟨s4, v4, h10, h⟩ := bcl_i h
            refine r_callV hκ (n' := 2) (index := 115) (w_X12_adds Γ0 l0 h10) (lw_V q3186 q3188 qs76 q146 q3189) (by decide +kernel) (t := 10) h9 rfl rfl (by decide) rfl (Nat.le_of_ble_eq_true rfl) dX12_overOne_83 ?_
            refine r_goto hκ (tgt := 96) (by decide) dX12_overOne_86 ?_
            exact r_vretH hκ hf h dX12_overOne_96
          · replace h := (bte_i h).1 h8
            refine r_ldci hκ (x := 2097152) q3196 (by decide) dX12_overOne_73 ?_
            refine r_goto hκ (tgt := 83) (by decide) dX12_overOne_75 ?_
            obtain ⟨h11, h⟩ := bck_i h
            obtain ⟨s5, v5, h12, h⟩ := bcl_i h
            refine r_callV hκ (n' := 2) (index := 115) (w_X12_adds Γ0 l0 h12) (lw_V q3186 q3188 qs76 q146 q3189) (by decide +kernel) (t := 10) h11 rfl rfl (by decide) rfl (Nat.le_of_ble_eq_true rfl) dX12_overOne_83 ?_
            refine r_goto hκ (tgt := 96) (by decide) dX12_overOne_86 ?_
            exact r_vretH hκ hf h dX12_overOne_96
  · replace h := (bte_i h).1 h2
    exact r_vretH hκ hf h dX12_overOne_9
/-- EditsMeetModel.overRow(IIII)V -/
def F_X12_overRow_r (b : Nat) (x0 x1 x2 x3 x4 x5 x6 x7 x8 : Int) (s0 : bS) : Option (bS × Int) :=
  match b with
  | 0 =>
    bck (bg s0 0 x0 0 = 11) <|
    bck (bg s0 0 (bg s0 254 x0 0) 0 = 1003 ∧ (0 : Int) ≤ x1 ∧ x1 < bg s0 4 (bg s0 254 x0 0) 0) <|
    bte (i32 x5 < i32 (bg s0 20 (bg s0 254 x0 0) x1))
    (F_X12_overRow_r 1 x0 x1 x2 x3 x4 x5 x6 0 0 s0)
    (bck (bg s0 0 x0 0 = 11) <|
    bck (bg s0 0 (bg s0 254 x0 0) 0 = 1003 ∧ (0 : Int) ≤ x2 ∧ x2 < bg s0 4 (bg s0 254 x0 0) 0) <|
    bte (i32 (bg s0 20 (bg s0 254 x0 0) x2) ≤ i32 x6)
    (bck (bg s0 0 x0 0 = 11) <|
    bcl (F_X12_plain s0 x0 x4) fun s2 v1 =>
    some (s2, 0))
    (F_X12_overRow_r 1 x0 x1 x2 x3 x4 x5 x6 0 0 s0))
  | 1 =>
    bck (bg s0 0 x0 0 = 11) <|
    bck (bg s0 0 (bg s0 254 x0 0) 0 = 1003 ∧ (0 : Int) ≤ x1 ∧ x1 < bg s0 4 (bg s0 254 x0 0) 0) <|
    bte (i32 (bg s0 20 (bg s0 254 x0 0) x1) ≤ i32 x5)
    (F_X12_overRow_r 2 x0 x1 x2 x3 x4 x5 x6 0 0 s0)
    (bck (bg s0 0 x0 0 = 11) <|
    bck (bg s0 0 (bg s0 250 x0 0) 0 = 1010 ∧ (0 : Int) ≤ x1 ∧ x1 < bg s0 4 (bg s0 250 x0 0) 0) <|
    bck (bg s0 0 (bg s0 10 (bg s0 250 x0 0) x1) 0 = 1003 ∧ (0 : Int) ≤ x5 ∧ x5 < bg s0 4 (bg s0 10 (bg s0 250 x0 0) x1) 0) <|
    bcl (F_X12_kind s0 (bg s0 20 (bg s0 10 (bg s0 250 x0 0) x1) x5)) fun s3 v2 =>
    bte (i32 v2 = i32 1048576)
    (F_X12_overRow_r 3 x0 x1 x2 x3 x4 x5 x6 1 0 s3)
    (F_X12_overRow_r 2 x0 x1 x2 x3 x4 x5 x6 0 0 s3))
  | 2 =>
    F_X12_overRow_r 3 x0 x1 x2 x3 x4 x5 x6 0 0 s0
  | 3 =>
    bck (bg s0 0 x0 0 = 11) <|
    bck (bg s0 0 (bg s0 254 x0 0) 0 = 1003 ∧ (0 : Int) ≤ x2 ∧ x2 < bg s0 4 (bg s0 254 x0 0) 0) <|
    bte (i32 (bg s0 20 (bg s0 254 x0 0) x2) ≤ i32 x6)
    (F_X12_overRow_r 4 x0 x1 x2 x3 x4 x5 x6 x7 0 s0)
    (bck (bg s0 0 x0 0 = 11) <|
    bck (bg s0 0 (bg s0 250 x0 0) 0 = 1010 ∧ (0 : Int) ≤ x2 ∧ x2 < bg s0 4 (bg s0 250 x0 0) 0) <|
    bck (bg s0 0 (bg s0 10 (bg s0 250 x0 0) x2) 0 = 1003 ∧ (0 : Int) ≤ x6 ∧ x6 < bg s0 4 (bg s0 10 (bg s0 250 x0 0) x2) 0) <|
    bcl (F_X12_kind s0 (bg s0 20 (bg s0 10 (bg s0 250 x0 0) x2) x6)) fun s4 v3 =>
    bte (i32 v3 = i32 1048576)
    (F_X12_overRow_r 5 x0 x1 x2 x3 x4 x5 x6 x7 1 s4)
    (F_X12_overRow_r 4 x0 x1 x2 x3 x4 x5 x6 x7 0 s4))
  | 4 =>
    F_X12_overRow_r 5 x0 x1 x2 x3 x4 x5 x6 x7 0 s0
  | 5 =>
    bte (i32 x7 = 0)
    (F_X12_overRow_r 7 x0 x1 x2 x3 x4 x5 x6 x8 0 s0)
    (bte (i32 x3 = i32 1)
    (F_X12_overRow_r 6 x0 x1 x2 x3 x4 x5 x6 0 0 s0)
    (bte (i32 x8 = 0)
    (F_X12_overRow_r 6 x0 x1 x2 x3 x4 x5 x6 0 0 s0)
    (F_X12_overRow_r 7 x0 x1 x2 x3 x4 x5 x6 x8 0 s0)))
  | 6 =>
    bck (bg s0 0 x0 0 = 11) <|
    bck (bg s0 0 (bg s0 250 x0 0) 0 = 1010 ∧ (0 : Int) ≤ x1 ∧ x1 < bg s0 4 (bg s0 250 x0 0) 0) <|
    bck (bg s0 0 (bg s0 10 (bg s0 250 x0 0) x1) 0 = 1003 ∧ (0 : Int) ≤ x5 ∧ x5 < bg s0 4 (bg s0 10 (bg s0 250 x0 0) x1) 0) <|
    bck (bg s0 0 x0 0 = 11) <|
    bcl (F_X12_adds s0 x0 x4 (bg s0 20 (bg s0 10 (bg s0 250 x0 0) x1) x5)) fun s7 v6 =>
    F_X12_overRow_r 8 x0 x1 x2 x3 x4 (x5 + 1) x6 0 0 s7
  | 7 =>
    bte (i32 x7 = 0)
    (bck (bg s0 0 x0 0 = 11) <|
    bck (bg s0 0 (bg s0 250 x0 0) 0 = 1010 ∧ (0 : Int) ≤ x1 ∧ x1 < bg s0 4 (bg s0 250 x0 0) 0) <|
    bck (bg s0 0 (bg s0 10 (bg s0 250 x0 0) x1) 0 = 1003 ∧ (0 : Int) ≤ x5 ∧ x5 < bg s0 4 (bg s0 10 (bg s0 250 x0 0) x1) 0) <|
    bck (bg s0 0 x0 0 = 11) <|
    bck (bg s0 0 (bg s0 250 x0 0) 0 = 1010 ∧ (0 : Int) ≤ x2 ∧ x2 < bg s0 4 (bg s0 250 x0 0) 0) <|
    bck (bg s0 0 (bg s0 10 (bg s0 250 x0 0) x2) 0 = 1003 ∧ (0 : Int) ≤ x6 ∧ x6 < bg s0 4 (bg s0 10 (bg s0 250 x0 0) x2) 0) <|
    bck (bg s0 0 x0 0 = 11) <|
    bcl (F_X12_overOne s0 x0 (bg s0 20 (bg s0 10 (bg s0 250 x0 0) x1) x5) (bg s0 20 (bg s0 10 (bg s0 250 x0 0) x2) x6) x3 x4) fun s5 v4 =>
    F_X12_overRow_r 8 x0 x1 x2 x3 x4 (x5 + 1) (x6 + 1) 0 0 s5)
    (bck (bg s0 0 x0 0 = 11) <|
    bcl (F_X12_adds s0 x0 x4 2097152) fun s6 v5 =>
    F_X12_overRow_r 8 x0 x1 x2 x3 x4 x5 (x6 + 1) 0 0 s6)
  | 8 =>
    F_X12_overRow_r 0 x0 x1 x2 x3 x4 x5 x6 0 0 s0
  | _ => none
partial_fixpoint
def F_X12_overRow (s0 : bS) (a0 a1 a2 a3 a4 : Int) : Option (bS × Int) :=
  bck (bg s0 0 a0 0 = 11) <|
  bck (bg s0 0 (bg s0 254 a0 0) 0 = 1003 ∧ (0 : Int) ≤ a4 ∧ a4 < bg s0 4 (bg s0 254 a0 0) 0) <|
  bst (bw s0 20 (bg s0 254 a0 0) a4 0) fun s1 =>
  F_X12_overRow_r 0 a0 a1 a2 a3 a4 0 0 0 0 s1
set_option maxHeartbeats 4000000 in
set_option maxRecDepth 100000 in
set_option synthInstance.maxHeartbeats 4000000 in
theorem w_X12_overRow_r {Γ0 : bG} {l0 : Launch} {κ : bK} {st' : bS} {v : Int} (hκ : bOk κ Γ0 l0 cX12_overRow RX12 9 2 48) (hi : bIn κ yX12_overRow) (hf : bFin κ none st' none) (b : Nat) (x0 x1 x2 x3 x4 x5 x6 x7 x8 : Int) (s0 : bS) (h : F_X12_overRow_r b x0 x1 x2 x3 x4 x5 x6 x7 x8 s0 = some (st', v)) : match (generalizing := false) b with | 0 => bJ κ s0 14 [(0, (2, x0)), (1, (0, x1)), (2, (0, x2)), (3, (0, x3)), (4, (0, x4)), (5, (0, x5)), (6, (0, x6))] [] | 1 => bJ κ s0 36 [(0, (2, x0)), (1, (0, x1)), (2, (0, x2)), (3, (0, x3)), (4, (0, x4)), (5, (0, x5)), (6, (0, x6))] [] | 2 => bJ κ s0 68 [(0, (2, x0)), (1, (0, x1)), (2, (0, x2)), (3, (0, x3)), (4, (0, x4)), (5, (0, x5)), (6, (0, x6))] [] | 3 => bJ κ s0 69 [(0, (2, x0)), (1, (0, x1)), (2, (0, x2)), (3, (0, x3)), (4, (0, x4)), (5, (0, x5)), (6, (0, x6))] [(0, x7)] | 4 => bJ κ s0 103 [(0, (2, x0)), (1, (0, x1)), (2, (0, x2)), (3, (0, x3)), (4, (0, x4)), (5, (0, x5)), (6, (0, x6)), (7, (0, x7))] [] | 5 => bJ κ s0 104 [(0, (2, x0)), (1, (0, x1)), (2, (0, x2)), (3, (0, x3)), (4, (0, x4)), (5, (0, x5)), (6, (0, x6)), (7, (0, x7))] [(0, x8)] | 6 => bJ κ s0 121 [(0, (2, x0)), (1, (0, x1)), (2, (0, x2)), (3, (0, x3)), (4, (0, x4)), (5, (0, x5)), (6, (0, x6))] [] | 7 => bJ κ s0 142 [(0, (2, x0)), (1, (0, x1)), (2, (0, x2)), (3, (0, x3)), (4, (0, x4)), (5, (0, x5)), (6, (0, x6)), (8, (0, x7))] [] | 8 => bJ κ s0 192 [(0, (2, x0)), (1, (0, x1)), (2, (0, x2)), (3, (0, x3)), (4, (0, x4)), (5, (0, x5)), (6, (0, x6))] [] | _ => True := by
  refine F_X12_overRow_r.partial_correctness x0 x1 x2 x3 x4 (fun b x5 x6 x7 x8 s0 r => r = (st', v) → match (generalizing := false) b with | 0 => bJ κ s0 14 [(0, (2, x0)), (1, (0, x1)), (2, (0, x2)), (3, (0, x3)), (4, (0, x4)), (5, (0, x5)), (6, (0, x6))] [] | 1 => bJ κ s0 36 [(0, (2, x0)), (1, (0, x1)), (2, (0, x2)), (3, (0, x3)), (4, (0, x4)), (5, (0, x5)), (6, (0, x6))] [] | 2 => bJ κ s0 68 [(0, (2, x0)), (1, (0, x1)), (2, (0, x2)), (3, (0, x3)), (4, (0, x4)), (5, (0, x5)), (6, (0, x6))] [] | 3 => bJ κ s0 69 [(0, (2, x0)), (1, (0, x1)), (2, (0, x2)), (3, (0, x3)), (4, (0, x4)), (5, (0, x5)), (6, (0, x6))] [(0, x7)] | 4 => bJ κ s0 103 [(0, (2, x0)), (1, (0, x1)), (2, (0, x2)), (3, (0, x3)), (4, (0, x4)), (5, (0, x5)), (6, (0, x6)), (7, (0, x7))] [] | 5 => bJ κ s0 104 [(0, (2, x0)), (1, (0, x1)), (2, (0, x2)), (3, (0, x3)), (4, (0, x4)), (5, (0, x5)), (6, (0, x6)), (7, (0, x7))] [(0, x8)] | 6 => bJ κ s0 121 [(0, (2, x0)), (1, (0, x1)), (2, (0, x2)), (3, (0, x3)), (4, (0, x4)), (5, (0, x5)), (6, (0, x6))] [] | 7 => bJ κ s0 142 [(0, (2, x0)), (1, (0, x1)), (2, (0, x2)), (3, (0, x3)), (4, (0, x4)), (5, (0, x5)), (6, (0, x6)), (8, (0, x7))] [] | 8 => bJ κ s0 192 [(0, (2, x0)), (1, (0, x1)), (2, (0, x2)), (3, (0, x3)), (4, (0, x4)), (5, (0, x5)), (6, (0, x6))] [] | _ => True) ?_ b x5 x6 x7 x8 s0 _ h rfl
  intro f' ih b x5 x6 x7 x8 s0 r h hr
  subst hr
  match b, h with
  | 0, h =>
      refine r_iload hκ 5 rfl dX12_overRow_14 ?_
      refine r_aload_n hκ 0 rfl rfl dX12_overRow_16 ?_
      obtain ⟨h4, h⟩ := bck_i h
      refine r_get hκ (t := 10) (k := 10) (r := 254) h4 rfl in_X12 (by decide) rfl q3061 (Or.inl rfl) dX12_overRow_17 ?_
      refine r_iload_n hκ 1 rfl rfl dX12_overRow_20 ?_
      obtain ⟨⟨h5, h6⟩, h⟩ := bck_i h
      refine r_iald hκ h5 h6 dX12_overRow_21 ?_
      refine r_icmp_lt hκ (tgt := 36) (by decide) dX12_overRow_22 (fun h7 => ?_) (fun h7 => ?_)
      · replace h := (bte_i h).1 h7
        exact r_sub [0, 1, 2, 3, 4, 5, 6] rfl (ih 1 _ _ _ _ _ _ h rfl)
      · replace h := (bte_i h).2 h7
        refine r_iload hκ 6 rfl dX12_overRow_25 ?_
        refine r_aload_n hκ 0 rfl rfl dX12_overRow_27 ?_
        obtain ⟨h8, h⟩ := bck_i h
        refine r_get hκ (t := 10) (k := 10) (r := 254) h8 rfl in_X12 (by decide) rfl q3061 (Or.inl rfl) dX12_overRow_28 ?_
        refine r_iload_n hκ 2 rfl rfl dX12_overRow_31 ?_
        obtain ⟨⟨h9, h10⟩, h⟩ := bck_i h
        refine r_iald hκ h9 h10 dX12_overRow_32 ?_
        refine r_icmp_ge hκ (tgt := 195) (by decide) dX12_overRow_33 (fun h11 => ?_) (fun h11 => ?_)
        · replace h := (bte_i h).1 h11
          refine r_aload_n hκ 0 rfl rfl dX12_overRow_195 ?_
          refine r_iload hκ 4 rfl dX12_overRow_196 ?_
          obtain ⟨h12, h⟩ := bck_i h
          obtain ⟨s2, v1, h13, h⟩ := bcl_i h
          refine r_callV hκ (n' := 1) (index := 122) (w_X12_plain Γ0 l0 h13) (lw_V q3199 q3201 qs78 q146 q3202) (by decide +kernel) (t := 10) h12 rfl rfl (by decide) rfl (Nat.le_of_ble_eq_true rfl) dX12_overRow_198 ?_
          exact r_vretH hκ hf h dX12_overRow_201
        · replace h := (bte_i h).2 h11
          exact r_sub [0, 1, 2, 3, 4, 5, 6] rfl (ih 1 _ _ _ _ _ _ h rfl)
  | 1, h =>
      refine r_iload hκ 5 rfl dX12_overRow_36 ?_
      refine r_aload_n hκ 0 rfl rfl dX12_overRow_38 ?_
      obtain ⟨h14, h⟩ := bck_i h
      refine r_get hκ (t := 10) (k := 10) (r := 254) h14 rfl in_X12 (by decide) rfl q3061 (Or.inl rfl) dX12_overRow_39 ?_
      refine r_iload_n hκ 1 rfl rfl dX12_overRow_42 ?_
      obtain ⟨⟨h15, h16⟩, h⟩ := bck_i h
      refine r_iald hκ h15 h16 dX12_overRow_43 ?_
      refine r_icmp_ge hκ (tgt := 68) (by decide) dX12_overRow_44 (fun h17 => ?_) (fun h17 => ?_)
      · replace h := (bte_i h).1 h17
        exact r_sub [0, 1, 2, 3, 4, 5, 6] rfl (ih 2 _ _ _ _ _ _ h rfl)
      · replace h := (bte_i h).2 h17
        refine r_aload_n hκ 0 rfl rfl dX12_overRow_47 ?_
        obtain ⟨h18, h⟩ := bck_i h
        refine r_get hκ (t := 10) (k := 9) (r := 250) h18 rfl in_X12 (by decide) rfl q3060 (Or.inl rfl) dX12_overRow_48 ?_
        refine r_iload_n hκ 1 rfl rfl dX12_overRow_51 ?_
        obtain ⟨⟨h19, h20⟩, h⟩ := bck_i h
        refine r_aald hκ (t := 10) (by decide) h19 h20 dX12_overRow_52 ?_
        refine r_iload hκ 5 rfl dX12_overRow_53 ?_
        obtain ⟨⟨h21, h22⟩, h⟩ := bck_i h
        refine r_iald hκ h21 h22 dX12_overRow_55 ?_
        obtain ⟨s3, v2, h23, h⟩ := bcl_i h
        refine r_callS hκ (n' := 1) (index := 104) (w_X12_kind Γ0 l0 h23) (lw_S q3203 q3204 q146 q3205) (by decide +kernel) rfl (by decide) rfl (Nat.le_of_ble_eq_true rfl) dX12_overRow_56 ?_
        refine r_ldci hκ (x := 1048576) q3185 (by decide) dX12_overRow_59 ?_
        refine r_icmp_ne hκ (tgt := 68) (by decide) dX12_overRow_61 (fun h24 => ?_) (fun h24 => ?_)
        · replace h := (bte_i h).2 h24
          exact r_sub [0, 1, 2, 3, 4, 5, 6] rfl (ih 2 _ _ _ _ _ _ h rfl)
        · replace h := (bte_i h).1 h24
          refine r_iconst hκ dX12_overRow_64 ?_
          refine r_goto hκ (tgt := 69) (by decide) dX12_overRow_65 ?_
          exact r_sub [0, 1, 2, 3, 4, 5, 6] rfl (ih 3 _ _ _ _ _ _ h rfl)
  | 2, h =>
      refine r_iconst hκ dX12_overRow_68 ?_
      exact r_sub [0, 1, 2, 3, 4, 5, 6] rfl (ih 3 _ _ _ _ _ _ h rfl)
  | 3, h =>
      refine r_istore hκ (L2 := [(7, (0, x7)), (0, (2, x0)), (1, (0, x1)), (2, (0, x2)), (3, (0, x3)), (4, (0, x4)), (5, (0, x5)), (6, (0, x6))]) (by decide) rfl dX12_overRow_69 ?_
      refine r_iload hκ 7 rfl dX12_overRow_71 ?_
      refine r_aload_n hκ 1 rfl rfl dX12_overRow_73 ?_
      obtain ⟨h25, h⟩ := bck_i h
      refine r_get hκ (t := 10) (k := 10) (r := 254) h25 rfl in_X12 (by decide) rfl q3061 (Or.inl rfl) dX12_overRow_74 ?_
      refine r_iload_n hκ 3 rfl rfl dX12_overRow_77 ?_
      obtain ⟨⟨h26, h27⟩, h⟩ := bck_i h
      refine r_iald hκ h26 h27 dX12_overRow_78 ?_
      refine r_icmp_ge hκ (tgt := 103) (by decide) dX12_overRow_79 (fun h28 => ?_) (fun h28 => ?_)
      · replace h := (bte_i h).1 h28
        exact r_sub [1, 2, 3, 4, 5, 6, 7, 0] rfl (ih 4 _ _ _ _ _ _ h rfl)
      · replace h := (bte_i h).2 h28
        refine r_aload_n hκ 1 rfl rfl dX12_overRow_82 ?_
        obtain ⟨h29, h⟩ := bck_i h
        refine r_get hκ (t := 10) (k := 9) (r := 250) h29 rfl in_X12 (by decide) rfl q3060 (Or.inl rfl) dX12_overRow_83 ?_
        refine r_iload_n hκ 3 rfl rfl dX12_overRow_86 ?_
        obtain ⟨⟨h30, h31⟩, h⟩ := bck_i h
        refine r_aald hκ (t := 10) (by decide) h30 h31 dX12_overRow_87 ?_
        refine r_iload hκ 7 rfl dX12_overRow_88 ?_
        obtain ⟨⟨h32, h33⟩, h⟩ := bck_i h
        refine r_iald hκ h32 h33 dX12_overRow_90 ?_
        obtain ⟨s4, v3, h34, h⟩ := bcl_i h
        refine r_callS hκ (n' := 1) (index := 104) (w_X12_kind Γ0 l0 h34) (lw_S q3203 q3204 q146 q3205) (by decide +kernel) rfl (by decide) rfl (Nat.le_of_ble_eq_true rfl) dX12_overRow_91 ?_
        refine r_ldci hκ (x := 1048576) q3185 (by decide) dX12_overRow_94 ?_
        refine r_icmp_ne hκ (tgt := 103) (by decide) dX12_overRow_96 (fun h35 => ?_) (fun h35 => ?_)
        · replace h := (bte_i h).2 h35
          exact r_sub [1, 2, 3, 4, 5, 6, 7, 0] rfl (ih 4 _ _ _ _ _ _ h rfl)
        · replace h := (bte_i h).1 h35
          refine r_iconst hκ dX12_overRow_99 ?_
          refine r_goto hκ (tgt := 104) (by decide) dX12_overRow_100 ?_
          exact r_sub [1, 2, 3, 4, 5, 6, 7, 0] rfl (ih 5 _ _ _ _ _ _ h rfl)
  | 4, h =>
      refine r_iconst hκ dX12_overRow_103 ?_
      exact r_sub [0, 1, 2, 3, 4, 5, 6, 7] rfl (ih 5 _ _ _ _ _ _ h rfl)
  | 5, h =>
      refine r_istore hκ (L2 := [(8, (0, x8)), (0, (2, x0)), (1, (0, x1)), (2, (0, x2)), (3, (0, x3)), (4, (0, x4)), (5, (0, x5)), (6, (0, x6)), (7, (0, x7))]) (by decide) rfl dX12_overRow_104 ?_
      refine r_iload hκ 8 rfl dX12_overRow_106 ?_
      refine r_if_eq hκ (tgt := 142) (by decide) dX12_overRow_108 (fun h36 => ?_) (fun h36 => ?_)
      · replace h := (bte_i h).1 h36
        exact r_sub [1, 2, 3, 4, 5, 6, 7, 0] rfl (ih 7 _ _ _ _ _ _ h rfl)
      · replace h := (bte_i h).2 h36
        refine r_iload_n hκ 4 rfl rfl dX12_overRow_111 ?_
        refine r_iconst hκ dX12_overRow_112 ?_
        refine r_icmp_eq hκ (tgt := 121) (by decide) dX12_overRow_113 (fun h37 => ?_) (fun h37 => ?_)
        · replace h := (bte_i h).1 h37
          exact r_sub [1, 2, 3, 4, 5, 6, 7] rfl (ih 6 _ _ _ _ _ _ h rfl)
        · replace h := (bte_i h).2 h37
          refine r_iload hκ 0 rfl dX12_overRow_116 ?_
          refine r_if_ne hκ (tgt := 142) (by decide) dX12_overRow_118 (fun h38 => ?_) (fun h38 => ?_)
          · replace h := (bte_i h).2 h38
            exact r_sub [1, 2, 3, 4, 5, 6, 7, 0] rfl (ih 7 _ _ _ _ _ _ h rfl)
          · replace h := (bte_i h).1 h38
            exact r_sub [1, 2, 3, 4, 5, 6, 7] rfl (ih 6 _ _ _ _ _ _ h rfl)
  | 6, h =>
      refine r_aload_n hκ 0 rfl rfl dX12_overRow_121 ?_
      refine r_iload hκ 4 rfl dX12_overRow_122 ?_
      refine r_aload_n hκ 0 rfl rfl dX12_overRow_124 ?_
      obtain ⟨h54, h⟩ := bck_i h
      refine r_get hκ (t := 10) (k := 9) (r := 250) h54 rfl in_X12 (by decide) rfl q3060 (Or.inl rfl) dX12_overRow_125 ?_
      refine r_iload_n hκ 1 rfl rfl dX12_overRow_128 ?_
      obtain ⟨⟨h55, h56⟩, h⟩ := bck_i h
      refine r_aald hκ (t := 10) (by decide) h55 h56 dX12_overRow_129 ?_
      refine r_iload hκ 5 rfl dX12_overRow_130 ?_
      obtain ⟨⟨h57, h58⟩, h⟩ := bck_i h
      refine r_iald hκ h57 h58 dX12_overRow_132 ?_
      obtain ⟨h59, h⟩ := bck_i h
      obtain ⟨s7, v6, h60, h⟩ := bcl_i h
      refine r_callV hκ (n' := 2) (index := 115) (w_X12_adds Γ0 l0 h60) (lw_V q3186 q3188 qs76 q146 q3189) (by decide +kernel) (t := 10) h59 rfl rfl (by decide) rfl (Nat.le_of_ble_eq_true rfl) dX12_overRow_133 ?_
      refine r_iinc hκ (L2 := [(5, (0, (x5 + 1))), (0, (2, x0)), (1, (0, x1)), (2, (0, x2)), (3, (0, x3)), (4, (0, x4)), (6, (0, x6))]) 5 rfl (by decide) rfl dX12_overRow_136 ?_
      refine r_goto hκ (tgt := 192) (by decide) dX12_overRow_139 ?_
      exact r_sub [1, 2, 3, 4, 5, 0, 6] rfl (ih 8 _ _ _ _ _ _ h rfl)
  | 7, h =>
      refine r_iload hκ 7 rfl dX12_overRow_142 ?_
      refine r_if_eq hκ (tgt := 161) (by decide) dX12_overRow_144 (fun h39 => ?_) (fun h39 => ?_)
      · replace h := (bte_i h).1 h39
        refine r_aload_n hκ 0 rfl rfl dX12_overRow_161 ?_
        refine r_aload_n hκ 0 rfl rfl dX12_overRow_162 ?_
        obtain ⟨h40, h⟩ := bck_i h
        refine r_get hκ (t := 10) (k := 9) (r := 250) h40 rfl in_X12 (by decide) rfl q3060 (Or.inl rfl) dX12_overRow_163 ?_
        refine r_iload_n hκ 1 rfl rfl dX12_overRow_166 ?_
        obtain ⟨⟨h41, h42⟩, h⟩ := bck_i h
        refine r_aald hκ (t := 10) (by decide) h41 h42 dX12_overRow_167 ?_
        refine r_iload hκ 5 rfl dX12_overRow_168 ?_
        obtain ⟨⟨h43, h44⟩, h⟩ := bck_i h
        refine r_iald hκ h43 h44 dX12_overRow_170 ?_
        refine r_aload_n hκ 0 rfl rfl dX12_overRow_171 ?_
        obtain ⟨h45, h⟩ := bck_i h
        refine r_get hκ (t := 10) (k := 9) (r := 250) h45 rfl in_X12 (by decide) rfl q3060 (Or.inl rfl) dX12_overRow_172 ?_
        refine r_iload_n hκ 2 rfl rfl dX12_overRow_175 ?_
        obtain ⟨⟨h46, h47⟩, h⟩ := bck_i h
        refine r_aald hκ (t := 10) (by decide) h46 h47 dX12_overRow_176 ?_
        refine r_iload hκ 6 rfl dX12_overRow_177 ?_
        obtain ⟨⟨h48, h49⟩, h⟩ := bck_i h
        refine r_iald hκ h48 h49 dX12_overRow_179 ?_
        refine r_iload_n hκ 3 rfl rfl dX12_overRow_180 ?_
        refine r_iload hκ 4 rfl dX12_overRow_181 ?_
        obtain ⟨h50, h⟩ := bck_i h
        obtain ⟨s5, v4, h51, h⟩ := bcl_i h
        refine r_callV hκ (n' := 4) (index := 131) (w_X12_overOne Γ0 l0 h51) (lw_V q3316 q3318 qs96 q146 q3319) (by decide +kernel) (t := 10) h50 rfl rfl (by decide) rfl (Nat.le_of_ble_eq_true rfl) dX12_overRow_183 ?_
        refine r_iinc hκ (L2 := [(5, (0, (x5 + 1))), (0, (2, x0)), (1, (0, x1)), (2, (0, x2)), (3, (0, x3)), (4, (0, x4)), (6, (0, x6)), (8, (0, x7))]) 5 rfl (by decide) rfl dX12_overRow_186 ?_
        refine r_iinc hκ (L2 := [(6, (0, (x6 + 1))), (5, (0, (x5 + 1))), (0, (2, x0)), (1, (0, x1)), (2, (0, x2)), (3, (0, x3)), (4, (0, x4)), (8, (0, x7))]) 6 rfl (by decide) rfl dX12_overRow_189 ?_
        exact r_sub [2, 3, 4, 5, 6, 1, 0] rfl (ih 8 _ _ _ _ _ _ h rfl)
      · replace h := (bte_i h).2 h39
        refine r_aload_n hκ 0 rfl rfl dX12_overRow_147 ?_
        refine r_iload hκ 4 rfl dX12_overRow_148 ?_
        refine r_ldci hκ (x := 2097152) q3196 (by decide) dX12_overRow_150 ?_
        obtain ⟨h52, h⟩ := bck_i h
        obtain ⟨s6, v5, h53, h⟩ := bcl_i h
        refine r_callV hκ (n' := 2) (index := 115) (w_X12_adds Γ0 l0 h53) (lw_V q3186 q3188 qs76 q146 q3189) (by decide +kernel) (t := 10) h52 rfl rfl (by decide) rfl (Nat.le_of_ble_eq_true rfl) dX12_overRow_152 ?_
        refine r_iinc hκ (L2 := [(6, (0, (x6 + 1))), (0, (2, x0)), (1, (0, x1)), (2, (0, x2)), (3, (0, x3)), (4, (0, x4)), (5, (0, x5)), (8, (0, x7))]) 6 rfl (by decide) rfl dX12_overRow_155 ?_
        refine r_goto hκ (tgt := 192) (by decide) dX12_overRow_158 ?_
        exact r_sub [1, 2, 3, 4, 5, 6, 0] rfl (ih 8 _ _ _ _ _ _ h rfl)
  | 8, h =>
      refine r_goto hκ (tgt := 14) (by decide) dX12_overRow_192 ?_
      exact r_sub [0, 1, 2, 3, 4, 5, 6] rfl (ih 0 _ _ _ _ _ _ h rfl)
  | b + 9, h => trivial
set_option maxHeartbeats 4000000 in
set_option maxRecDepth 100000 in
theorem w_X12_overRow (Γ0 : bG) (l0 : Launch) {s0 st' : bS} {v a0 a1 a2 a3 a4 : Int} (h : F_X12_overRow s0 a0 a1 a2 a3 a4 = some (st', v)) : bCt Γ0 l0 yX12_overRow cX12_overRow 9 none 2 48 [(2, a0), (0, a1), (0, a2), (0, a3), (0, a4)] s0 st' none := by
  refine b_ent (own := RX12) (by decide +kernel) rfl (Nat.le_of_ble_eq_true rfl) (L := [(0, (2, a0)), (1, (0, a1)), (2, (0, a2)), (3, (0, a3)), (4, (0, a4))]) rfl ?_
  intro κ hκ hi hf
  unfold F_X12_overRow at h
  refine r_iconst hκ dX12_overRow_0 ?_
  refine r_istore hκ (L2 := [(5, (0, 0)), (0, (2, a0)), (1, (0, a1)), (2, (0, a2)), (3, (0, a3)), (4, (0, a4))]) (by decide) rfl dX12_overRow_1 ?_
  refine r_iconst hκ dX12_overRow_3 ?_
  refine r_istore hκ (L2 := [(6, (0, 0)), (5, (0, 0)), (0, (2, a0)), (1, (0, a1)), (2, (0, a2)), (3, (0, a3)), (4, (0, a4))]) (by decide) rfl dX12_overRow_4 ?_
  refine r_aload_n hκ 2 rfl rfl dX12_overRow_6 ?_
  obtain ⟨h1, h⟩ := bck_i h
  refine r_get hκ (t := 10) (k := 10) (r := 254) h1 rfl in_X12 (by decide) rfl q3061 (Or.inl rfl) dX12_overRow_7 ?_
  refine r_iload hκ 6 rfl dX12_overRow_10 ?_
  refine r_iconst hκ dX12_overRow_12 ?_
  obtain ⟨⟨h2, h3⟩, h⟩ := bck_i h
  refine r_iast hκ h2 h3 dX12_overRow_13 (fun s1 es1 => ?_)
  replace h := bst_i h s1 es1
  exact r_sub [2, 3, 4, 5, 6, 1, 0] rfl (w_X12_overRow_r hκ hi hf 0 _ _ _ _ _ _ _ _ _ _ h)
/-- EditsMeetModel.over(IIII)I -/
def F_X12_over_r (b : Nat) (x0 : Int) (s0 : bS) : Option (bS × Int) :=
  match b with
  | 0 =>
    bck (bg s0 0 x0 0 = 11) <|
    bcl (F_X12_refused s0 x0 (-2)) fun s14 v14 =>
    some (s14, v14)
  | 1 =>
    bck (bg s0 0 x0 0 = 11) <|
    bcl (F_X12_refused s0 x0 (-4)) fun s15 v15 =>
    some (s15, v15)
  | _ => none
def F_X12_over (s0 : bS) (a0 a1 a2 a3 a4 : Int) : Option (bS × Int) :=
  bcl (F_X12_isEdit s0 a1) fun s1 v1 =>
  bte (i32 v1 = 0)
  (F_X12_over_r 0 a0 s1)
  (bcl (F_X12_isEdit s1 a2) fun s2 v2 =>
  bte (i32 v2 = 0)
  (F_X12_over_r 0 a0 s2)
  (bcl (F_X12_isEdit s2 a3) fun s3 v3 =>
  bte (i32 v3 = 0)
  (F_X12_over_r 0 a0 s3)
  (bcl (F_X12_in s3 (b_i2l a4) 0 1) fun s4 v4 =>
  bte (i32 v4 = 0)
  (F_X12_over_r 0 a0 s4)
  (bck (bg s4 0 a0 0 = 11) <|
  bcl (F_X12_isKept s4 a0 a2) fun s5 v5 =>
  bte (i32 v5 = 0)
  (F_X12_over_r 1 a0 s5)
  (bck (bg s5 0 a0 0 = 11) <|
  bcl (F_X12_isKept s5 a0 a3) fun s6 v6 =>
  bte (i32 v6 = 0)
  (F_X12_over_r 1 a0 s6)
  (bck (bg s6 0 a0 0 = 11) <|
  bcl (F_X12_from s6 a0 a2) fun s7 v7 =>
  bck (bg s7 0 a0 0 = 11) <|
  bcl (F_X12_from s7 a0 a3) fun s8 v8 =>
  bte (i32 v7 = i32 v8)
  (bck (bg s8 0 a0 0 = 11) <|
  bcl (F_X12_takesRow s8 a0 0 a2) fun s9 v9 =>
  bck (bg s9 0 a0 0 = 11) <|
  bcl (F_X12_takesRow s9 a0 1 a3) fun s10 v10 =>
  bck (bg s10 0 a0 0 = 11) <|
  bcl (F_X12_overRow s10 a0 0 1 a4 2) fun s11 v11 =>
  bck (bg s11 0 a0 0 = 11) <|
  bcl (F_X12_made s11 a0 a1 2) fun s12 v12 =>
  some (s12, v12))
  (bck (bg s8 0 a0 0 = 11) <|
  bcl (F_X12_refused s8 a0 (-5)) fun s13 v13 =>
  some (s13, v13))))))))
set_option maxHeartbeats 4000000 in
set_option maxRecDepth 100000 in
set_option synthInstance.maxHeartbeats 4000000 in
theorem w_X12_over_r {Γ0 : bG} {l0 : Launch} {κ : bK} {st' : bS} {v : Int} (hκ : bOk κ Γ0 l0 cX12_over RX12 5 5 108) (hi : bIn κ yX12_over) (hf : bFin κ (some .int) st' (some (0, v))) (b : Nat) (x0 : Int) (s0 : bS) (h : F_X12_over_r b x0 s0 = some (st', v)) : match (generalizing := false) b with | 0 => bJ κ s0 32 [(0, (2, x0))] [] | 1 => bJ κ s0 55 [(0, (2, x0))] [] | _ => True := by
  unfold F_X12_over_r at h
  match b, h with
  | 0, h =>
      refine r_aload_n hκ 0 rfl rfl dX12_over_32 ?_
      refine r_bipush hκ (by decide) dX12_over_33 ?_
      obtain ⟨h30, h⟩ := bck_i h
      obtain ⟨s14, v14, h31, h⟩ := bcl_i h
      refine r_callV hκ (n' := 1) (index := 183) (w_X12_refused Γ0 l0 h31) (lw_V q3159 q3161 qs73 q146 q3162) (by decide +kernel) (t := 10) h30 rfl rfl (by decide) rfl (Nat.le_of_ble_eq_true rfl) dX12_over_35 ?_
      exact r_iretH hκ hf h (nar_int _) dX12_over_38
  | 1, h =>
      refine r_aload_n hκ 0 rfl rfl dX12_over_55 ?_
      refine r_bipush hκ (by decide) dX12_over_56 ?_
      obtain ⟨h32, h⟩ := bck_i h
      obtain ⟨s15, v15, h33, h⟩ := bcl_i h
      refine r_callV hκ (n' := 1) (index := 183) (w_X12_refused Γ0 l0 h33) (lw_V q3159 q3161 qs73 q146 q3162) (by decide +kernel) (t := 10) h32 rfl rfl (by decide) rfl (Nat.le_of_ble_eq_true rfl) dX12_over_58 ?_
      exact r_iretH hκ hf h (nar_int _) dX12_over_61
  | b + 2, h => trivial
set_option maxHeartbeats 4000000 in
set_option maxRecDepth 100000 in
theorem w_X12_over (Γ0 : bG) (l0 : Launch) {s0 st' : bS} {v a0 a1 a2 a3 a4 : Int} (h : F_X12_over s0 a0 a1 a2 a3 a4 = some (st', v)) : bCt Γ0 l0 yX12_over cX12_over 5 (some .int) 5 108 [(2, a0), (0, a1), (0, a2), (0, a3), (0, a4)] s0 st' (some (0, v)) := by
  refine b_ent (own := RX12) (by decide +kernel) rfl (Nat.le_of_ble_eq_true rfl) (L := [(0, (2, a0)), (1, (0, a1)), (2, (0, a2)), (3, (0, a3)), (4, (0, a4))]) rfl ?_
  intro κ hκ hi hf
  unfold F_X12_over at h
  refine r_iload_n hκ 1 rfl rfl dX12_over_0 ?_
  obtain ⟨s1, v1, h1, h⟩ := bcl_i h
  refine r_callS hκ (n' := 1) (index := 211) (w_X12_isEdit Γ0 l0 h1) (lw_S q3171 q3172 q146 q3173) (by decide +kernel) rfl (by decide) rfl (Nat.le_of_ble_eq_true rfl) dX12_over_1 ?_
  refine r_if_eq hκ (tgt := 32) (by decide) dX12_over_4 (fun h2 => ?_) (fun h2 => ?_)
  · replace h := (bte_i h).1 h2
    exact r_sub [0] rfl (w_X12_over_r hκ hi hf 0 _ _ h)
  · replace h := (bte_i h).2 h2
    refine r_iload_n hκ 2 rfl rfl dX12_over_7 ?_
    obtain ⟨s2, v2, h3, h⟩ := bcl_i h
    refine r_callS hκ (n' := 1) (index := 211) (w_X12_isEdit Γ0 l0 h3) (lw_S q3171 q3172 q146 q3173) (by decide +kernel) rfl (by decide) rfl (Nat.le_of_ble_eq_true rfl) dX12_over_8 ?_
    refine r_if_eq hκ (tgt := 32) (by decide) dX12_over_11 (fun h4 => ?_) (fun h4 => ?_)
    · replace h := (bte_i h).1 h4
      exact r_sub [0] rfl (w_X12_over_r hκ hi hf 0 _ _ h)
    · replace h := (bte_i h).2 h4
      refine r_iload_n hκ 3 rfl rfl dX12_over_14 ?_
      obtain ⟨s3, v3, h5, h⟩ := bcl_i h
      refine r_callS hκ (n' := 1) (index := 211) (w_X12_isEdit Γ0 l0 h5) (lw_S q3171 q3172 q146 q3173) (by decide +kernel) rfl (by decide) rfl (Nat.le_of_ble_eq_true rfl) dX12_over_15 ?_
      refine r_if_eq hκ (tgt := 32) (by decide) dX12_over_18 (fun h6 => ?_) (fun h6 => ?_)
      · replace h := (bte_i h).1 h6
        exact r_sub [0] rfl (w_X12_over_r hκ hi hf 0 _ _ h)
      · replace h := (bte_i h).2 h6
        refine r_iload hκ 4 rfl dX12_over_21 ?_
        refine r_i2l hκ dX12_over_23 ?_
        refine r_lconst hκ (x := 0) (by decide) dX12_over_24 ?_
        refine r_lconst hκ (x := 1) (by decide) dX12_over_25 ?_
        obtain ⟨s4, v4, h7, h⟩ := bcl_i h
        refine r_callS hκ (n' := 3) (index := 175) (w_X12_in Γ0 l0 h7) (lw_S q3156 q3157 q146 q3158) (by decide +kernel) rfl (by decide) rfl (Nat.le_of_ble_eq_true rfl) dX12_over_26 ?_
        refine r_if_ne hκ (tgt := 39) (by decide) dX12_over_29 (fun h8 => ?_) (fun h8 => ?_)
        · replace h := (bte_i h).2 h8
          refine r_aload_n hκ 0 rfl rfl dX12_over_39 ?_
          refine r_iload_n hκ 2 rfl rfl dX12_over_40 ?_
          obtain ⟨h9, h⟩ := bck_i h
          obtain ⟨s5, v5, h10, h⟩ := bcl_i h
          refine r_callV hκ (n' := 1) (index := 230) (w_X12_isKept Γ0 l0 h10) (lw_V q3230 q3232 qs82 q146 q3233) (by decide +kernel) (t := 10) h9 rfl rfl (by decide) rfl (Nat.le_of_ble_eq_true rfl) dX12_over_41 ?_
          refine r_if_eq hκ (tgt := 55) (by decide) dX12_over_44 (fun h11 => ?_) (fun h11 => ?_)
          · replace h := (bte_i h).1 h11
            exact r_sub [0] rfl (w_X12_over_r hκ hi hf 1 _ _ h)
          · replace h := (bte_i h).2 h11
            refine r_aload_n hκ 0 rfl rfl dX12_over_47 ?_
            refine r_iload_n hκ 3 rfl rfl dX12_over_48 ?_
            obtain ⟨h12, h⟩ := bck_i h
            obtain ⟨s6, v6, h13, h⟩ := bcl_i h
            refine r_callV hκ (n' := 1) (index := 230) (w_X12_isKept Γ0 l0 h13) (lw_V q3230 q3232 qs82 q146 q3233) (by decide +kernel) (t := 10) h12 rfl rfl (by decide) rfl (Nat.le_of_ble_eq_true rfl) dX12_over_49 ?_
            refine r_if_ne hκ (tgt := 62) (by decide) dX12_over_52 (fun h14 => ?_) (fun h14 => ?_)
            · replace h := (bte_i h).2 h14
              refine r_aload_n hκ 0 rfl rfl dX12_over_62 ?_
              refine r_iload_n hκ 2 rfl rfl dX12_over_63 ?_
              obtain ⟨h15, h⟩ := bck_i h
              obtain ⟨s7, v7, h16, h⟩ := bcl_i h
              refine r_callV hκ (n' := 1) (index := 233) (w_X12_from Γ0 l0 h16) (lw_V q3234 q3236 qs83 q146 q3237) (by decide +kernel) (t := 10) h15 rfl rfl (by decide) rfl (Nat.le_of_ble_eq_true rfl) dX12_over_64 ?_
              refine r_aload_n hκ 0 rfl rfl dX12_over_67 ?_
              refine r_iload_n hκ 3 rfl rfl dX12_over_68 ?_
              obtain ⟨h17, h⟩ := bck_i h
              obtain ⟨s8, v8, h18, h⟩ := bcl_i h
              refine r_callV hκ (n' := 1) (index := 233) (w_X12_from Γ0 l0 h18) (lw_V q3234 q3236 qs83 q146 q3237) (by decide +kernel) (t := 10) h17 rfl rfl (by decide) rfl (Nat.le_of_ble_eq_true rfl) dX12_over_69 ?_
              refine r_icmp_eq hκ (tgt := 82) (by decide) dX12_over_72 (fun h19 => ?_) (fun h19 => ?_)
              · replace h := (bte_i h).1 h19
                refine r_aload_n hκ 0 rfl rfl dX12_over_82 ?_
                refine r_iconst hκ dX12_over_83 ?_
                refine r_iload_n hκ 2 rfl rfl dX12_over_84 ?_
                obtain ⟨h20, h⟩ := bck_i h
                obtain ⟨s9, v9, h21, h⟩ := bcl_i h
                refine r_callV hκ (n' := 2) (index := 97) (w_X12_takesRow Γ0 l0 h21) (lw_V q3285 q3287 qs90 q146 q3288) (by decide +kernel) (t := 10) h20 rfl rfl (by decide) rfl (Nat.le_of_ble_eq_true rfl) dX12_over_85 ?_
                refine r_aload_n hκ 0 rfl rfl dX12_over_88 ?_
                refine r_iconst hκ dX12_over_89 ?_
                refine r_iload_n hκ 3 rfl rfl dX12_over_90 ?_
                obtain ⟨h22, h⟩ := bck_i h
                obtain ⟨s10, v10, h23, h⟩ := bcl_i h
                refine r_callV hκ (n' := 2) (index := 97) (w_X12_takesRow Γ0 l0 h23) (lw_V q3285 q3287 qs90 q146 q3288) (by decide +kernel) (t := 10) h22 rfl rfl (by decide) rfl (Nat.le_of_ble_eq_true rfl) dX12_over_91 ?_
                refine r_aload_n hκ 0 rfl rfl dX12_over_94 ?_
                refine r_iconst hκ dX12_over_95 ?_
                refine r_iconst hκ dX12_over_96 ?_
                refine r_iload hκ 4 rfl dX12_over_97 ?_
                refine r_iconst hκ dX12_over_99 ?_
                obtain ⟨h24, h⟩ := bck_i h
                obtain ⟨s11, v11, h25, h⟩ := bcl_i h
                refine r_callV hκ (n' := 4) (index := 164) (w_X12_overRow Γ0 l0 h25) (lw_V q3312 q3314 qs95 q146 q3315) (by decide +kernel) (t := 10) h24 rfl rfl (by decide) rfl (Nat.le_of_ble_eq_true rfl) dX12_over_100 ?_
                refine r_aload_n hκ 0 rfl rfl dX12_over_103 ?_
                refine r_iload_n hκ 1 rfl rfl dX12_over_104 ?_
                refine r_iconst hκ dX12_over_105 ?_
                obtain ⟨h26, h⟩ := bck_i h
                obtain ⟨s12, v12, h27, h⟩ := bcl_i h
                refine r_callV hκ (n' := 2) (index := 269) (w_X12_made Γ0 l0 h27) (lw_V q3300 q3302 qs93 q146 q3303) (by decide +kernel) (t := 10) h26 rfl rfl (by decide) rfl (Nat.le_of_ble_eq_true rfl) dX12_over_106 ?_
                exact r_iretH hκ hf h (nar_int _) dX12_over_109
              · replace h := (bte_i h).2 h19
                refine r_aload_n hκ 0 rfl rfl dX12_over_75 ?_
                refine r_bipush hκ (by decide) dX12_over_76 ?_
                obtain ⟨h28, h⟩ := bck_i h
                obtain ⟨s13, v13, h29, h⟩ := bcl_i h
                refine r_callV hκ (n' := 1) (index := 183) (w_X12_refused Γ0 l0 h29) (lw_V q3159 q3161 qs73 q146 q3162) (by decide +kernel) (t := 10) h28 rfl rfl (by decide) rfl (Nat.le_of_ble_eq_true rfl) dX12_over_78 ?_
                exact r_iretH hκ hf h (nar_int _) dX12_over_81
            · replace h := (bte_i h).1 h14
              exact r_sub [0] rfl (w_X12_over_r hκ hi hf 1 _ _ h)
        · replace h := (bte_i h).1 h8
          exact r_sub [0] rfl (w_X12_over_r hκ hi hf 0 _ _ h)
/-- EditsMeetModel.isClient(I)Z -/
def F_X12_isClient (s0 : bS) (a0 : Int) : Option (bS × Int) :=
  bcl (F_X12_in s0 (b_i2l a0) 0 3) fun s1 v1 =>
  bck (v1 = 0 ∨ v1 = 1) <|
  some (s1, v1)
set_option maxHeartbeats 4000000 in
set_option maxRecDepth 100000 in
theorem w_X12_isClient (Γ0 : bG) (l0 : Launch) {s0 st' : bS} {v a0 : Int} (h : F_X12_isClient s0 a0 = some (st', v)) : bCt Γ0 l0 yX12_isClient cX12_isClient 1 (some .boolean) 1 25 [(0, a0)] s0 st' (some (0, v)) := by
  refine b_ent (own := RX12) (by decide +kernel) rfl (Nat.le_of_ble_eq_true rfl) (L := [(0, (0, a0))]) rfl ?_
  intro κ hκ hi hf
  unfold F_X12_isClient at h
  refine r_iload_n hκ 0 rfl rfl dX12_isClient_0 ?_
  refine r_i2l hκ dX12_isClient_1 ?_
  refine r_lconst hκ (x := 0) (by decide) dX12_isClient_2 ?_
  refine r_ldcl hκ (x := 3) q3253 (by decide) dX12_isClient_3 ?_
  obtain ⟨s1, v1, h1, h⟩ := bcl_i h
  refine r_callS hκ (n' := 3) (index := 175) (w_X12_in Γ0 l0 h1) (lw_S q3156 q3157 q146 q3158) (by decide +kernel) rfl (by decide) rfl (Nat.le_of_ble_eq_true rfl) dX12_isClient_6 ?_
  obtain ⟨h2, h⟩ := bck_i h
  exact r_iretH hκ hf h (nar_bool h2) dX12_isClient_9
/-- EditsMeetModel.turnedRow(III)V -/
def F_X12_turnedRow_r (b : Nat) (x0 x1 x2 x3 x4 x5 x6 x7 x8 : Int) (s0 : bS) : Option (bS × Int) :=
  match b with
  | 0 =>
    bck (bg s0 0 x0 0 = 11) <|
    bck (bg s0 0 (bg s0 254 x0 0) 0 = 1003 ∧ (0 : Int) ≤ x1 ∧ x1 < bg s0 4 (bg s0 254 x0 0) 0) <|
    bte (i32 (bg s0 20 (bg s0 254 x0 0) x1) ≤ i32 x5)
    (bck (bg s0 0 x0 0 = 11) <|
    bcl (F_X12_plain s0 x0 x3) fun s2 v1 =>
    some (s2, 0))
    (bck (bg s0 0 x0 0 = 11) <|
    bck (bg s0 0 (bg s0 250 x0 0) 0 = 1010 ∧ (0 : Int) ≤ x1 ∧ x1 < bg s0 4 (bg s0 250 x0 0) 0) <|
    bck (bg s0 0 (bg s0 10 (bg s0 250 x0 0) x1) 0 = 1003 ∧ (0 : Int) ≤ x5 ∧ x5 < bg s0 4 (bg s0 10 (bg s0 250 x0 0) x1) 0) <|
    bvl ((bg s0 20 (bg s0 10 (bg s0 250 x0 0) x1) x5)) fun t1 =>
    bcl (F_X12_kind s0 t1) fun s3 v2 =>
    bte (i32 v2 = i32 1048576)
    (bck (bg s3 0 x0 0 = 11) <|
    bcl (F_X12_adds s3 x0 x3 3145728) fun s6 v5 =>
    F_X12_turnedRow_r 3 x0 x1 x2 x3 x4 x5 0 0 0 s6)
    (bck (bg s3 0 x0 0 = 11) <|
    bck (bg s3 0 (bg s3 226 x0 0) 0 = 1010 ∧ (0 : Int) ≤ x2 ∧ x2 < bg s3 4 (bg s3 226 x0 0) 0) <|
    bck (bg s3 0 (bg s3 10 (bg s3 226 x0 0) x2) 0 = 1003 ∧ (0 : Int) ≤ x4 ∧ x4 < bg s3 4 (bg s3 10 (bg s3 226 x0 0) x2) 0) <|
    bvl ((bg s3 20 (bg s3 10 (bg s3 226 x0 0) x2) x4)) fun t2 =>
    bcl (F_X12_kind s3 t1) fun s4 v3 =>
    bte (i32 v3 = i32 4194304)
    (bvl ((b_iand (b_ishr t2 8) 15)) fun t3 =>
    bvl ((b_ior (b_ishl (b_iand (b_iand t1 15) t3) 4) (b_iand (b_iand (b_ishr t1 4) 15) (b_ixor t3 (-1))))) fun t4 =>
    bte (i32 t4 = 0)
    (F_X12_turnedRow_r 1 x0 x1 x2 x3 (x4 + 1) x5 2097152 x3 x0 s4)
    (F_X12_turnedRow_r 1 x0 x1 x2 x3 (x4 + 1) x5 (b_ior 4194304 t4) x3 x0 s4))
    (bcl (F_X12_kind s4 t1) fun s5 v4 =>
    bte (i32 v4 = i32 2097152)
    (F_X12_turnedRow_r 2 x0 x1 x2 x3 (x4 + 1) x5 2097152 x3 x0 s5)
    (F_X12_turnedRow_r 2 x0 x1 x2 x3 (x4 + 1) x5 (b_ior 1048576 t2) x3 x0 s5))))
  | 1 =>
    bck (bg s0 0 x8 0 = 11) <|
    bcl (F_X12_adds s0 x8 x7 x6) fun s8 v7 =>
    F_X12_turnedRow_r 3 x0 x1 x2 x3 x4 x5 0 0 0 s8
  | 2 =>
    bck (bg s0 0 x8 0 = 11) <|
    bcl (F_X12_adds s0 x8 x7 x6) fun s7 v6 =>
    F_X12_turnedRow_r 3 x0 x1 x2 x3 x4 x5 0 0 0 s7
  | 3 =>
    F_X12_turnedRow_r 0 x0 x1 x2 x3 x4 (x5 + 1) 0 0 0 s0
  | _ => none
partial_fixpoint
def F_X12_turnedRow (s0 : bS) (a0 a1 a2 a3 : Int) : Option (bS × Int) :=
  bck (bg s0 0 a0 0 = 11) <|
  bck (bg s0 0 (bg s0 254 a0 0) 0 = 1003 ∧ (0 : Int) ≤ a3 ∧ a3 < bg s0 4 (bg s0 254 a0 0) 0) <|
  bst (bw s0 20 (bg s0 254 a0 0) a3 0) fun s1 =>
  F_X12_turnedRow_r 0 a0 a1 a2 a3 0 0 0 0 0 s1
set_option maxHeartbeats 4000000 in
set_option maxRecDepth 100000 in
set_option synthInstance.maxHeartbeats 4000000 in
theorem w_X12_turnedRow_r {Γ0 : bG} {l0 : Launch} {κ : bK} {st' : bS} {v : Int} (hκ : bOk κ Γ0 l0 cX12_turnedRow RX12 10 2 45) (hi : bIn κ yX12_turnedRow) (hf : bFin κ none st' none) (b : Nat) (x0 x1 x2 x3 x4 x5 x6 x7 x8 : Int) (s0 : bS) (h : F_X12_turnedRow_r b x0 x1 x2 x3 x4 x5 x6 x7 x8 s0 = some (st', v)) : match (generalizing := false) b with | 0 => bJ κ s0 13 [(0, (2, x0)), (1, (0, x1)), (2, (0, x2)), (3, (0, x3)), (4, (0, x4)), (5, (0, x5))] [] | 1 => bJ κ s0 131 [(0, (2, x0)), (1, (0, x1)), (2, (0, x2)), (3, (0, x3)), (4, (0, x4)), (5, (0, x5))] [(0, x6), (0, x7), (2, x8)] | 2 => bJ κ s0 159 [(0, (2, x0)), (1, (0, x1)), (2, (0, x2)), (3, (0, x3)), (4, (0, x4)), (5, (0, x5))] [(0, x6), (0, x7), (2, x8)] | 3 => bJ κ s0 162 [(0, (2, x0)), (1, (0, x1)), (2, (0, x2)), (3, (0, x3)), (4, (0, x4)), (5, (0, x5))] [] | _ => True := by
  refine F_X12_turnedRow_r.partial_correctness x0 x1 x2 x3 (fun b x4 x5 x6 x7 x8 s0 r => r = (st', v) → match (generalizing := false) b with | 0 => bJ κ s0 13 [(0, (2, x0)), (1, (0, x1)), (2, (0, x2)), (3, (0, x3)), (4, (0, x4)), (5, (0, x5))] [] | 1 => bJ κ s0 131 [(0, (2, x0)), (1, (0, x1)), (2, (0, x2)), (3, (0, x3)), (4, (0, x4)), (5, (0, x5))] [(0, x6), (0, x7), (2, x8)] | 2 => bJ κ s0 159 [(0, (2, x0)), (1, (0, x1)), (2, (0, x2)), (3, (0, x3)), (4, (0, x4)), (5, (0, x5))] [(0, x6), (0, x7), (2, x8)] | 3 => bJ κ s0 162 [(0, (2, x0)), (1, (0, x1)), (2, (0, x2)), (3, (0, x3)), (4, (0, x4)), (5, (0, x5))] [] | _ => True) ?_ b x4 x5 x6 x7 x8 s0 _ h rfl
  intro f' ih b x4 x5 x6 x7 x8 s0 r h hr
  subst hr
  match b, h with
  | 0, h =>
      refine r_iload hκ 5 rfl dX12_turnedRow_13 ?_
      refine r_aload_n hκ 0 rfl rfl dX12_turnedRow_15 ?_
      obtain ⟨h4, h⟩ := bck_i h
      refine r_get hκ (t := 10) (k := 10) (r := 254) h4 rfl in_X12 (by decide) rfl q3061 (Or.inl rfl) dX12_turnedRow_16 ?_
      refine r_iload_n hκ 1 rfl rfl dX12_turnedRow_19 ?_
      obtain ⟨⟨h5, h6⟩, h⟩ := bck_i h
      refine r_iald hκ h5 h6 dX12_turnedRow_20 ?_
      refine r_icmp_ge hκ (tgt := 168) (by decide) dX12_turnedRow_21 (fun h7 => ?_) (fun h7 => ?_)
      · replace h := (bte_i h).1 h7
        refine r_aload_n hκ 0 rfl rfl dX12_turnedRow_168 ?_
        refine r_iload_n hκ 3 rfl rfl dX12_turnedRow_169 ?_
        obtain ⟨h8, h⟩ := bck_i h
        obtain ⟨s2, v1, h9, h⟩ := bcl_i h
        refine r_callV hκ (n' := 1) (index := 122) (w_X12_plain Γ0 l0 h9) (lw_V q3199 q3201 qs78 q146 q3202) (by decide +kernel) (t := 10) h8 rfl rfl (by decide) rfl (Nat.le_of_ble_eq_true rfl) dX12_turnedRow_170 ?_
        exact r_vretH hκ hf h dX12_turnedRow_173
      · replace h := (bte_i h).2 h7
        refine r_aload_n hκ 0 rfl rfl dX12_turnedRow_24 ?_
        obtain ⟨h10, h⟩ := bck_i h
        refine r_get hκ (t := 10) (k := 9) (r := 250) h10 rfl in_X12 (by decide) rfl q3060 (Or.inl rfl) dX12_turnedRow_25 ?_
        refine r_iload_n hκ 1 rfl rfl dX12_turnedRow_28 ?_
        obtain ⟨⟨h11, h12⟩, h⟩ := bck_i h
        refine r_aald hκ (t := 10) (by decide) h11 h12 dX12_turnedRow_29 ?_
        refine r_iload hκ 5 rfl dX12_turnedRow_30 ?_
        obtain ⟨⟨h13, h14⟩, h⟩ := bck_i h
        refine r_iald hκ h13 h14 dX12_turnedRow_32 ?_
        refine r_nm (fun t1 et1 => ?_)
        replace h := bvl_i h t1 et1
        refine r_istore hκ (L2 := [(6, (0, t1)), (0, (2, x0)), (1, (0, x1)), (2, (0, x2)), (3, (0, x3)), (4, (0, x4)), (5, (0, x5))]) (by decide) rfl dX12_turnedRow_33 ?_
        refine r_iload hκ 0 rfl dX12_turnedRow_35 ?_
        obtain ⟨s3, v2, h15, h⟩ := bcl_i h
        refine r_callS hκ (n' := 1) (index := 104) (w_X12_kind Γ0 l0 h15) (lw_S q3203 q3204 q146 q3205) (by decide +kernel) rfl (by decide) rfl (Nat.le_of_ble_eq_true rfl) dX12_turnedRow_37 ?_
        refine r_ldci hκ (x := 1048576) q3185 (by decide) dX12_turnedRow_40 ?_
        refine r_icmp_ne hκ (tgt := 55) (by decide) dX12_turnedRow_42 (fun h16 => ?_) (fun h16 => ?_)
        · replace h := (bte_i h).2 h16
          refine r_aload_n hκ 1 rfl rfl dX12_turnedRow_55 ?_
          obtain ⟨h17, h⟩ := bck_i h
          refine r_get hκ (t := 10) (k := 3) (r := 226) h17 rfl in_X12 (by decide) rfl q3054 (Or.inl rfl) dX12_turnedRow_56 ?_
          refine r_iload_n hκ 3 rfl rfl dX12_turnedRow_59 ?_
          obtain ⟨⟨h18, h19⟩, h⟩ := bck_i h
          refine r_aald hκ (t := 10) (by decide) h18 h19 dX12_turnedRow_60 ?_
          refine r_iload hκ 5 rfl dX12_turnedRow_61 ?_
          obtain ⟨⟨h20, h21⟩, h⟩ := bck_i h
          refine r_iald hκ h20 h21 dX12_turnedRow_63 ?_
          refine r_nm (fun t2 et2 => ?_)
          replace h := bvl_i h t2 et2
          refine r_istore hκ (L2 := [(7, (0, t2)), (6, (0, t1)), (0, (2, x0)), (1, (0, x1)), (2, (0, x2)), (3, (0, x3)), (4, (0, x4)), (5, (0, x5))]) (by decide) rfl dX12_turnedRow_64 ?_
          refine r_iinc hκ (L2 := [(4, (0, (x4 + 1))), (7, (0, t2)), (6, (0, t1)), (0, (2, x0)), (1, (0, x1)), (2, (0, x2)), (3, (0, x3)), (5, (0, x5))]) 6 rfl (by decide) rfl dX12_turnedRow_66 ?_
          refine r_iload hκ 2 rfl dX12_turnedRow_69 ?_
          obtain ⟨s4, v3, h22, h⟩ := bcl_i h
          refine r_callS hκ (n' := 1) (index := 104) (w_X12_kind Γ0 l0 h22) (lw_S q3203 q3204 q146 q3205) (by decide +kernel) rfl (by decide) rfl (Nat.le_of_ble_eq_true rfl) dX12_turnedRow_71 ?_
          refine r_ldci hκ (x := 4194304) q3198 (by decide) dX12_turnedRow_74 ?_
          refine r_icmp_ne hκ (tgt := 137) (by decide) dX12_turnedRow_76 (fun h23 => ?_) (fun h23 => ?_)
          · replace h := (bte_i h).2 h23
            refine r_aload_n hκ 3 rfl rfl dX12_turnedRow_137 ?_
            refine r_iload_n hκ 6 rfl rfl dX12_turnedRow_138 ?_
            refine r_iload hκ 2 rfl dX12_turnedRow_139 ?_
            obtain ⟨s5, v4, h24, h⟩ := bcl_i h
            refine r_callS hκ (n' := 1) (index := 104) (w_X12_kind Γ0 l0 h24) (lw_S q3203 q3204 q146 q3205) (by decide +kernel) rfl (by decide) rfl (Nat.le_of_ble_eq_true rfl) dX12_turnedRow_141 ?_
            refine r_ldci hκ (x := 2097152) q3196 (by decide) dX12_turnedRow_144 ?_
            refine r_icmp_ne hκ (tgt := 154) (by decide) dX12_turnedRow_146 (fun h25 => ?_) (fun h25 => ?_)
            · replace h := (bte_i h).2 h25
              refine r_ldci hκ (x := 1048576) q3185 (by decide) dX12_turnedRow_154 ?_
              refine r_iload hκ 1 rfl dX12_turnedRow_156 ?_
              refine r_ior hκ dX12_turnedRow_158 ?_
              exact r_sub [3, 4, 5, 6, 0, 7] rfl (ih 2 _ _ _ _ _ _ _ h rfl)
            · replace h := (bte_i h).1 h25
              refine r_ldci hκ (x := 2097152) q3196 (by decide) dX12_turnedRow_149 ?_
              refine r_goto hκ (tgt := 159) (by decide) dX12_turnedRow_151 ?_
              exact r_sub [3, 4, 5, 6, 0, 7] rfl (ih 2 _ _ _ _ _ _ _ h rfl)
          · replace h := (bte_i h).1 h23
            refine r_iload hκ 1 rfl dX12_turnedRow_79 ?_
            refine r_bipush hκ (by decide) dX12_turnedRow_81 ?_
            refine r_ishr hκ dX12_turnedRow_83 ?_
            refine r_bipush hκ (by decide) dX12_turnedRow_84 ?_
            refine r_iand hκ dX12_turnedRow_86 ?_
            refine r_nm (fun t3 et3 => ?_)
            replace h := bvl_i h t3 et3
            refine r_istore hκ (L2 := [(8, (0, t3)), (4, (0, (x4 + 1))), (7, (0, t2)), (6, (0, t1)), (0, (2, x0)), (1, (0, x1)), (2, (0, x2)), (3, (0, x3)), (5, (0, x5))]) (by decide) rfl dX12_turnedRow_87 ?_
            refine r_iload hκ 3 rfl dX12_turnedRow_89 ?_
            refine r_bipush hκ (by decide) dX12_turnedRow_91 ?_
            refine r_iand hκ dX12_turnedRow_93 ?_
            refine r_iload hκ 0 rfl dX12_turnedRow_94 ?_
            refine r_iand hκ dX12_turnedRow_96 ?_
            refine r_iconst hκ dX12_turnedRow_97 ?_
            refine r_ishl hκ dX12_turnedRow_98 ?_
            refine r_iload hκ 3 rfl dX12_turnedRow_99 ?_
            refine r_iconst hκ dX12_turnedRow_101 ?_
            refine r_ishr hκ dX12_turnedRow_102 ?_
            refine r_bipush hκ (by decide) dX12_turnedRow_103 ?_
            refine r_iand hκ dX12_turnedRow_105 ?_
            refine r_iload hκ 0 rfl dX12_turnedRow_106 ?_
            refine r_iconst hκ dX12_turnedRow_108 ?_
            refine r_ixor hκ dX12_turnedRow_109 ?_
            refine r_iand hκ dX12_turnedRow_110 ?_
            refine r_ior hκ dX12_turnedRow_111 ?_
            refine r_nm (fun t4 et4 => ?_)
            replace h := bvl_i h t4 et4
            refine r_istore hκ (L2 := [(9, (0, t4)), (8, (0, t3)), (4, (0, (x4 + 1))), (7, (0, t2)), (6, (0, t1)), (0, (2, x0)), (1, (0, x1)), (2, (0, x2)), (3, (0, x3)), (5, (0, x5))]) (by decide) rfl dX12_turnedRow_112 ?_
            refine r_aload_n hκ 5 rfl rfl dX12_turnedRow_114 ?_
            refine r_iload_n hκ 8 rfl rfl dX12_turnedRow_115 ?_
            refine r_iload hκ 0 rfl dX12_turnedRow_116 ?_
            refine r_if_ne hκ (tgt := 126) (by decide) dX12_turnedRow_118 (fun h26 => ?_) (fun h26 => ?_)
            · replace h := (bte_i h).2 h26
              refine r_ldci hκ (x := 4194304) q3198 (by decide) dX12_turnedRow_126 ?_
              refine r_iload hκ 0 rfl dX12_turnedRow_128 ?_
              refine r_ior hκ dX12_turnedRow_130 ?_
              exact r_sub [5, 6, 7, 8, 2, 9] rfl (ih 1 _ _ _ _ _ _ _ h rfl)
            · replace h := (bte_i h).1 h26
              refine r_ldci hκ (x := 2097152) q3196 (by decide) dX12_turnedRow_121 ?_
              refine r_goto hκ (tgt := 131) (by decide) dX12_turnedRow_123 ?_
              exact r_sub [5, 6, 7, 8, 2, 9] rfl (ih 1 _ _ _ _ _ _ _ h rfl)
        · replace h := (bte_i h).1 h16
          refine r_aload_n hκ 1 rfl rfl dX12_turnedRow_45 ?_
          refine r_iload_n hκ 4 rfl rfl dX12_turnedRow_46 ?_
          refine r_ldci hκ (x := 3145728) q3197 (by decide) dX12_turnedRow_47 ?_
          obtain ⟨h27, h⟩ := bck_i h
          obtain ⟨s6, v5, h28, h⟩ := bcl_i h
          refine r_callV hκ (n' := 2) (index := 115) (w_X12_adds Γ0 l0 h28) (lw_V q3186 q3188 qs76 q146 q3189) (by decide +kernel) (t := 10) h27 rfl rfl (by decide) rfl (Nat.le_of_ble_eq_true rfl) dX12_turnedRow_49 ?_
          refine r_goto hκ (tgt := 162) (by decide) dX12_turnedRow_52 ?_
          exact r_sub [1, 2, 3, 4, 5, 6] rfl (ih 3 _ _ _ _ _ _ _ h rfl)
  | 1, h =>
      obtain ⟨h31, h⟩ := bck_i h
      obtain ⟨s8, v7, h32, h⟩ := bcl_i h
      refine r_callV hκ (n' := 2) (index := 115) (w_X12_adds Γ0 l0 h32) (lw_V q3186 q3188 qs76 q146 q3189) (by decide +kernel) (t := 10) h31 rfl rfl (by decide) rfl (Nat.le_of_ble_eq_true rfl) dX12_turnedRow_131 ?_
      refine r_goto hκ (tgt := 162) (by decide) dX12_turnedRow_134 ?_
      exact r_sub [0, 1, 2, 3, 4, 5] rfl (ih 3 _ _ _ _ _ _ _ h rfl)
  | 2, h =>
      obtain ⟨h29, h⟩ := bck_i h
      obtain ⟨s7, v6, h30, h⟩ := bcl_i h
      refine r_callV hκ (n' := 2) (index := 115) (w_X12_adds Γ0 l0 h30) (lw_V q3186 q3188 qs76 q146 q3189) (by decide +kernel) (t := 10) h29 rfl rfl (by decide) rfl (Nat.le_of_ble_eq_true rfl) dX12_turnedRow_159 ?_
      exact r_sub [0, 1, 2, 3, 4, 5] rfl (ih 3 _ _ _ _ _ _ _ h rfl)
  | 3, h =>
      refine r_iinc hκ (L2 := [(5, (0, (x5 + 1))), (0, (2, x0)), (1, (0, x1)), (2, (0, x2)), (3, (0, x3)), (4, (0, x4))]) 5 rfl (by decide) rfl dX12_turnedRow_162 ?_
      refine r_goto hκ (tgt := 13) (by decide) dX12_turnedRow_165 ?_
      exact r_sub [1, 2, 3, 4, 5, 0] rfl (ih 0 _ _ _ _ _ _ _ h rfl)
  | b + 4, h => trivial
set_option maxHeartbeats 4000000 in
set_option maxRecDepth 100000 in
theorem w_X12_turnedRow (Γ0 : bG) (l0 : Launch) {s0 st' : bS} {v a0 a1 a2 a3 : Int} (h : F_X12_turnedRow s0 a0 a1 a2 a3 = some (st', v)) : bCt Γ0 l0 yX12_turnedRow cX12_turnedRow 10 none 2 45 [(2, a0), (0, a1), (0, a2), (0, a3)] s0 st' none := by
  refine b_ent (own := RX12) (by decide +kernel) rfl (Nat.le_of_ble_eq_true rfl) (L := [(0, (2, a0)), (1, (0, a1)), (2, (0, a2)), (3, (0, a3))]) rfl ?_
  intro κ hκ hi hf
  unfold F_X12_turnedRow at h
  refine r_iconst hκ dX12_turnedRow_0 ?_
  refine r_istore hκ (L2 := [(4, (0, 0)), (0, (2, a0)), (1, (0, a1)), (2, (0, a2)), (3, (0, a3))]) (by decide) rfl dX12_turnedRow_1 ?_
  refine r_aload_n hκ 1 rfl rfl dX12_turnedRow_3 ?_
  obtain ⟨h1, h⟩ := bck_i h
  refine r_get hκ (t := 10) (k := 10) (r := 254) h1 rfl in_X12 (by decide) rfl q3061 (Or.inl rfl) dX12_turnedRow_4 ?_
  refine r_iload_n hκ 4 rfl rfl dX12_turnedRow_7 ?_
  refine r_iconst hκ dX12_turnedRow_8 ?_
  obtain ⟨⟨h2, h3⟩, h⟩ := bck_i h
  refine r_iast hκ h2 h3 dX12_turnedRow_9 (fun s1 es1 => ?_)
  replace h := bst_i h s1 es1
  refine r_iconst hκ dX12_turnedRow_10 ?_
  refine r_istore hκ (L2 := [(5, (0, 0)), (4, (0, 0)), (0, (2, a0)), (1, (0, a1)), (2, (0, a2)), (3, (0, a3))]) (by decide) rfl dX12_turnedRow_11 ?_
  exact r_sub [2, 3, 4, 5, 1, 0] rfl (w_X12_turnedRow_r hκ hi hf 0 _ _ _ _ _ _ _ _ _ _ h)
/-- EditsMeetModel.turned(III)I -/
def F_X12_turned_r (b : Nat) (x0 : Int) (s0 : bS) : Option (bS × Int) :=
  match b with
  | 0 =>
    bck (bg s0 0 x0 0 = 11) <|
    bcl (F_X12_refused s0 x0 (-2)) fun s11 v11 =>
    some (s11, v11)
  | _ => none
def F_X12_turned (s0 : bS) (a0 a1 a2 a3 : Int) : Option (bS × Int) :=
  bcl (F_X12_isEdit s0 a1) fun s1 v1 =>
  bte (i32 v1 = 0)
  (F_X12_turned_r 0 a0 s1)
  (bcl (F_X12_isEdit s1 a2) fun s2 v2 =>
  bte (i32 v2 = 0)
  (F_X12_turned_r 0 a0 s2)
  (bcl (F_X12_isClient s2 a3) fun s3 v3 =>
  bte (i32 v3 = 0)
  (F_X12_turned_r 0 a0 s3)
  (bck (bg s3 0 a0 0 = 11) <|
  bcl (F_X12_isKept s3 a0 a2) fun s4 v4 =>
  bte (i32 v4 = 0)
  (bck (bg s4 0 a0 0 = 11) <|
  bcl (F_X12_refused s4 a0 (-4)) fun s10 v10 =>
  some (s10, v10))
  (bck (bg s4 0 a0 0 = 11) <|
  bcl (F_X12_from s4 a0 a2) fun s5 v5 =>
  bck (bg s5 0 a0 0 = 11) <|
  bck (bg s5 0 (bg s5 230 a0 0) 0 = 1003 ∧ (0 : Int) ≤ a3 ∧ a3 < bg s5 4 (bg s5 230 a0 0) 0) <|
  bte (i32 v5 = i32 (bg s5 20 (bg s5 230 a0 0) a3))
  (bck (bg s5 0 a0 0 = 11) <|
  bcl (F_X12_takesRow s5 a0 0 a2) fun s6 v6 =>
  bck (bg s6 0 a0 0 = 11) <|
  bcl (F_X12_turnedRow s6 a0 0 a3 1) fun s7 v7 =>
  bck (bg s7 0 a0 0 = 11) <|
  bcl (F_X12_made s7 a0 a1 1) fun s8 v8 =>
  some (s8, v8))
  (bck (bg s5 0 a0 0 = 11) <|
  bcl (F_X12_refused s5 a0 (-5)) fun s9 v9 =>
  some (s9, v9))))))
set_option maxHeartbeats 4000000 in
set_option maxRecDepth 100000 in
set_option synthInstance.maxHeartbeats 4000000 in
theorem w_X12_turned_r {Γ0 : bG} {l0 : Launch} {κ : bK} {st' : bS} {v : Int} (hκ : bOk κ Γ0 l0 cX12_turned RX12 4 5 108) (hi : bIn κ yX12_turned) (hf : bFin κ (some .int) st' (some (0, v))) (b : Nat) (x0 : Int) (s0 : bS) (h : F_X12_turned_r b x0 s0 = some (st', v)) : match (generalizing := false) b with | 0 => bJ κ s0 21 [(0, (2, x0))] [] | _ => True := by
  unfold F_X12_turned_r at h
  match b, h with
  | 0, h =>
      refine r_aload_n hκ 0 rfl rfl dX12_turned_21 ?_
      refine r_bipush hκ (by decide) dX12_turned_22 ?_
      obtain ⟨h26, h⟩ := bck_i h
      obtain ⟨s11, v11, h27, h⟩ := bcl_i h
      refine r_callV hκ (n' := 1) (index := 183) (w_X12_refused Γ0 l0 h27) (lw_V q3159 q3161 qs73 q146 q3162) (by decide +kernel) (t := 10) h26 rfl rfl (by decide) rfl (Nat.le_of_ble_eq_true rfl) dX12_turned_24 ?_
      exact r_iretH hκ hf h (nar_int _) dX12_turned_27
  | b + 1, h => trivial
set_option maxHeartbeats 4000000 in
set_option maxRecDepth 100000 in
theorem w_X12_turned (Γ0 : bG) (l0 : Launch) {s0 st' : bS} {v a0 a1 a2 a3 : Int} (h : F_X12_turned s0 a0 a1 a2 a3 = some (st', v)) : bCt Γ0 l0 yX12_turned cX12_turned 4 (some .int) 5 108 [(2, a0), (0, a1), (0, a2), (0, a3)] s0 st' (some (0, v)) := by
  refine b_ent (own := RX12) (by decide +kernel) rfl (Nat.le_of_ble_eq_true rfl) (L := [(0, (2, a0)), (1, (0, a1)), (2, (0, a2)), (3, (0, a3))]) rfl ?_
  intro κ hκ hi hf
  unfold F_X12_turned at h
  refine r_iload_n hκ 1 rfl rfl dX12_turned_0 ?_
  obtain ⟨s1, v1, h1, h⟩ := bcl_i h
  refine r_callS hκ (n' := 1) (index := 211) (w_X12_isEdit Γ0 l0 h1) (lw_S q3171 q3172 q146 q3173) (by decide +kernel) rfl (by decide) rfl (Nat.le_of_ble_eq_true rfl) dX12_turned_1 ?_
  refine r_if_eq hκ (tgt := 21) (by decide) dX12_turned_4 (fun h2 => ?_) (fun h2 => ?_)
  · replace h := (bte_i h).1 h2
    exact r_sub [0] rfl (w_X12_turned_r hκ hi hf 0 _ _ h)
  · replace h := (bte_i h).2 h2
    refine r_iload_n hκ 2 rfl rfl dX12_turned_7 ?_
    obtain ⟨s2, v2, h3, h⟩ := bcl_i h
    refine r_callS hκ (n' := 1) (index := 211) (w_X12_isEdit Γ0 l0 h3) (lw_S q3171 q3172 q146 q3173) (by decide +kernel) rfl (by decide) rfl (Nat.le_of_ble_eq_true rfl) dX12_turned_8 ?_
    refine r_if_eq hκ (tgt := 21) (by decide) dX12_turned_11 (fun h4 => ?_) (fun h4 => ?_)
    · replace h := (bte_i h).1 h4
      exact r_sub [0] rfl (w_X12_turned_r hκ hi hf 0 _ _ h)
    · replace h := (bte_i h).2 h4
      refine r_iload_n hκ 3 rfl rfl dX12_turned_14 ?_
      obtain ⟨s3, v3, h5, h⟩ := bcl_i h
      refine r_callS hκ (n' := 1) (index := 272) (w_X12_isClient Γ0 l0 h5) (lw_S q3324 q3325 q146 q3326) (by decide +kernel) rfl (by decide) rfl (Nat.le_of_ble_eq_true rfl) dX12_turned_15 ?_
      refine r_if_ne hκ (tgt := 28) (by decide) dX12_turned_18 (fun h6 => ?_) (fun h6 => ?_)
      · replace h := (bte_i h).2 h6
        refine r_aload_n hκ 0 rfl rfl dX12_turned_28 ?_
        refine r_iload_n hκ 2 rfl rfl dX12_turned_29 ?_
        obtain ⟨h7, h⟩ := bck_i h
        obtain ⟨s4, v4, h8, h⟩ := bcl_i h
        refine r_callV hκ (n' := 1) (index := 230) (w_X12_isKept Γ0 l0 h8) (lw_V q3230 q3232 qs82 q146 q3233) (by decide +kernel) (t := 10) h7 rfl rfl (by decide) rfl (Nat.le_of_ble_eq_true rfl) dX12_turned_30 ?_
        refine r_if_ne hκ (tgt := 43) (by decide) dX12_turned_33 (fun h9 => ?_) (fun h9 => ?_)
        · replace h := (bte_i h).2 h9
          refine r_aload_n hκ 0 rfl rfl dX12_turned_43 ?_
          refine r_iload_n hκ 2 rfl rfl dX12_turned_44 ?_
          obtain ⟨h10, h⟩ := bck_i h
          obtain ⟨s5, v5, h11, h⟩ := bcl_i h
          refine r_callV hκ (n' := 1) (index := 233) (w_X12_from Γ0 l0 h11) (lw_V q3234 q3236 qs83 q146 q3237) (by decide +kernel) (t := 10) h10 rfl rfl (by decide) rfl (Nat.le_of_ble_eq_true rfl) dX12_turned_45 ?_
          refine r_aload_n hκ 0 rfl rfl dX12_turned_48 ?_
          obtain ⟨h12, h⟩ := bck_i h
          refine r_get hκ (t := 10) (k := 4) (r := 230) h12 rfl in_X12 (by decide) rfl q3055 (Or.inl rfl) dX12_turned_49 ?_
          refine r_iload_n hκ 3 rfl rfl dX12_turned_52 ?_
          obtain ⟨⟨h13, h14⟩, h⟩ := bck_i h
          refine r_iald hκ h13 h14 dX12_turned_53 ?_
          refine r_icmp_eq hκ (tgt := 64) (by decide) dX12_turned_54 (fun h15 => ?_) (fun h15 => ?_)
          · replace h := (bte_i h).1 h15
            refine r_aload_n hκ 0 rfl rfl dX12_turned_64 ?_
            refine r_iconst hκ dX12_turned_65 ?_
            refine r_iload_n hκ 2 rfl rfl dX12_turned_66 ?_
            obtain ⟨h16, h⟩ := bck_i h
            obtain ⟨s6, v6, h17, h⟩ := bcl_i h
            refine r_callV hκ (n' := 2) (index := 97) (w_X12_takesRow Γ0 l0 h17) (lw_V q3285 q3287 qs90 q146 q3288) (by decide +kernel) (t := 10) h16 rfl rfl (by decide) rfl (Nat.le_of_ble_eq_true rfl) dX12_turned_67 ?_
            refine r_aload_n hκ 0 rfl rfl dX12_turned_70 ?_
            refine r_iconst hκ dX12_turned_71 ?_
            refine r_iload_n hκ 3 rfl rfl dX12_turned_72 ?_
            refine r_iconst hκ dX12_turned_73 ?_
            obtain ⟨h18, h⟩ := bck_i h
            obtain ⟨s7, v7, h19, h⟩ := bcl_i h
            refine r_callV hκ (n' := 3) (index := 145) (w_X12_turnedRow Γ0 l0 h19) (lw_V q3327 q3329 qs97 q146 q3330) (by decide +kernel) (t := 10) h18 rfl rfl (by decide) rfl (Nat.le_of_ble_eq_true rfl) dX12_turned_74 ?_
            refine r_aload_n hκ 0 rfl rfl dX12_turned_77 ?_
            refine r_iload_n hκ 1 rfl rfl dX12_turned_78 ?_
            refine r_iconst hκ dX12_turned_79 ?_
            obtain ⟨h20, h⟩ := bck_i h
            obtain ⟨s8, v8, h21, h⟩ := bcl_i h
            refine r_callV hκ (n' := 2) (index := 269) (w_X12_made Γ0 l0 h21) (lw_V q3300 q3302 qs93 q146 q3303) (by decide +kernel) (t := 10) h20 rfl rfl (by decide) rfl (Nat.le_of_ble_eq_true rfl) dX12_turned_80 ?_
            exact r_iretH hκ hf h (nar_int _) dX12_turned_83
          · replace h := (bte_i h).2 h15
            refine r_aload_n hκ 0 rfl rfl dX12_turned_57 ?_
            refine r_bipush hκ (by decide) dX12_turned_58 ?_
            obtain ⟨h22, h⟩ := bck_i h
            obtain ⟨s9, v9, h23, h⟩ := bcl_i h
            refine r_callV hκ (n' := 1) (index := 183) (w_X12_refused Γ0 l0 h23) (lw_V q3159 q3161 qs73 q146 q3162) (by decide +kernel) (t := 10) h22 rfl rfl (by decide) rfl (Nat.le_of_ble_eq_true rfl) dX12_turned_60 ?_
            exact r_iretH hκ hf h (nar_int _) dX12_turned_63
        · replace h := (bte_i h).1 h9
          refine r_aload_n hκ 0 rfl rfl dX12_turned_36 ?_
          refine r_bipush hκ (by decide) dX12_turned_37 ?_
          obtain ⟨h24, h⟩ := bck_i h
          obtain ⟨s10, v10, h25, h⟩ := bcl_i h
          refine r_callV hκ (n' := 1) (index := 183) (w_X12_refused Γ0 l0 h25) (lw_V q3159 q3161 qs73 q146 q3162) (by decide +kernel) (t := 10) h24 rfl rfl (by decide) rfl (Nat.le_of_ble_eq_true rfl) dX12_turned_39 ?_
          exact r_iretH hκ hf h (nar_int _) dX12_turned_42
      · replace h := (bte_i h).1 h6
        exact r_sub [0] rfl (w_X12_turned_r hκ hi hf 0 _ _ h)
/-- EditsMeetModel.differ(II)I -/
def F_X12_differ_r (b : Nat) (xs : Int × Int × Int × Int × Int × Int × Int × Int × Int × Int) (s0 : bS) : Option (bS × Int) :=
  match b, xs with
  | 0, (x0, _, _, _, _, _, _, _, _, _) =>
    bck (bg s0 0 x0 0 = 11) <|
    bcl (F_X12_refused s0 x0 (-2)) fun s7 v7 =>
    some (s7, v7)
  | 1, (x0, _, _, _, _, _, _, _, _, _) =>
    bck (bg s0 0 x0 0 = 11) <|
    bcl (F_X12_refused s0 x0 (-4)) fun s8 v8 =>
    some (s8, v8)
  | 2, (x0, x1, x2, x3, x4, _, _, _, _, _) =>
    bte (i32 x3 ≤ i32 x4)
    (some (s0, (-1)))
    (bck (bg s0 0 x0 0 = 11) <|
    bcl (F_X12_beginOf s0 x0 x1 x4) fun s9 v9 =>
    bck (bg s9 0 x0 0 = 11) <|
    bcl (F_X12_beginOf s9 x0 x2 x4) fun s10 v10 =>
    bck (bg s10 0 x0 0 = 11) <|
    bcl (F_X12_beginOf s10 x0 x1 (x4 + 1)) fun s11 v11 =>
    bck (bg s11 0 x0 0 = 11) <|
    bcl (F_X12_beginOf s11 x0 x2 (x4 + 1)) fun s12 v12 =>
    bte (i32 (v11 - v9) = i32 (v12 - v10))
    (bte (i32 (v11 - v9) ≤ 0)
    (F_X12_differ_r 3 (x0, x1, x2, x3, x4, v9, v10, (v11 - v9), 0, 0) s12)
    (F_X12_differ_r 4 (x0, x1, x2, x3, x4, v9, v10, (v11 - v9), 1, 0) s12))
    (F_X12_differ_r 3 (x0, x1, x2, x3, x4, v9, v10, (v11 - v9), 0, 0) s12))
  | 3, (x0, x1, x2, x3, x4, x5, x6, x7, _, _) =>
    F_X12_differ_r 4 (x0, x1, x2, x3, x4, x5, x6, x7, 0, 0) s0
  | 4, (x0, x1, x2, x3, x4, x5, x6, x7, x8, _) =>
    F_X12_differ_r 5 (x0, x1, x2, x3, x4, x5, x6, x7, x8, 0) s0
  | 5, (x0, x1, x2, x3, x4, x5, x6, x7, x8, x9) =>
    bte (i32 x8 = 0)
    (F_X12_differ_r 7 (x0, x1, x2, x3, x4, x8, 0, 0, 0, 0) s0)
    (bte (i32 x7 ≤ i32 x9)
    (F_X12_differ_r 7 (x0, x1, x2, x3, x4, x8, 0, 0, 0, 0) s0)
    (bck (bg s0 0 x0 0 = 11) <|
    bck (bg s0 0 (bg s0 214 x0 0) 0 = 1010 ∧ (0 : Int) ≤ x1 ∧ x1 < bg s0 4 (bg s0 214 x0 0) 0) <|
    bck (bg s0 0 (bg s0 10 (bg s0 214 x0 0) x1) 0 = 1003 ∧ (0 : Int) ≤ (x5 + x9) ∧ (x5 + x9) < bg s0 4 (bg s0 10 (bg s0 214 x0 0) x1) 0) <|
    bck (bg s0 0 x0 0 = 11) <|
    bck (bg s0 0 (bg s0 214 x0 0) 0 = 1010 ∧ (0 : Int) ≤ x2 ∧ x2 < bg s0 4 (bg s0 214 x0 0) 0) <|
    bck (bg s0 0 (bg s0 10 (bg s0 214 x0 0) x2) 0 = 1003 ∧ (0 : Int) ≤ (x6 + x9) ∧ (x6 + x9) < bg s0 4 (bg s0 10 (bg s0 214 x0 0) x2) 0) <|
    bte (i32 (bg s0 20 (bg s0 10 (bg s0 214 x0 0) x1) (x5 + x9)) = i32 (bg s0 20 (bg s0 10 (bg s0 214 x0 0) x2) (x6 + x9)))
    (F_X12_differ_r 6 (x0, x1, x2, x3, x4, x5, x6, x7, x9, 1) s0)
    (F_X12_differ_r 6 (x0, x1, x2, x3, x4, x5, x6, x7, x9, 0) s0)))
  | 6, (x0, x1, x2, x3, x4, x5, x6, x7, x8, x9) =>
    F_X12_differ_r 5 (x0, x1, x2, x3, x4, x5, x6, x7, x9, (x8 + 1)) s0
  | 7, (x0, x1, x2, x3, x4, x5, _, _, _, _) =>
    bte (i32 x5 = 0)
    (some (s0, x4))
    (F_X12_differ_r 2 (x0, x1, x2, x3, (x4 + 1), 0, 0, 0, 0, 0) s0)
  | _, _ => none
partial_fixpoint
def F_X12_differ (s0 : bS) (a0 a1 a2 : Int) : Option (bS × Int) :=
  bcl (F_X12_isEdit s0 a1) fun s1 v1 =>
  bte (i32 v1 = 0)
  (F_X12_differ_r 0 (a0, 0, 0, 0, 0, 0, 0, 0, 0, 0) s1)
  (bcl (F_X12_isEdit s1 a2) fun s2 v2 =>
  bte (i32 v2 = 0)
  (F_X12_differ_r 0 (a0, 0, 0, 0, 0, 0, 0, 0, 0, 0) s2)
  (bck (bg s2 0 a0 0 = 11) <|
  bcl (F_X12_isKept s2 a0 a1) fun s3 v3 =>
  bte (i32 v3 = 0)
  (F_X12_differ_r 1 (a0, 0, 0, 0, 0, 0, 0, 0, 0, 0) s3)
  (bck (bg s3 0 a0 0 = 11) <|
  bcl (F_X12_isKept s3 a0 a2) fun s4 v4 =>
  bte (i32 v4 = 0)
  (F_X12_differ_r 1 (a0, 0, 0, 0, 0, 0, 0, 0, 0, 0) s4)
  (bck (bg s4 0 a0 0 = 11) <|
  bcl (F_X12_parts s4 a0 a1) fun s5 v5 =>
  bck (bg s5 0 a0 0 = 11) <|
  bcl (F_X12_parts s5 a0 a2) fun s6 v6 =>
  F_X12_differ_r 2 (a0, a1, a2, (b_max v5 v6), 0, 0, 0, 0, 0, 0) s6))))
set_option maxHeartbeats 4000000 in
set_option maxRecDepth 100000 in
set_option synthInstance.maxHeartbeats 4000000 in
theorem w_X12_differ_r {Γ0 : bG} {l0 : Launch} {κ : bK} {st' : bS} {v : Int} (hκ : bOk κ Γ0 l0 cX12_differ RX12 10 3 65) (hi : bIn κ yX12_differ) (hf : bFin κ (some .int) st' (some (0, v))) (b : Nat) (x0 x1 x2 x3 x4 x5 x6 x7 x8 x9 : Int) (s0 : bS) (h : F_X12_differ_r b (x0, x1, x2, x3, x4, x5, x6, x7, x8, x9) s0 = some (st', v)) : match (generalizing := false) b with | 0 => bJ κ s0 14 [(0, (2, x0))] [] | 1 => bJ κ s0 37 [(0, (2, x0))] [] | 2 => bJ κ s0 61 [(0, (2, x0)), (1, (0, x1)), (2, (0, x2)), (3, (0, x3)), (4, (0, x4))] [] | 3 => bJ κ s0 125 [(0, (2, x0)), (1, (0, x1)), (2, (0, x2)), (3, (0, x3)), (4, (0, x4)), (5, (0, x5)), (6, (0, x6)), (7, (0, x7))] [] | 4 => bJ κ s0 126 [(0, (2, x0)), (1, (0, x1)), (2, (0, x2)), (3, (0, x3)), (4, (0, x4)), (5, (0, x5)), (6, (0, x6)), (7, (0, x7))] [(0, x8)] | 5 => bJ κ s0 131 [(0, (2, x0)), (1, (0, x1)), (2, (0, x2)), (3, (0, x3)), (4, (0, x4)), (5, (0, x5)), (6, (0, x6)), (7, (0, x7)), (8, (0, x8)), (9, (0, x9))] [] | 6 => bJ κ s0 175 [(0, (2, x0)), (1, (0, x1)), (2, (0, x2)), (3, (0, x3)), (4, (0, x4)), (5, (0, x5)), (6, (0, x6)), (7, (0, x7)), (9, (0, x8))] [(0, x9)] | 7 => bJ κ s0 183 [(0, (2, x0)), (1, (0, x1)), (2, (0, x2)), (3, (0, x3)), (4, (0, x4)), (8, (0, x5))] [] | _ => True := by
  refine F_X12_differ_r.partial_correctness (fun b xs s0 r => r = (st', v) → match (generalizing := false) b with | 0 => bJ κ s0 14 [(0, (2, xs.1))] [] | 1 => bJ κ s0 37 [(0, (2, xs.1))] [] | 2 => bJ κ s0 61 [(0, (2, xs.1)), (1, (0, xs.2.1)), (2, (0, xs.2.2.1)), (3, (0, xs.2.2.2.1)), (4, (0, xs.2.2.2.2.1))] [] | 3 => bJ κ s0 125 [(0, (2, xs.1)), (1, (0, xs.2.1)), (2, (0, xs.2.2.1)), (3, (0, xs.2.2.2.1)), (4, (0, xs.2.2.2.2.1)), (5, (0, xs.2.2.2.2.2.1)), (6, (0, xs.2.2.2.2.2.2.1)), (7, (0, xs.2.2.2.2.2.2.2.1))] [] | 4 => bJ κ s0 126 [(0, (2, xs.1)), (1, (0, xs.2.1)), (2, (0, xs.2.2.1)), (3, (0, xs.2.2.2.1)), (4, (0, xs.2.2.2.2.1)), (5, (0, xs.2.2.2.2.2.1)), (6, (0, xs.2.2.2.2.2.2.1)), (7, (0, xs.2.2.2.2.2.2.2.1))] [(0, xs.2.2.2.2.2.2.2.2.1)] | 5 => bJ κ s0 131 [(0, (2, xs.1)), (1, (0, xs.2.1)), (2, (0, xs.2.2.1)), (3, (0, xs.2.2.2.1)), (4, (0, xs.2.2.2.2.1)), (5, (0, xs.2.2.2.2.2.1)), (6, (0, xs.2.2.2.2.2.2.1)), (7, (0, xs.2.2.2.2.2.2.2.1)), (8, (0, xs.2.2.2.2.2.2.2.2.1)), (9, (0, xs.2.2.2.2.2.2.2.2.2))] [] | 6 => bJ κ s0 175 [(0, (2, xs.1)), (1, (0, xs.2.1)), (2, (0, xs.2.2.1)), (3, (0, xs.2.2.2.1)), (4, (0, xs.2.2.2.2.1)), (5, (0, xs.2.2.2.2.2.1)), (6, (0, xs.2.2.2.2.2.2.1)), (7, (0, xs.2.2.2.2.2.2.2.1)), (9, (0, xs.2.2.2.2.2.2.2.2.1))] [(0, xs.2.2.2.2.2.2.2.2.2)] | 7 => bJ κ s0 183 [(0, (2, xs.1)), (1, (0, xs.2.1)), (2, (0, xs.2.2.1)), (3, (0, xs.2.2.2.1)), (4, (0, xs.2.2.2.2.1)), (8, (0, xs.2.2.2.2.2.1))] [] | _ => True) ?_ b (x0, x1, x2, x3, x4, x5, x6, x7, x8, x9) s0 _ h rfl
  intro f' ih b xs s0 r h hr
  subst hr
  match b, xs, h with
  | 0, (x0, x1, x2, x3, x4, x5, x6, x7, x8, x9), h =>
      show bJ κ s0 14 [(0, (2, x0))] []
      refine r_aload_n hκ 0 rfl rfl dX12_differ_14 ?_
      refine r_bipush hκ (by decide) dX12_differ_15 ?_
      obtain ⟨h15, h⟩ := bck_i h
      obtain ⟨s7, v7, h16, h⟩ := bcl_i h
      refine r_callV hκ (n' := 1) (index := 183) (w_X12_refused Γ0 l0 h16) (lw_V q3159 q3161 qs73 q146 q3162) (by decide +kernel) (t := 10) h15 rfl rfl (by decide) rfl (Nat.le_of_ble_eq_true rfl) dX12_differ_17 ?_
      exact r_iretH hκ hf h (nar_int _) dX12_differ_20
  | 1, (x0, x1, x2, x3, x4, x5, x6, x7, x8, x9), h =>
      show bJ κ s0 37 [(0, (2, x0))] []
      refine r_aload_n hκ 0 rfl rfl dX12_differ_37 ?_
      refine r_bipush hκ (by decide) dX12_differ_38 ?_
      obtain ⟨h17, h⟩ := bck_i h
      obtain ⟨s8, v8, h18, h⟩ := bcl_i h
      refine r_callV hκ (n' := 1) (index := 183) (w_X12_refused Γ0 l0 h18) (lw_V q3159 q3161 qs73 q146 q3162) (by decide +kernel) (t := 10) h17 rfl rfl (by decide) rfl (Nat.le_of_ble_eq_true rfl) dX12_differ_40 ?_
      exact r_iretH hκ hf h (nar_int _) dX12_differ_43
  | 2, (x0, x1, x2, x3, x4, x5, x6, x7, x8, x9), h =>
      show bJ κ s0 61 [(0, (2, x0)), (1, (0, x1)), (2, (0, x2)), (3, (0, x3)), (4, (0, x4))] []
      refine r_iload hκ 4 rfl dX12_differ_61 ?_
      refine r_iload_n hκ 3 rfl rfl dX12_differ_63 ?_
      refine r_icmp_ge hκ (tgt := 197) (by decide) dX12_differ_64 (fun h19 => ?_) (fun h19 => ?_)
      · replace h := (bte_i h).1 h19
        refine r_iconst hκ dX12_differ_197 ?_
        exact r_iretH hκ hf h (nar_int _) dX12_differ_198
      · replace h := (bte_i h).2 h19
        refine r_aload_n hκ 0 rfl rfl dX12_differ_67 ?_
        refine r_iload_n hκ 1 rfl rfl dX12_differ_68 ?_
        refine r_iload hκ 4 rfl dX12_differ_69 ?_
        obtain ⟨h20, h⟩ := bck_i h
        obtain ⟨s9, v9, h21, h⟩ := bcl_i h
        refine r_callV hκ (n' := 2) (index := 242) (w_X12_beginOf Γ0 l0 h21) (lw_V q3254 q3256 qs86 q146 q3257) (by decide +kernel) (t := 10) h20 rfl rfl (by decide) rfl (Nat.le_of_ble_eq_true rfl) dX12_differ_71 ?_
        refine r_istore hκ (L2 := [(5, (0, v9)), (0, (2, x0)), (1, (0, x1)), (2, (0, x2)), (3, (0, x3)), (4, (0, x4))]) (by decide) rfl dX12_differ_74 ?_
        refine r_aload_n hκ 1 rfl rfl dX12_differ_76 ?_
        refine r_iload_n hκ 3 rfl rfl dX12_differ_77 ?_
        refine r_iload hκ 5 rfl dX12_differ_78 ?_
        obtain ⟨h22, h⟩ := bck_i h
        obtain ⟨s10, v10, h23, h⟩ := bcl_i h
        refine r_callV hκ (n' := 2) (index := 242) (w_X12_beginOf Γ0 l0 h23) (lw_V q3254 q3256 qs86 q146 q3257) (by decide +kernel) (t := 10) h22 rfl rfl (by decide) rfl (Nat.le_of_ble_eq_true rfl) dX12_differ_80 ?_
        refine r_istore hκ (L2 := [(6, (0, v10)), (5, (0, v9)), (0, (2, x0)), (1, (0, x1)), (2, (0, x2)), (3, (0, x3)), (4, (0, x4))]) (by decide) rfl dX12_differ_83 ?_
        refine r_aload_n hκ 2 rfl rfl dX12_differ_85 ?_
        refine r_iload_n hκ 3 rfl rfl dX12_differ_86 ?_
        refine r_iload hκ 6 rfl dX12_differ_87 ?_
        refine r_iconst hκ dX12_differ_89 ?_
        refine r_iadd hκ dX12_differ_90 ?_
        obtain ⟨h24, h⟩ := bck_i h
        obtain ⟨s11, v11, h25, h⟩ := bcl_i h
        refine r_callV hκ (n' := 2) (index := 242) (w_X12_beginOf Γ0 l0 h25) (lw_V q3254 q3256 qs86 q146 q3257) (by decide +kernel) (t := 10) h24 rfl rfl (by decide) rfl (Nat.le_of_ble_eq_true rfl) dX12_differ_91 ?_
        refine r_iload hκ 1 rfl dX12_differ_94 ?_
        refine r_isub hκ dX12_differ_96 ?_
        refine r_istore hκ (L2 := [(7, (0, (v11 - v9))), (6, (0, v10)), (5, (0, v9)), (0, (2, x0)), (1, (0, x1)), (2, (0, x2)), (3, (0, x3)), (4, (0, x4))]) (by decide) rfl dX12_differ_97 ?_
        refine r_iload hκ 0 rfl dX12_differ_99 ?_
        refine r_aload_n hκ 3 rfl rfl dX12_differ_101 ?_
        refine r_iload_n hκ 5 rfl rfl dX12_differ_102 ?_
        refine r_iload hκ 7 rfl dX12_differ_103 ?_
        refine r_iconst hκ dX12_differ_105 ?_
        refine r_iadd hκ dX12_differ_106 ?_
        obtain ⟨h26, h⟩ := bck_i h
        obtain ⟨s12, v12, h27, h⟩ := bcl_i h
        refine r_callV hκ (n' := 2) (index := 242) (w_X12_beginOf Γ0 l0 h27) (lw_V q3254 q3256 qs86 q146 q3257) (by decide +kernel) (t := 10) h26 rfl rfl (by decide) rfl (Nat.le_of_ble_eq_true rfl) dX12_differ_107 ?_
        refine r_iload hκ 1 rfl dX12_differ_110 ?_
        refine r_isub hκ dX12_differ_112 ?_
        refine r_icmp_ne hκ (tgt := 125) (by decide) dX12_differ_113 (fun h28 => ?_) (fun h28 => ?_)
        · replace h := (bte_i h).2 h28
          exact r_sub [3, 4, 5, 6, 7, 2, 1, 0] rfl (ih 3 _ _ _ h rfl)
        · replace h := (bte_i h).1 h28
          refine r_iload hκ 0 rfl dX12_differ_116 ?_
          refine r_if_le hκ (tgt := 125) (by decide) dX12_differ_118 (fun h29 => ?_) (fun h29 => ?_)
          · replace h := (bte_i h).1 h29
            exact r_sub [3, 4, 5, 6, 7, 2, 1, 0] rfl (ih 3 _ _ _ h rfl)
          · replace h := (bte_i h).2 h29
            refine r_iconst hκ dX12_differ_121 ?_
            refine r_goto hκ (tgt := 126) (by decide) dX12_differ_122 ?_
            exact r_sub [3, 4, 5, 6, 7, 2, 1, 0] rfl (ih 4 _ _ _ h rfl)
  | 3, (x0, x1, x2, x3, x4, x5, x6, x7, x8, x9), h =>
      show bJ κ s0 125 [(0, (2, x0)), (1, (0, x1)), (2, (0, x2)), (3, (0, x3)), (4, (0, x4)), (5, (0, x5)), (6, (0, x6)), (7, (0, x7))] []
      refine r_iconst hκ dX12_differ_125 ?_
      exact r_sub [0, 1, 2, 3, 4, 5, 6, 7] rfl (ih 4 _ _ _ h rfl)
  | 4, (x0, x1, x2, x3, x4, x5, x6, x7, x8, x9), h =>
      show bJ κ s0 126 [(0, (2, x0)), (1, (0, x1)), (2, (0, x2)), (3, (0, x3)), (4, (0, x4)), (5, (0, x5)), (6, (0, x6)), (7, (0, x7))] [(0, x8)]
      refine r_istore hκ (L2 := [(8, (0, x8)), (0, (2, x0)), (1, (0, x1)), (2, (0, x2)), (3, (0, x3)), (4, (0, x4)), (5, (0, x5)), (6, (0, x6)), (7, (0, x7))]) (by decide) rfl dX12_differ_126 ?_
      refine r_iconst hκ dX12_differ_128 ?_
      refine r_istore hκ (L2 := [(9, (0, 0)), (8, (0, x8)), (0, (2, x0)), (1, (0, x1)), (2, (0, x2)), (3, (0, x3)), (4, (0, x4)), (5, (0, x5)), (6, (0, x6)), (7, (0, x7))]) (by decide) rfl dX12_differ_129 ?_
      exact r_sub [2, 3, 4, 5, 6, 7, 8, 9, 1, 0] rfl (ih 5 _ _ _ h rfl)
  | 5, (x0, x1, x2, x3, x4, x5, x6, x7, x8, x9), h =>
      show bJ κ s0 131 [(0, (2, x0)), (1, (0, x1)), (2, (0, x2)), (3, (0, x3)), (4, (0, x4)), (5, (0, x5)), (6, (0, x6)), (7, (0, x7)), (8, (0, x8)), (9, (0, x9))] []
      refine r_iload hκ 8 rfl dX12_differ_131 ?_
      refine r_if_eq hκ (tgt := 183) (by decide) dX12_differ_133 (fun h30 => ?_) (fun h30 => ?_)
      · replace h := (bte_i h).1 h30
        exact r_sub [0, 1, 2, 3, 4, 8] rfl (ih 7 _ _ _ h rfl)
      · replace h := (bte_i h).2 h30
        refine r_iload hκ 9 rfl dX12_differ_136 ?_
        refine r_iload hκ 7 rfl dX12_differ_138 ?_
        refine r_icmp_ge hκ (tgt := 183) (by decide) dX12_differ_140 (fun h31 => ?_) (fun h31 => ?_)
        · replace h := (bte_i h).1 h31
          exact r_sub [0, 1, 2, 3, 4, 8] rfl (ih 7 _ _ _ h rfl)
        · replace h := (bte_i h).2 h31
          refine r_aload_n hκ 0 rfl rfl dX12_differ_143 ?_
          obtain ⟨h32, h⟩ := bck_i h
          refine r_get hκ (t := 10) (k := 0) (r := 214) h32 rfl in_X12 (by decide) rfl q3051 (Or.inl rfl) dX12_differ_144 ?_
          refine r_iload_n hκ 1 rfl rfl dX12_differ_147 ?_
          obtain ⟨⟨h33, h34⟩, h⟩ := bck_i h
          refine r_aald hκ (t := 10) (by decide) h33 h34 dX12_differ_148 ?_
          refine r_iload hκ 5 rfl dX12_differ_149 ?_
          refine r_iload hκ 9 rfl dX12_differ_151 ?_
          refine r_iadd hκ dX12_differ_153 ?_
          obtain ⟨⟨h35, h36⟩, h⟩ := bck_i h
          refine r_iald hκ h35 h36 dX12_differ_154 ?_
          refine r_aload_n hκ 0 rfl rfl dX12_differ_155 ?_
          obtain ⟨h37, h⟩ := bck_i h
          refine r_get hκ (t := 10) (k := 0) (r := 214) h37 rfl in_X12 (by decide) rfl q3051 (Or.inl rfl) dX12_differ_156 ?_
          refine r_iload_n hκ 2 rfl rfl dX12_differ_159 ?_
          obtain ⟨⟨h38, h39⟩, h⟩ := bck_i h
          refine r_aald hκ (t := 10) (by decide) h38 h39 dX12_differ_160 ?_
          refine r_iload hκ 6 rfl dX12_differ_161 ?_
          refine r_iload hκ 9 rfl dX12_differ_163 ?_
          refine r_iadd hκ dX12_differ_165 ?_
          obtain ⟨⟨h40, h41⟩, h⟩ := bck_i h
          refine r_iald hκ h40 h41 dX12_differ_166 ?_
          refine r_icmp_ne hκ (tgt := 174) (by decide) dX12_differ_167 (fun h42 => ?_) (fun h42 => ?_)
          · replace h := (bte_i h).2 h42
            refine r_iconst hκ dX12_differ_174 ?_
            exact r_sub [0, 1, 2, 3, 4, 5, 6, 7, 9] rfl (ih 6 _ _ _ h rfl)
          · replace h := (bte_i h).1 h42
            refine r_iconst hκ dX12_differ_170 ?_
            refine r_goto hκ (tgt := 175) (by decide) dX12_differ_171 ?_
            exact r_sub [0, 1, 2, 3, 4, 5, 6, 7, 9] rfl (ih 6 _ _ _ h rfl)
  | 6, (x0, x1, x2, x3, x4, x5, x6, x7, x8, x9), h =>
      show bJ κ s0 175 [(0, (2, x0)), (1, (0, x1)), (2, (0, x2)), (3, (0, x3)), (4, (0, x4)), (5, (0, x5)), (6, (0, x6)), (7, (0, x7)), (9, (0, x8))] [(0, x9)]
      refine r_istore hκ (L2 := [(8, (0, x9)), (0, (2, x0)), (1, (0, x1)), (2, (0, x2)), (3, (0, x3)), (4, (0, x4)), (5, (0, x5)), (6, (0, x6)), (7, (0, x7)), (9, (0, x8))]) (by decide) rfl dX12_differ_175 ?_
      refine r_iinc hκ (L2 := [(9, (0, (x8 + 1))), (8, (0, x9)), (0, (2, x0)), (1, (0, x1)), (2, (0, x2)), (3, (0, x3)), (4, (0, x4)), (5, (0, x5)), (6, (0, x6)), (7, (0, x7))]) 9 rfl (by decide) rfl dX12_differ_177 ?_
      refine r_goto hκ (tgt := 131) (by decide) dX12_differ_180 ?_
      exact r_sub [2, 3, 4, 5, 6, 7, 8, 9, 1, 0] rfl (ih 5 _ _ _ h rfl)
  | 7, (x0, x1, x2, x3, x4, x5, x6, x7, x8, x9), h =>
      show bJ κ s0 183 [(0, (2, x0)), (1, (0, x1)), (2, (0, x2)), (3, (0, x3)), (4, (0, x4)), (8, (0, x5))] []
      refine r_iload hκ 5 rfl dX12_differ_183 ?_
      refine r_if_ne hκ (tgt := 191) (by decide) dX12_differ_185 (fun h43 => ?_) (fun h43 => ?_)
      · replace h := (bte_i h).2 h43
        refine r_iinc hκ (L2 := [(4, (0, (x4 + 1))), (0, (2, x0)), (1, (0, x1)), (2, (0, x2)), (3, (0, x3)), (8, (0, x5))]) 4 rfl (by decide) rfl dX12_differ_191 ?_
        refine r_goto hκ (tgt := 61) (by decide) dX12_differ_194 ?_
        exact r_sub [1, 2, 3, 4, 0] rfl (ih 2 _ _ _ h rfl)
      · replace h := (bte_i h).1 h43
        refine r_iload hκ 4 rfl dX12_differ_188 ?_
        exact r_iretH hκ hf h (nar_int _) dX12_differ_190
  | b + 8, _, h => trivial
set_option maxHeartbeats 4000000 in
set_option maxRecDepth 100000 in
theorem w_X12_differ (Γ0 : bG) (l0 : Launch) {s0 st' : bS} {v a0 a1 a2 : Int} (h : F_X12_differ s0 a0 a1 a2 = some (st', v)) : bCt Γ0 l0 yX12_differ cX12_differ 10 (some .int) 3 65 [(2, a0), (0, a1), (0, a2)] s0 st' (some (0, v)) := by
  refine b_ent (own := RX12) (by decide +kernel) rfl (Nat.le_of_ble_eq_true rfl) (L := [(0, (2, a0)), (1, (0, a1)), (2, (0, a2))]) rfl ?_
  intro κ hκ hi hf
  unfold F_X12_differ at h
  refine r_iload_n hκ 1 rfl rfl dX12_differ_0 ?_
  obtain ⟨s1, v1, h1, h⟩ := bcl_i h
  refine r_callS hκ (n' := 1) (index := 211) (w_X12_isEdit Γ0 l0 h1) (lw_S q3171 q3172 q146 q3173) (by decide +kernel) rfl (by decide) rfl (Nat.le_of_ble_eq_true rfl) dX12_differ_1 ?_
  refine r_if_eq hκ (tgt := 14) (by decide) dX12_differ_4 (fun h2 => ?_) (fun h2 => ?_)
  · replace h := (bte_i h).1 h2
    exact r_sub [0] rfl (w_X12_differ_r hκ hi hf 0 _ _ _ _ _ _ _ _ _ _ _ h)
  · replace h := (bte_i h).2 h2
    refine r_iload_n hκ 2 rfl rfl dX12_differ_7 ?_
    obtain ⟨s2, v2, h3, h⟩ := bcl_i h
    refine r_callS hκ (n' := 1) (index := 211) (w_X12_isEdit Γ0 l0 h3) (lw_S q3171 q3172 q146 q3173) (by decide +kernel) rfl (by decide) rfl (Nat.le_of_ble_eq_true rfl) dX12_differ_8 ?_
    refine r_if_ne hκ (tgt := 21) (by decide) dX12_differ_11 (fun h4 => ?_) (fun h4 => ?_)
    · replace h := (bte_i h).2 h4
      refine r_aload_n hκ 0 rfl rfl dX12_differ_21 ?_
      refine r_iload_n hκ 1 rfl rfl dX12_differ_22 ?_
      obtain ⟨h5, h⟩ := bck_i h
      obtain ⟨s3, v3, h6, h⟩ := bcl_i h
      refine r_callV hκ (n' := 1) (index := 230) (w_X12_isKept Γ0 l0 h6) (lw_V q3230 q3232 qs82 q146 q3233) (by decide +kernel) (t := 10) h5 rfl rfl (by decide) rfl (Nat.le_of_ble_eq_true rfl) dX12_differ_23 ?_
      refine r_if_eq hκ (tgt := 37) (by decide) dX12_differ_26 (fun h7 => ?_) (fun h7 => ?_)
      · replace h := (bte_i h).1 h7
        exact r_sub [0] rfl (w_X12_differ_r hκ hi hf 1 _ _ _ _ _ _ _ _ _ _ _ h)
      · replace h := (bte_i h).2 h7
        refine r_aload_n hκ 0 rfl rfl dX12_differ_29 ?_
        refine r_iload_n hκ 2 rfl rfl dX12_differ_30 ?_
        obtain ⟨h8, h⟩ := bck_i h
        obtain ⟨s4, v4, h9, h⟩ := bcl_i h
        refine r_callV hκ (n' := 1) (index := 230) (w_X12_isKept Γ0 l0 h9) (lw_V q3230 q3232 qs82 q146 q3233) (by decide +kernel) (t := 10) h8 rfl rfl (by decide) rfl (Nat.le_of_ble_eq_true rfl) dX12_differ_31 ?_
        refine r_if_ne hκ (tgt := 44) (by decide) dX12_differ_34 (fun h10 => ?_) (fun h10 => ?_)
        · replace h := (bte_i h).2 h10
          refine r_aload_n hκ 0 rfl rfl dX12_differ_44 ?_
          refine r_iload_n hκ 1 rfl rfl dX12_differ_45 ?_
          obtain ⟨h11, h⟩ := bck_i h
          obtain ⟨s5, v5, h12, h⟩ := bcl_i h
          refine r_callV hκ (n' := 1) (index := 221) (w_X12_parts Γ0 l0 h12) (lw_V q3218 q3220 qs81 q146 q3221) (by decide +kernel) (t := 10) h11 rfl rfl (by decide) rfl (Nat.le_of_ble_eq_true rfl) dX12_differ_46 ?_
          refine r_aload_n hκ 0 rfl rfl dX12_differ_49 ?_
          refine r_iload_n hκ 2 rfl rfl dX12_differ_50 ?_
          obtain ⟨h13, h⟩ := bck_i h
          obtain ⟨s6, v6, h14, h⟩ := bcl_i h
          refine r_callV hκ (n' := 1) (index := 221) (w_X12_parts Γ0 l0 h14) (lw_V q3218 q3220 qs81 q146 q3221) (by decide +kernel) (t := 10) h13 rfl rfl (by decide) rfl (Nat.le_of_ble_eq_true rfl) dX12_differ_51 ?_
          refine r_mmax hκ q3335 q1037 q161 q1038 (by decide) (Nat.le_of_ble_eq_true rfl) dX12_differ_54 ?_
          refine r_istore_n hκ (L2 := [(3, (0, (b_max v5 v6))), (0, (2, a0)), (1, (0, a1)), (2, (0, a2))]) (by decide) rfl rfl dX12_differ_57 ?_
          refine r_iconst hκ dX12_differ_58 ?_
          refine r_istore hκ (L2 := [(4, (0, 0)), (3, (0, (b_max v5 v6))), (0, (2, a0)), (1, (0, a1)), (2, (0, a2))]) (by decide) rfl dX12_differ_59 ?_
          exact r_sub [2, 3, 4, 1, 0] rfl (w_X12_differ_r hκ hi hf 2 _ _ _ _ _ _ _ _ _ _ _ h)
        · replace h := (bte_i h).1 h10
          exact r_sub [0] rfl (w_X12_differ_r hκ hi hf 1 _ _ _ _ _ _ _ _ _ _ _ h)
    · replace h := (bte_i h).1 h4
      exact r_sub [0] rfl (w_X12_differ_r hκ hi hf 0 _ _ _ _ _ _ _ _ _ _ _ h)
/-- EditsMeetModel.goesAlong(IIZ)I -/
def F_X12_goesAlong_r (b : Nat) (x0 x1 x2 x3 x4 x5 x6 x7 : Int) (s0 : bS) : Option (bS × Int) :=
  match b with
  | 0 =>
    bck (bg s0 0 x0 0 = 11) <|
    bck (bg s0 0 (bg s0 254 x0 0) 0 = 1003 ∧ (0 : Int) ≤ x2 ∧ x2 < bg s0 4 (bg s0 254 x0 0) 0) <|
    bte (i32 (bg s0 20 (bg s0 254 x0 0) x2) ≤ i32 x6)
    (some (s0, x5))
    (bck (bg s0 0 x0 0 = 11) <|
    bck (bg s0 0 (bg s0 250 x0 0) 0 = 1010 ∧ (0 : Int) ≤ x2 ∧ x2 < bg s0 4 (bg s0 250 x0 0) 0) <|
    bck (bg s0 0 (bg s0 10 (bg s0 250 x0 0) x2) 0 = 1003 ∧ (0 : Int) ≤ x6 ∧ x6 < bg s0 4 (bg s0 10 (bg s0 250 x0 0) x2) 0) <|
    bcl (F_X12_kind s0 (bg s0 20 (bg s0 10 (bg s0 250 x0 0) x2) x6)) fun s1 v1 =>
    bte (i32 v1 = i32 1048576)
    (bte (i32 x4 < i32 x1)
    (F_X12_goesAlong_r 1 x0 x1 x2 x3 x4 x6 x5 0 s1)
    (bte (i32 x3 = 0)
    (F_X12_goesAlong_r 2 x0 x1 x2 x3 x4 x6 x5 0 s1)
    (bte (i32 x4 = i32 x1)
    (F_X12_goesAlong_r 1 x0 x1 x2 x3 x4 x6 x5 0 s1)
    (F_X12_goesAlong_r 2 x0 x1 x2 x3 x4 x6 x5 0 s1))))
    (bte (i32 v1 = i32 3145728)
    (bte (i32 x1 ≤ i32 x4)
    (F_X12_goesAlong_r 4 x0 x1 x2 x3 x4 x6 x5 0 s1)
    (F_X12_goesAlong_r 5 x0 x1 x2 x3 x4 x6 1 x5 s1))
    (F_X12_goesAlong_r 4 x0 x1 x2 x3 x4 x6 x5 0 s1)))
  | 1 =>
    F_X12_goesAlong_r 3 x0 x1 x2 x3 x4 x5 1 x6 s0
  | 2 =>
    F_X12_goesAlong_r 3 x0 x1 x2 x3 x4 x5 0 x6 s0
  | 3 =>
    F_X12_goesAlong_r 6 x0 x1 x2 x3 x4 (x7 + x6) x5 0 s0
  | 4 =>
    F_X12_goesAlong_r 5 x0 x1 x2 x3 x4 x5 0 x6 s0
  | 5 =>
    F_X12_goesAlong_r 6 x0 x1 x2 x3 (x4 + 1) (x7 - x6) x5 0 s0
  | 6 =>
    F_X12_goesAlong_r 0 x0 x1 x2 x3 x4 x5 (x6 + 1) 0 s0
  | _ => none
partial_fixpoint
def F_X12_goesAlong (s0 : bS) (a0 a1 a2 a3 : Int) : Option (bS × Int) :=
  F_X12_goesAlong_r 0 a0 a1 a2 a3 0 a1 0 0 s0
set_option maxHeartbeats 4000000 in
set_option maxRecDepth 100000 in
set_option synthInstance.maxHeartbeats 4000000 in
theorem w_X12_goesAlong_r {Γ0 : bG} {l0 : Launch} {κ : bK} {st' : bS} {v : Int} (hκ : bOk κ Γ0 l0 cX12_goesAlong RX12 8 1 20) (hi : bIn κ yX12_goesAlong) (hf : bFin κ (some .int) st' (some (0, v))) (b : Nat) (x0 x1 x2 x3 x4 x5 x6 x7 : Int) (s0 : bS) (h : F_X12_goesAlong_r b x0 x1 x2 x3 x4 x5 x6 x7 s0 = some (st', v)) : match (generalizing := false) b with | 0 => bJ κ s0 9 [(0, (2, x0)), (1, (0, x1)), (2, (0, x2)), (3, (0, x3)), (4, (0, x4)), (5, (0, x5)), (6, (0, x6))] [] | 1 => bJ κ s0 59 [(0, (2, x0)), (1, (0, x1)), (2, (0, x2)), (3, (0, x3)), (4, (0, x4)), (6, (0, x5))] [(0, x6)] | 2 => bJ κ s0 63 [(0, (2, x0)), (1, (0, x1)), (2, (0, x2)), (3, (0, x3)), (4, (0, x4)), (6, (0, x5))] [(0, x6)] | 3 => bJ κ s0 64 [(0, (2, x0)), (1, (0, x1)), (2, (0, x2)), (3, (0, x3)), (4, (0, x4)), (6, (0, x5))] [(0, x6), (0, x7)] | 4 => bJ κ s0 89 [(0, (2, x0)), (1, (0, x1)), (2, (0, x2)), (3, (0, x3)), (4, (0, x4)), (6, (0, x5))] [(0, x6)] | 5 => bJ κ s0 90 [(0, (2, x0)), (1, (0, x1)), (2, (0, x2)), (3, (0, x3)), (4, (0, x4)), (6, (0, x5))] [(0, x6), (0, x7)] | 6 => bJ κ s0 96 [(0, (2, x0)), (1, (0, x1)), (2, (0, x2)), (3, (0, x3)), (4, (0, x4)), (5, (0, x5)), (6, (0, x6))] [] | _ => True := by
  refine F_X12_goesAlong_r.partial_correctness x0 x1 x2 x3 (fun b x4 x5 x6 x7 s0 r => r = (st', v) → match (generalizing := false) b with | 0 => bJ κ s0 9 [(0, (2, x0)), (1, (0, x1)), (2, (0, x2)), (3, (0, x3)), (4, (0, x4)), (5, (0, x5)), (6, (0, x6))] [] | 1 => bJ κ s0 59 [(0, (2, x0)), (1, (0, x1)), (2, (0, x2)), (3, (0, x3)), (4, (0, x4)), (6, (0, x5))] [(0, x6)] | 2 => bJ κ s0 63 [(0, (2, x0)), (1, (0, x1)), (2, (0, x2)), (3, (0, x3)), (4, (0, x4)), (6, (0, x5))] [(0, x6)] | 3 => bJ κ s0 64 [(0, (2, x0)), (1, (0, x1)), (2, (0, x2)), (3, (0, x3)), (4, (0, x4)), (6, (0, x5))] [(0, x6), (0, x7)] | 4 => bJ κ s0 89 [(0, (2, x0)), (1, (0, x1)), (2, (0, x2)), (3, (0, x3)), (4, (0, x4)), (6, (0, x5))] [(0, x6)] | 5 => bJ κ s0 90 [(0, (2, x0)), (1, (0, x1)), (2, (0, x2)), (3, (0, x3)), (4, (0, x4)), (6, (0, x5))] [(0, x6), (0, x7)] | 6 => bJ κ s0 96 [(0, (2, x0)), (1, (0, x1)), (2, (0, x2)), (3, (0, x3)), (4, (0, x4)), (5, (0, x5)), (6, (0, x6))] [] | _ => True) ?_ b x4 x5 x6 x7 s0 _ h rfl
  intro f' ih b x4 x5 x6 x7 s0 r h hr
  subst hr
  match b, h with
  | 0, h =>
      refine r_iload hκ 6 rfl dX12_goesAlong_9 ?_
      refine r_aload_n hκ 0 rfl rfl dX12_goesAlong_11 ?_
      obtain ⟨h1, h⟩ := bck_i h
      refine r_get hκ (t := 10) (k := 10) (r := 254) h1 rfl in_X12 (by decide) rfl q3061 (Or.inl rfl) dX12_goesAlong_12 ?_
      refine r_iload_n hκ 2 rfl rfl dX12_goesAlong_15 ?_
      obtain ⟨⟨h2, h3⟩, h⟩ := bck_i h
      refine r_iald hκ h2 h3 dX12_goesAlong_16 ?_
      refine r_icmp_ge hκ (tgt := 102) (by decide) dX12_goesAlong_17 (fun h4 => ?_) (fun h4 => ?_)
      · replace h := (bte_i h).1 h4
        refine r_iload hκ 5 rfl dX12_goesAlong_102 ?_
        exact r_iretH hκ hf h (nar_int _) dX12_goesAlong_104
      · replace h := (bte_i h).2 h4
        refine r_aload_n hκ 0 rfl rfl dX12_goesAlong_20 ?_
        obtain ⟨h5, h⟩ := bck_i h
        refine r_get hκ (t := 10) (k := 9) (r := 250) h5 rfl in_X12 (by decide) rfl q3060 (Or.inl rfl) dX12_goesAlong_21 ?_
        refine r_iload_n hκ 2 rfl rfl dX12_goesAlong_24 ?_
        obtain ⟨⟨h6, h7⟩, h⟩ := bck_i h
        refine r_aald hκ (t := 10) (by decide) h6 h7 dX12_goesAlong_25 ?_
        refine r_iload hκ 6 rfl dX12_goesAlong_26 ?_
        obtain ⟨⟨h8, h9⟩, h⟩ := bck_i h
        refine r_iald hκ h8 h9 dX12_goesAlong_28 ?_
        obtain ⟨s1, v1, h10, h⟩ := bcl_i h
        refine r_callS hκ (n' := 1) (index := 104) (w_X12_kind Γ0 l0 h10) (lw_S q3203 q3204 q146 q3205) (by decide +kernel) rfl (by decide) rfl (Nat.le_of_ble_eq_true rfl) dX12_goesAlong_29 ?_
        refine r_istore hκ (L2 := [(7, (0, v1)), (0, (2, x0)), (1, (0, x1)), (2, (0, x2)), (3, (0, x3)), (4, (0, x4)), (5, (0, x5)), (6, (0, x6))]) (by decide) rfl dX12_goesAlong_32 ?_
        refine r_iload hκ 0 rfl dX12_goesAlong_34 ?_
        refine r_ldci hκ (x := 1048576) q3185 (by decide) dX12_goesAlong_36 ?_
        refine r_icmp_ne hκ (tgt := 70) (by decide) dX12_goesAlong_38 (fun h11 => ?_) (fun h11 => ?_)
        · replace h := (bte_i h).2 h11
          refine r_iload hκ 6 rfl dX12_goesAlong_70 ?_
          refine r_iload hκ 0 rfl dX12_goesAlong_72 ?_
          refine r_ldci hκ (x := 3145728) q3197 (by decide) dX12_goesAlong_74 ?_
          refine r_icmp_ne hκ (tgt := 89) (by decide) dX12_goesAlong_76 (fun h12 => ?_) (fun h12 => ?_)
          · replace h := (bte_i h).2 h12
            exact r_sub [1, 2, 3, 4, 5, 7] rfl (ih 4 _ _ _ _ _ _ h rfl)
          · replace h := (bte_i h).1 h12
            refine r_iload hκ 5 rfl dX12_goesAlong_79 ?_
            refine r_iload_n hκ 2 rfl rfl dX12_goesAlong_81 ?_
            refine r_icmp_ge hκ (tgt := 89) (by decide) dX12_goesAlong_82 (fun h13 => ?_) (fun h13 => ?_)
            · replace h := (bte_i h).1 h13
              exact r_sub [1, 2, 3, 4, 5, 7] rfl (ih 4 _ _ _ _ _ _ h rfl)
            · replace h := (bte_i h).2 h13
              refine r_iconst hκ dX12_goesAlong_85 ?_
              refine r_goto hκ (tgt := 90) (by decide) dX12_goesAlong_86 ?_
              exact r_sub [1, 2, 3, 4, 5, 7] rfl (ih 5 _ _ _ _ _ _ h rfl)
        · replace h := (bte_i h).1 h11
          refine r_iload hκ 6 rfl dX12_goesAlong_41 ?_
          refine r_iload hκ 5 rfl dX12_goesAlong_43 ?_
          refine r_iload_n hκ 2 rfl rfl dX12_goesAlong_45 ?_
          refine r_icmp_lt hκ (tgt := 59) (by decide) dX12_goesAlong_46 (fun h14 => ?_) (fun h14 => ?_)
          · replace h := (bte_i h).1 h14
            exact r_sub [1, 2, 3, 4, 5, 7] rfl (ih 1 _ _ _ _ _ _ h rfl)
          · replace h := (bte_i h).2 h14
            refine r_iload_n hκ 4 rfl rfl dX12_goesAlong_49 ?_
            refine r_if_eq hκ (tgt := 63) (by decide) dX12_goesAlong_50 (fun h15 => ?_) (fun h15 => ?_)
            · replace h := (bte_i h).1 h15
              exact r_sub [1, 2, 3, 4, 5, 7] rfl (ih 2 _ _ _ _ _ _ h rfl)
            · replace h := (bte_i h).2 h15
              refine r_iload hκ 5 rfl dX12_goesAlong_53 ?_
              refine r_iload_n hκ 2 rfl rfl dX12_goesAlong_55 ?_
              refine r_icmp_ne hκ (tgt := 63) (by decide) dX12_goesAlong_56 (fun h16 => ?_) (fun h16 => ?_)
              · replace h := (bte_i h).2 h16
                exact r_sub [1, 2, 3, 4, 5, 7] rfl (ih 2 _ _ _ _ _ _ h rfl)
              · replace h := (bte_i h).1 h16
                exact r_sub [1, 2, 3, 4, 5, 7] rfl (ih 1 _ _ _ _ _ _ h rfl)
  | 1, h =>
      refine r_iconst hκ dX12_goesAlong_59 ?_
      refine r_goto hκ (tgt := 64) (by decide) dX12_goesAlong_60 ?_
      exact r_sub [0, 1, 2, 3, 4, 5] rfl (ih 3 _ _ _ _ _ _ h rfl)
  | 2, h =>
      refine r_iconst hκ dX12_goesAlong_63 ?_
      exact r_sub [0, 1, 2, 3, 4, 5] rfl (ih 3 _ _ _ _ _ _ h rfl)
  | 3, h =>
      refine r_iadd hκ dX12_goesAlong_64 ?_
      refine r_istore hκ (L2 := [(5, (0, (x7 + x6))), (0, (2, x0)), (1, (0, x1)), (2, (0, x2)), (3, (0, x3)), (4, (0, x4)), (6, (0, x5))]) (by decide) rfl dX12_goesAlong_65 ?_
      refine r_goto hκ (tgt := 96) (by decide) dX12_goesAlong_67 ?_
      exact r_sub [1, 2, 3, 4, 5, 0, 6] rfl (ih 6 _ _ _ _ _ _ h rfl)
  | 4, h =>
      refine r_iconst hκ dX12_goesAlong_89 ?_
      exact r_sub [0, 1, 2, 3, 4, 5] rfl (ih 5 _ _ _ _ _ _ h rfl)
  | 5, h =>
      refine r_isub hκ dX12_goesAlong_90 ?_
      refine r_istore hκ (L2 := [(5, (0, (x7 - x6))), (0, (2, x0)), (1, (0, x1)), (2, (0, x2)), (3, (0, x3)), (4, (0, x4)), (6, (0, x5))]) (by decide) rfl dX12_goesAlong_91 ?_
      refine r_iinc hκ (L2 := [(4, (0, (x4 + 1))), (5, (0, (x7 - x6))), (0, (2, x0)), (1, (0, x1)), (2, (0, x2)), (3, (0, x3)), (6, (0, x5))]) 5 rfl (by decide) rfl dX12_goesAlong_93 ?_
      exact r_sub [2, 3, 4, 5, 0, 1, 6] rfl (ih 6 _ _ _ _ _ _ h rfl)
  | 6, h =>
      refine r_iinc hκ (L2 := [(6, (0, (x6 + 1))), (0, (2, x0)), (1, (0, x1)), (2, (0, x2)), (3, (0, x3)), (4, (0, x4)), (5, (0, x5))]) 6 rfl (by decide) rfl dX12_goesAlong_96 ?_
      refine r_goto hκ (tgt := 9) (by decide) dX12_goesAlong_99 ?_
      exact r_sub [1, 2, 3, 4, 5, 6, 0] rfl (ih 0 _ _ _ _ _ _ h rfl)
  | b + 7, h => trivial
set_option maxHeartbeats 4000000 in
set_option maxRecDepth 100000 in
theorem w_X12_goesAlong (Γ0 : bG) (l0 : Launch) {s0 st' : bS} {v a0 a1 a2 a3 : Int} (h : F_X12_goesAlong s0 a0 a1 a2 a3 = some (st', v)) : bCt Γ0 l0 yX12_goesAlong cX12_goesAlong 8 (some .int) 1 20 [(2, a0), (0, a1), (0, a2), (0, a3)] s0 st' (some (0, v)) := by
  refine b_ent (own := RX12) (by decide +kernel) rfl (Nat.le_of_ble_eq_true rfl) (L := [(0, (2, a0)), (1, (0, a1)), (2, (0, a2)), (3, (0, a3))]) rfl ?_
  intro κ hκ hi hf
  unfold F_X12_goesAlong at h
  refine r_iconst hκ dX12_goesAlong_0 ?_
  refine r_istore hκ (L2 := [(4, (0, 0)), (0, (2, a0)), (1, (0, a1)), (2, (0, a2)), (3, (0, a3))]) (by decide) rfl dX12_goesAlong_1 ?_
  refine r_iload_n hκ 2 rfl rfl dX12_goesAlong_3 ?_
  refine r_istore hκ (L2 := [(5, (0, a1)), (4, (0, 0)), (0, (2, a0)), (1, (0, a1)), (2, (0, a2)), (3, (0, a3))]) (by decide) rfl dX12_goesAlong_4 ?_
  refine r_iconst hκ dX12_goesAlong_6 ?_
  refine r_istore hκ (L2 := [(6, (0, 0)), (5, (0, a1)), (4, (0, 0)), (0, (2, a0)), (1, (0, a1)), (2, (0, a2)), (3, (0, a3))]) (by decide) rfl dX12_goesAlong_7 ?_
  exact r_sub [3, 4, 5, 6, 2, 1, 0] rfl (w_X12_goesAlong_r hκ hi hf 0 _ _ _ _ _ _ _ _ _ h)
/-- EditsMeetModel.st(II)I -/
def F_X12_st (s0 : bS) (a0 a1 a2 : Int) : Option (bS × Int) :=
  bck (bg s0 0 a0 0 = 11) <|
  bck (bg s0 0 (bg s0 234 a0 0) 0 = 1003 ∧ (0 : Int) ≤ ((8 * a1) + a2) ∧ ((8 * a1) + a2) < bg s0 4 (bg s0 234 a0 0) 0) <|
  some (s0, (bg s0 20 (bg s0 234 a0 0) ((8 * a1) + a2)))
set_option maxHeartbeats 4000000 in
set_option maxRecDepth 100000 in
theorem w_X12_st (Γ0 : bG) (l0 : Launch) {s0 st' : bS} {v a0 a1 a2 : Int} (h : F_X12_st s0 a0 a1 a2 = some (st', v)) : bCt Γ0 l0 yX12_st cX12_st 3 (some .int) 0 0 [(2, a0), (0, a1), (0, a2)] s0 st' (some (0, v)) := by
  refine b_ent (own := RX12) (by decide +kernel) rfl (Nat.le_of_ble_eq_true rfl) (L := [(0, (2, a0)), (1, (0, a1)), (2, (0, a2))]) rfl ?_
  intro κ hκ hi hf
  unfold F_X12_st at h
  refine r_aload_n hκ 0 rfl rfl dX12_st_0 ?_
  obtain ⟨h1, h⟩ := bck_i h
  refine r_get hκ (t := 10) (k := 5) (r := 234) h1 rfl in_X12 (by decide) rfl q3056 (Or.inl rfl) dX12_st_1 ?_
  refine r_bipush hκ (by decide) dX12_st_4 ?_
  refine r_iload_n hκ 1 rfl rfl dX12_st_6 ?_
  refine r_imul hκ dX12_st_7 ?_
  refine r_iload_n hκ 2 rfl rfl dX12_st_8 ?_
  refine r_iadd hκ dX12_st_9 ?_
  obtain ⟨⟨h2, h3⟩, h⟩ := bck_i h
  refine r_iald hκ h2 h3 dX12_st_10 ?_
  exact r_iretH hκ hf h (nar_int _) dX12_st_11
/-- EditsMeetModel.cursorGoes(IIZ)V -/
def F_X12_cursorGoes (s0 : bS) (a0 a1 a2 a3 : Int) : Option (bS × Int) :=
  bck (bg s0 0 a0 0 = 11) <|
  bck (bg s0 0 a0 0 = 11) <|
  bcl (F_X12_st s0 a0 a1 6) fun s1 v1 =>
  bck (bg s1 0 a0 0 = 11) <|
  bcl (F_X12_goesAlong s1 a0 v1 a2 a3) fun s2 v2 =>
  bck (bg s2 0 (bg s0 234 a0 0) 0 = 1003 ∧ (0 : Int) ≤ ((8 * a1) + 6) ∧ ((8 * a1) + 6) < bg s2 4 (bg s0 234 a0 0) 0) <|
  bst (bw s2 20 (bg s0 234 a0 0) ((8 * a1) + 6) v2) fun s3 =>
  bck (bg s3 0 a0 0 = 11) <|
  bck (bg s3 0 a0 0 = 11) <|
  bcl (F_X12_st s3 a0 a1 7) fun s4 v3 =>
  bck (bg s4 0 a0 0 = 11) <|
  bcl (F_X12_goesAlong s4 a0 v3 a2 a3) fun s5 v4 =>
  bck (bg s5 0 (bg s3 234 a0 0) 0 = 1003 ∧ (0 : Int) ≤ ((8 * a1) + 7) ∧ ((8 * a1) + 7) < bg s5 4 (bg s3 234 a0 0) 0) <|
  bst (bw s5 20 (bg s3 234 a0 0) ((8 * a1) + 7) v4) fun s6 =>
  some (s6, 0)
set_option maxHeartbeats 4000000 in
set_option maxRecDepth 100000 in
theorem w_X12_cursorGoes (Γ0 : bG) (l0 : Launch) {s0 st' : bS} {v a0 a1 a2 a3 : Int} (h : F_X12_cursorGoes s0 a0 a1 a2 a3 = some (st', v)) : bCt Γ0 l0 yX12_cursorGoes cX12_cursorGoes 4 none 2 47 [(2, a0), (0, a1), (0, a2), (0, a3)] s0 st' none := by
  refine b_ent (own := RX12) (by decide +kernel) rfl (Nat.le_of_ble_eq_true rfl) (L := [(0, (2, a0)), (1, (0, a1)), (2, (0, a2)), (3, (0, a3))]) rfl ?_
  intro κ hκ hi hf
  unfold F_X12_cursorGoes at h
  refine r_aload_n hκ 0 rfl rfl dX12_cursorGoes_0 ?_
  obtain ⟨h1, h⟩ := bck_i h
  refine r_get hκ (t := 10) (k := 5) (r := 234) h1 rfl in_X12 (by decide) rfl q3056 (Or.inl rfl) dX12_cursorGoes_1 ?_
  refine r_bipush hκ (by decide) dX12_cursorGoes_4 ?_
  refine r_iload_n hκ 1 rfl rfl dX12_cursorGoes_6 ?_
  refine r_imul hκ dX12_cursorGoes_7 ?_
  refine r_bipush hκ (by decide) dX12_cursorGoes_8 ?_
  refine r_iadd hκ dX12_cursorGoes_10 ?_
  refine r_aload_n hκ 0 rfl rfl dX12_cursorGoes_11 ?_
  refine r_aload_n hκ 0 rfl rfl dX12_cursorGoes_12 ?_
  refine r_iload_n hκ 1 rfl rfl dX12_cursorGoes_13 ?_
  refine r_bipush hκ (by decide) dX12_cursorGoes_14 ?_
  obtain ⟨h2, h⟩ := bck_i h
  obtain ⟨s1, v1, h3, h⟩ := bcl_i h
  refine r_callV hκ (n' := 2) (index := 135) (w_X12_st Γ0 l0 h3) (lw_V q3360 q3362 qs103 q146 q3363) (by decide +kernel) (t := 10) h2 rfl rfl (by decide) rfl (Nat.le_of_ble_eq_true rfl) dX12_cursorGoes_16 ?_
  refine r_iload_n hκ 2 rfl rfl dX12_cursorGoes_19 ?_
  refine r_iload_n hκ 3 rfl rfl dX12_cursorGoes_20 ?_
  obtain ⟨h4, h⟩ := bck_i h
  obtain ⟨s2, v2, h5, h⟩ := bcl_i h
  refine r_callV hκ (n' := 3) (index := 138) (w_X12_goesAlong Γ0 l0 h5) (lw_V q3364 q3366 qs104 q146 q3367) (by decide +kernel) (t := 10) h4 rfl rfl (by decide) rfl (Nat.le_of_ble_eq_true rfl) dX12_cursorGoes_21 ?_
  obtain ⟨⟨h6, h7⟩, h⟩ := bck_i h
  refine r_iast hκ h6 h7 dX12_cursorGoes_24 (fun s3 es3 => ?_)
  replace h := bst_i h s3 es3
  refine r_aload_n hκ 0 rfl rfl dX12_cursorGoes_25 ?_
  obtain ⟨h8, h⟩ := bck_i h
  refine r_get hκ (t := 10) (k := 5) (r := 234) h8 rfl in_X12 (by decide) rfl q3056 (Or.inl rfl) dX12_cursorGoes_26 ?_
  refine r_bipush hκ (by decide) dX12_cursorGoes_29 ?_
  refine r_iload_n hκ 1 rfl rfl dX12_cursorGoes_31 ?_
  refine r_imul hκ dX12_cursorGoes_32 ?_
  refine r_bipush hκ (by decide) dX12_cursorGoes_33 ?_
  refine r_iadd hκ dX12_cursorGoes_35 ?_
  refine r_aload_n hκ 0 rfl rfl dX12_cursorGoes_36 ?_
  refine r_aload_n hκ 0 rfl rfl dX12_cursorGoes_37 ?_
  refine r_iload_n hκ 1 rfl rfl dX12_cursorGoes_38 ?_
  refine r_bipush hκ (by decide) dX12_cursorGoes_39 ?_
  obtain ⟨h9, h⟩ := bck_i h
  obtain ⟨s4, v3, h10, h⟩ := bcl_i h
  refine r_callV hκ (n' := 2) (index := 135) (w_X12_st Γ0 l0 h10) (lw_V q3360 q3362 qs103 q146 q3363) (by decide +kernel) (t := 10) h9 rfl rfl (by decide) rfl (Nat.le_of_ble_eq_true rfl) dX12_cursorGoes_41 ?_
  refine r_iload_n hκ 2 rfl rfl dX12_cursorGoes_44 ?_
  refine r_iload_n hκ 3 rfl rfl dX12_cursorGoes_45 ?_
  obtain ⟨h11, h⟩ := bck_i h
  obtain ⟨s5, v4, h12, h⟩ := bcl_i h
  refine r_callV hκ (n' := 3) (index := 138) (w_X12_goesAlong Γ0 l0 h12) (lw_V q3364 q3366 qs104 q146 q3367) (by decide +kernel) (t := 10) h11 rfl rfl (by decide) rfl (Nat.le_of_ble_eq_true rfl) dX12_cursorGoes_46 ?_
  obtain ⟨⟨h13, h14⟩, h⟩ := bck_i h
  refine r_iast hκ h13 h14 dX12_cursorGoes_49 (fun s6 es6 => ?_)
  replace h := bst_i h s6 es6
  exact r_vretH hκ hf h dX12_cursorGoes_50
/-- EditsMeetModel.makes(II)V -/
def F_X12_makes_r (b : Nat) (xs : Int × Int × Int × Int × Int × Int × Int × Int × Int) (s0 : bS) : Option (bS × Int) :=
  match b, xs with
  | 0, (x0, x1, x2, x3, x4, x5, _, _, _) =>
    bck (bg s0 0 x0 0 = 11) <|
    bck (bg s0 0 (bg s0 254 x0 0) 0 = 1003 ∧ (0 : Int) ≤ x2 ∧ x2 < bg s0 4 (bg s0 254 x0 0) 0) <|
    bte (i32 (bg s0 20 (bg s0 254 x0 0) x2) ≤ i32 x5)
    (bck (bg s0 0 x0 0 = 11) <|
    bck (bg s0 0 x0 0 = 11) <|
    bck (bg s0 0 (bg s0 226 x0 0) 0 = 1010 ∧ (0 : Int) ≤ x1 ∧ x1 < bg s0 4 (bg s0 226 x0 0) 0) <|
    bcl (F_X12_grown s0 (bg s0 10 (bg s0 226 x0 0) x1) x4) fun s1 v1 =>
    bck ((bg s1 0 (bg s0 226 x0 0) 0 = 1010 ∧ (0 : Int) ≤ x1 ∧ x1 < bg s1 4 (bg s0 226 x0 0) 0) ∧ bg s1 0 v1 0 = 1003) <|
    bst (bw s1 10 (bg s0 226 x0 0) x1 v1) fun s2 =>
    bck (bg s2 0 x0 0 = 11) <|
    bck (bg s2 0 (bg s2 230 x0 0) 0 = 1003 ∧ (0 : Int) ≤ x1 ∧ x1 < bg s2 4 (bg s2 230 x0 0) 0) <|
    bst (bw s2 20 (bg s2 230 x0 0) x1 x4) fun s3 =>
    F_X12_makes_r 3 (x0, x1, x4, 0, 0, 0, 0, 0, 0) s3)
    (bck (bg s0 0 x0 0 = 11) <|
    bck (bg s0 0 (bg s0 250 x0 0) 0 = 1010 ∧ (0 : Int) ≤ x2 ∧ x2 < bg s0 4 (bg s0 250 x0 0) 0) <|
    bck (bg s0 0 (bg s0 10 (bg s0 250 x0 0) x2) 0 = 1003 ∧ (0 : Int) ≤ x5 ∧ x5 < bg s0 4 (bg s0 10 (bg s0 250 x0 0) x2) 0) <|
    bvl ((bg s0 20 (bg s0 10 (bg s0 250 x0 0) x2) x5)) fun t1 =>
    bcl (F_X12_kind s0 t1) fun s4 v2 =>
    bte (i32 v2 = i32 1048576)
    (bck (bg s4 0 x0 0 = 11) <|
    bck (bg s4 0 (bg s4 258 x0 0) 0 = 1003 ∧ (0 : Int) ≤ x4 ∧ x4 < bg s4 4 (bg s4 258 x0 0) 0) <|
    bst (bw s4 20 (bg s4 258 x0 0) x4 (b_iand t1 4095)) fun s8 =>
    F_X12_makes_r 2 (x0, x1, x2, x3, (x4 + 1), x5, 0, 0, 0) s8)
    (bck (bg s4 0 x0 0 = 11) <|
    bck (bg s4 0 (bg s4 226 x0 0) 0 = 1010 ∧ (0 : Int) ≤ x1 ∧ x1 < bg s4 4 (bg s4 226 x0 0) 0) <|
    bck (bg s4 0 (bg s4 10 (bg s4 226 x0 0) x1) 0 = 1003 ∧ (0 : Int) ≤ x3 ∧ x3 < bg s4 4 (bg s4 10 (bg s4 226 x0 0) x1) 0) <|
    bvl ((bg s4 20 (bg s4 10 (bg s4 226 x0 0) x1) x3)) fun t2 =>
    bcl (F_X12_kind s4 t1) fun s5 v3 =>
    bte (i32 v3 = i32 3145728)
    (F_X12_makes_r 2 (x0, x1, x2, (x3 + 1), x4, x5, 0, 0, 0) s5)
    (bck (bg s5 0 x0 0 = 11) <|
    bcl (F_X12_kind s5 t1) fun s6 v4 =>
    bte (i32 v4 = i32 4194304)
    (bcl (F_X12_marksOf s6 (b_ishr t2 8) t1) fun s7 v5 =>
    F_X12_makes_r 1 (x0, x1, x2, (x3 + 1), x4, x5, (b_ior (b_ishl v5 8) (b_iand t2 255)), x4, (bg s5 258 x0 0)) s7)
    (F_X12_makes_r 1 (x0, x1, x2, (x3 + 1), x4, x5, t2, x4, (bg s5 258 x0 0)) s6))))
  | 1, (x0, x1, x2, x3, x4, x5, x6, x7, x8) =>
    bck (bg s0 0 x8 0 = 1003 ∧ (0 : Int) ≤ x7 ∧ x7 < bg s0 4 x8 0) <|
    bst (bw s0 20 x8 x7 x6) fun s10 =>
    F_X12_makes_r 2 (x0, x1, x2, x3, (x4 + 1), x5, 0, 0, 0) s10
  | 2, (x0, x1, x2, x3, x4, x5, _, _, _) =>
    F_X12_makes_r 0 (x0, x1, x2, x3, x4, (x5 + 1), 0, 0, 0) s0
  | 3, (x0, x1, x2, x3, _, _, _, _, _) =>
    bte (i32 x2 ≤ i32 x3)
    (some (s0, 0))
    (bck (bg s0 0 x0 0 = 11) <|
    bck (bg s0 0 (bg s0 226 x0 0) 0 = 1010 ∧ (0 : Int) ≤ x1 ∧ x1 < bg s0 4 (bg s0 226 x0 0) 0) <|
    bck (bg s0 0 x0 0 = 11) <|
    bck (bg s0 0 (bg s0 258 x0 0) 0 = 1003 ∧ (0 : Int) ≤ x3 ∧ x3 < bg s0 4 (bg s0 258 x0 0) 0) <|
    bck (bg s0 0 (bg s0 10 (bg s0 226 x0 0) x1) 0 = 1003 ∧ (0 : Int) ≤ x3 ∧ x3 < bg s0 4 (bg s0 10 (bg s0 226 x0 0) x1) 0) <|
    bst (bw s0 20 (bg s0 10 (bg s0 226 x0 0) x1) x3 (bg s0 20 (bg s0 258 x0 0) x3)) fun s9 =>
    F_X12_makes_r 3 (x0, x1, x2, (x3 + 1), 0, 0, 0, 0, 0) s9)
  | _, _ => none
partial_fixpoint
def F_X12_makes (s0 : bS) (a0 a1 a2 : Int) : Option (bS × Int) :=
  F_X12_makes_r 0 (a0, a1, a2, 0, 0, 0, 0, 0, 0) s0
set_option maxHeartbeats 4000000 in
set_option maxRecDepth 100000 in
set_option synthInstance.maxHeartbeats 4000000 in
theorem w_X12_makes_r {Γ0 : bG} {l0 : Launch} {κ : bK} {st' : bS} {v : Int} (hκ : bOk κ Γ0 l0 cX12_makes RX12 8 1 23) (hi : bIn κ yX12_makes) (hf : bFin κ none st' none) (b : Nat) (x0 x1 x2 x3 x4 x5 x6 x7 x8 : Int) (s0 : bS) (h : F_X12_makes_r b (x0, x1, x2, x3, x4, x5, x6, x7, x8) s0 = some (st', v)) : match (generalizing := false) b with | 0 => bJ κ s0 8 [(0, (2, x0)), (1, (0, x1)), (2, (0, x2)), (3, (0, x3)), (4, (0, x4)), (5, (0, x5))] [] | 1 => bJ κ s0 123 [(0, (2, x0)), (1, (0, x1)), (2, (0, x2)), (3, (0, x3)), (4, (0, x4)), (5, (0, x5))] [(0, x6), (0, x7), (2, x8)] | 2 => bJ κ s0 127 [(0, (2, x0)), (1, (0, x1)), (2, (0, x2)), (3, (0, x3)), (4, (0, x4)), (5, (0, x5))] [] | 3 => bJ κ s0 161 [(0, (2, x0)), (1, (0, x1)), (4, (0, x2)), (5, (0, x3))] [] | _ => True := by
  refine F_X12_makes_r.partial_correctness (fun b xs s0 r => r = (st', v) → match (generalizing := false) b with | 0 => bJ κ s0 8 [(0, (2, xs.1)), (1, (0, xs.2.1)), (2, (0, xs.2.2.1)), (3, (0, xs.2.2.2.1)), (4, (0, xs.2.2.2.2.1)), (5, (0, xs.2.2.2.2.2.1))] [] | 1 => bJ κ s0 123 [(0, (2, xs.1)), (1, (0, xs.2.1)), (2, (0, xs.2.2.1)), (3, (0, xs.2.2.2.1)), (4, (0, xs.2.2.2.2.1)), (5, (0, xs.2.2.2.2.2.1))] [(0, xs.2.2.2.2.2.2.1), (0, xs.2.2.2.2.2.2.2.1), (2, xs.2.2.2.2.2.2.2.2)] | 2 => bJ κ s0 127 [(0, (2, xs.1)), (1, (0, xs.2.1)), (2, (0, xs.2.2.1)), (3, (0, xs.2.2.2.1)), (4, (0, xs.2.2.2.2.1)), (5, (0, xs.2.2.2.2.2.1))] [] | 3 => bJ κ s0 161 [(0, (2, xs.1)), (1, (0, xs.2.1)), (4, (0, xs.2.2.1)), (5, (0, xs.2.2.2.1))] [] | _ => True) ?_ b (x0, x1, x2, x3, x4, x5, x6, x7, x8) s0 _ h rfl
  intro f' ih b xs s0 r h hr
  subst hr
  match b, xs, h with
  | 0, (x0, x1, x2, x3, x4, x5, x6, x7, x8), h =>
      show bJ κ s0 8 [(0, (2, x0)), (1, (0, x1)), (2, (0, x2)), (3, (0, x3)), (4, (0, x4)), (5, (0, x5))] []
      refine r_iload hκ 5 rfl dX12_makes_8 ?_
      refine r_aload_n hκ 0 rfl rfl dX12_makes_10 ?_
      obtain ⟨h1, h⟩ := bck_i h
      refine r_get hκ (t := 10) (k := 10) (r := 254) h1 rfl in_X12 (by decide) rfl q3061 (Or.inl rfl) dX12_makes_11 ?_
      refine r_iload_n hκ 2 rfl rfl dX12_makes_14 ?_
      obtain ⟨⟨h2, h3⟩, h⟩ := bck_i h
      refine r_iald hκ h2 h3 dX12_makes_15 ?_
      refine r_icmp_ge hκ (tgt := 133) (by decide) dX12_makes_16 (fun h4 => ?_) (fun h4 => ?_)
      · replace h := (bte_i h).1 h4
        refine r_aload_n hκ 0 rfl rfl dX12_makes_133 ?_
        obtain ⟨h5, h⟩ := bck_i h
        refine r_get hκ (t := 10) (k := 3) (r := 226) h5 rfl in_X12 (by decide) rfl q3054 (Or.inl rfl) dX12_makes_134 ?_
        refine r_iload_n hκ 1 rfl rfl dX12_makes_137 ?_
        refine r_aload_n hκ 0 rfl rfl dX12_makes_138 ?_
        obtain ⟨h6, h⟩ := bck_i h
        refine r_get hκ (t := 10) (k := 3) (r := 226) h6 rfl in_X12 (by decide) rfl q3054 (Or.inl rfl) dX12_makes_139 ?_
        refine r_iload_n hκ 1 rfl rfl dX12_makes_142 ?_
        obtain ⟨⟨h7, h8⟩, h⟩ := bck_i h
        refine r_aald hκ (t := 10) (by decide) h7 h8 dX12_makes_143 ?_
        refine r_iload hκ 4 rfl dX12_makes_144 ?_
        obtain ⟨s1, v1, h9, h⟩ := bcl_i h
        refine r_callS hκ (n' := 2) (index := 93) (w_X12_grown Γ0 l0 h9) (lw_S q3215 q3216 q146 q3217) (by decide +kernel) rfl (by decide) rfl (Nat.le_of_ble_eq_true rfl) dX12_makes_146 ?_
        obtain ⟨⟨⟨h10, h11⟩, h12⟩, h⟩ := bck_i h
        refine r_aastI hκ h10 h11 h12 dX12_makes_149 (fun s2 es2 => ?_)
        replace h := bst_i h s2 es2
        refine r_aload_n hκ 0 rfl rfl dX12_makes_150 ?_
        obtain ⟨h13, h⟩ := bck_i h
        refine r_get hκ (t := 10) (k := 4) (r := 230) h13 rfl in_X12 (by decide) rfl q3055 (Or.inl rfl) dX12_makes_151 ?_
        refine r_iload_n hκ 1 rfl rfl dX12_makes_154 ?_
        refine r_iload hκ 4 rfl dX12_makes_155 ?_
        obtain ⟨⟨h14, h15⟩, h⟩ := bck_i h
        refine r_iast hκ h14 h15 dX12_makes_157 (fun s3 es3 => ?_)
        replace h := bst_i h s3 es3
        refine r_iconst hκ dX12_makes_158 ?_
        refine r_istore hκ (L2 := [(5, (0, 0)), (0, (2, x0)), (1, (0, x1)), (2, (0, x2)), (3, (0, x3)), (4, (0, x4))]) (by decide) rfl dX12_makes_159 ?_
        exact r_sub [1, 2, 5, 0] rfl (ih 3 _ _ _ h rfl)
      · replace h := (bte_i h).2 h4
        refine r_aload_n hκ 0 rfl rfl dX12_makes_19 ?_
        obtain ⟨h16, h⟩ := bck_i h
        refine r_get hκ (t := 10) (k := 9) (r := 250) h16 rfl in_X12 (by decide) rfl q3060 (Or.inl rfl) dX12_makes_20 ?_
        refine r_iload_n hκ 2 rfl rfl dX12_makes_23 ?_
        obtain ⟨⟨h17, h18⟩, h⟩ := bck_i h
        refine r_aald hκ (t := 10) (by decide) h17 h18 dX12_makes_24 ?_
        refine r_iload hκ 5 rfl dX12_makes_25 ?_
        obtain ⟨⟨h19, h20⟩, h⟩ := bck_i h
        refine r_iald hκ h19 h20 dX12_makes_27 ?_
        refine r_nm (fun t1 et1 => ?_)
        replace h := bvl_i h t1 et1
        refine r_istore hκ (L2 := [(6, (0, t1)), (0, (2, x0)), (1, (0, x1)), (2, (0, x2)), (3, (0, x3)), (4, (0, x4)), (5, (0, x5))]) (by decide) rfl dX12_makes_28 ?_
        refine r_iload hκ 0 rfl dX12_makes_30 ?_
        obtain ⟨s4, v2, h21, h⟩ := bcl_i h
        refine r_callS hκ (n' := 1) (index := 104) (w_X12_kind Γ0 l0 h21) (lw_S q3203 q3204 q146 q3205) (by decide +kernel) rfl (by decide) rfl (Nat.le_of_ble_eq_true rfl) dX12_makes_32 ?_
        refine r_ldci hκ (x := 1048576) q3185 (by decide) dX12_makes_35 ?_
        refine r_icmp_ne hκ (tgt := 59) (by decide) dX12_makes_37 (fun h22 => ?_) (fun h22 => ?_)
        · replace h := (bte_i h).2 h22
          refine r_aload_n hκ 1 rfl rfl dX12_makes_59 ?_
          obtain ⟨h23, h⟩ := bck_i h
          refine r_get hκ (t := 10) (k := 3) (r := 226) h23 rfl in_X12 (by decide) rfl q3054 (Or.inl rfl) dX12_makes_60 ?_
          refine r_iload_n hκ 2 rfl rfl dX12_makes_63 ?_
          obtain ⟨⟨h24, h25⟩, h⟩ := bck_i h
          refine r_aald hκ (t := 10) (by decide) h24 h25 dX12_makes_64 ?_
          refine r_iload_n hκ 4 rfl rfl dX12_makes_65 ?_
          obtain ⟨⟨h26, h27⟩, h⟩ := bck_i h
          refine r_iald hκ h26 h27 dX12_makes_66 ?_
          refine r_nm (fun t2 et2 => ?_)
          replace h := bvl_i h t2 et2
          refine r_istore hκ (L2 := [(7, (0, t2)), (6, (0, t1)), (0, (2, x0)), (1, (0, x1)), (2, (0, x2)), (3, (0, x3)), (4, (0, x4)), (5, (0, x5))]) (by decide) rfl dX12_makes_67 ?_
          refine r_iinc hκ (L2 := [(3, (0, (x3 + 1))), (7, (0, t2)), (6, (0, t1)), (0, (2, x0)), (1, (0, x1)), (2, (0, x2)), (4, (0, x4)), (5, (0, x5))]) 5 rfl (by decide) rfl dX12_makes_69 ?_
          refine r_iload hκ 2 rfl dX12_makes_72 ?_
          obtain ⟨s5, v3, h28, h⟩ := bcl_i h
          refine r_callS hκ (n' := 1) (index := 104) (w_X12_kind Γ0 l0 h28) (lw_S q3203 q3204 q146 q3205) (by decide +kernel) rfl (by decide) rfl (Nat.le_of_ble_eq_true rfl) dX12_makes_74 ?_
          refine r_ldci hκ (x := 3145728) q3197 (by decide) dX12_makes_77 ?_
          refine r_icmp_eq hκ (tgt := 127) (by decide) dX12_makes_79 (fun h29 => ?_) (fun h29 => ?_)
          · replace h := (bte_i h).1 h29
            exact r_sub [3, 4, 5, 0, 6, 7] rfl (ih 2 _ _ _ h rfl)
          · replace h := (bte_i h).2 h29
            refine r_aload_n hκ 3 rfl rfl dX12_makes_82 ?_
            obtain ⟨h30, h⟩ := bck_i h
            refine r_get hκ (t := 10) (k := 11) (r := 258) h30 rfl in_X12 (by decide) rfl q3062 (Or.inl rfl) dX12_makes_83 ?_
            refine r_iload hκ 6 rfl dX12_makes_86 ?_
            refine r_iload hκ 2 rfl dX12_makes_88 ?_
            obtain ⟨s6, v4, h31, h⟩ := bcl_i h
            refine r_callS hκ (n' := 1) (index := 104) (w_X12_kind Γ0 l0 h31) (lw_S q3203 q3204 q146 q3205) (by decide +kernel) rfl (by decide) rfl (Nat.le_of_ble_eq_true rfl) dX12_makes_90 ?_
            refine r_ldci hκ (x := 4194304) q3198 (by decide) dX12_makes_93 ?_
            refine r_icmp_ne hκ (tgt := 121) (by decide) dX12_makes_95 (fun h32 => ?_) (fun h32 => ?_)
            · replace h := (bte_i h).2 h32
              refine r_iload hκ 1 rfl dX12_makes_121 ?_
              exact r_sub [3, 4, 5, 0, 6, 7] rfl (ih 1 _ _ _ h rfl)
            · replace h := (bte_i h).1 h32
              refine r_iload hκ 1 rfl dX12_makes_98 ?_
              refine r_bipush hκ (by decide) dX12_makes_100 ?_
              refine r_ishr hκ dX12_makes_102 ?_
              refine r_iload hκ 2 rfl dX12_makes_103 ?_
              obtain ⟨s7, v5, h33, h⟩ := bcl_i h
              refine r_callS hκ (n' := 2) (index := 127) (w_X12_marksOf Γ0 l0 h33) (lw_S q3297 q3298 q146 q3299) (by decide +kernel) rfl (by decide) rfl (Nat.le_of_ble_eq_true rfl) dX12_makes_105 ?_
              refine r_bipush hκ (by decide) dX12_makes_108 ?_
              refine r_ishl hκ dX12_makes_110 ?_
              refine r_iload hκ 1 rfl dX12_makes_111 ?_
              refine r_sipush hκ (by decide) dX12_makes_113 ?_
              refine r_iand hκ dX12_makes_116 ?_
              refine r_ior hκ dX12_makes_117 ?_
              refine r_goto hκ (tgt := 123) (by decide) dX12_makes_118 ?_
              exact r_sub [3, 4, 5, 0, 6, 7] rfl (ih 1 _ _ _ h rfl)
        · replace h := (bte_i h).1 h22
          refine r_aload_n hκ 1 rfl rfl dX12_makes_40 ?_
          obtain ⟨h34, h⟩ := bck_i h
          refine r_get hκ (t := 10) (k := 11) (r := 258) h34 rfl in_X12 (by decide) rfl q3062 (Or.inl rfl) dX12_makes_41 ?_
          refine r_iload hκ 5 rfl dX12_makes_44 ?_
          refine r_iload hκ 0 rfl dX12_makes_46 ?_
          refine r_sipush hκ (by decide) dX12_makes_48 ?_
          refine r_iand hκ dX12_makes_51 ?_
          obtain ⟨⟨h35, h36⟩, h⟩ := bck_i h
          refine r_iast hκ h35 h36 dX12_makes_52 (fun s8 es8 => ?_)
          replace h := bst_i h s8 es8
          refine r_iinc hκ (L2 := [(4, (0, (x4 + 1))), (6, (0, t1)), (0, (2, x0)), (1, (0, x1)), (2, (0, x2)), (3, (0, x3)), (5, (0, x5))]) 5 rfl (by decide) rfl dX12_makes_53 ?_
          refine r_goto hκ (tgt := 127) (by decide) dX12_makes_56 ?_
          exact r_sub [2, 3, 4, 5, 0, 6] rfl (ih 2 _ _ _ h rfl)
  | 1, (x0, x1, x2, x3, x4, x5, x6, x7, x8), h =>
      show bJ κ s0 123 [(0, (2, x0)), (1, (0, x1)), (2, (0, x2)), (3, (0, x3)), (4, (0, x4)), (5, (0, x5))] [(0, x6), (0, x7), (2, x8)]
      obtain ⟨⟨h46, h47⟩, h⟩ := bck_i h
      refine r_iast hκ h46 h47 dX12_makes_123 (fun s10 es10 => ?_)
      replace h := bst_i h s10 es10
      refine r_iinc hκ (L2 := [(4, (0, (x4 + 1))), (0, (2, x0)), (1, (0, x1)), (2, (0, x2)), (3, (0, x3)), (5, (0, x5))]) 4 rfl (by decide) rfl dX12_makes_124 ?_
      exact r_sub [1, 2, 3, 4, 0, 5] rfl (ih 2 _ _ _ h rfl)
  | 2, (x0, x1, x2, x3, x4, x5, x6, x7, x8), h =>
      show bJ κ s0 127 [(0, (2, x0)), (1, (0, x1)), (2, (0, x2)), (3, (0, x3)), (4, (0, x4)), (5, (0, x5))] []
      refine r_iinc hκ (L2 := [(5, (0, (x5 + 1))), (0, (2, x0)), (1, (0, x1)), (2, (0, x2)), (3, (0, x3)), (4, (0, x4))]) 5 rfl (by decide) rfl dX12_makes_127 ?_
      refine r_goto hκ (tgt := 8) (by decide) dX12_makes_130 ?_
      exact r_sub [1, 2, 3, 4, 5, 0] rfl (ih 0 _ _ _ h rfl)
  | 3, (x0, x1, x2, x3, x4, x5, x6, x7, x8), h =>
      show bJ κ s0 161 [(0, (2, x0)), (1, (0, x1)), (4, (0, x2)), (5, (0, x3))] []
      refine r_iload hκ 3 rfl dX12_makes_161 ?_
      refine r_iload hκ 2 rfl dX12_makes_163 ?_
      refine r_icmp_ge hκ (tgt := 190) (by decide) dX12_makes_165 (fun h37 => ?_) (fun h37 => ?_)
      · replace h := (bte_i h).1 h37
        exact r_vretH hκ hf h dX12_makes_190
      · replace h := (bte_i h).2 h37
        refine r_aload_n hκ 0 rfl rfl dX12_makes_168 ?_
        obtain ⟨h38, h⟩ := bck_i h
        refine r_get hκ (t := 10) (k := 3) (r := 226) h38 rfl in_X12 (by decide) rfl q3054 (Or.inl rfl) dX12_makes_169 ?_
        refine r_iload_n hκ 1 rfl rfl dX12_makes_172 ?_
        obtain ⟨⟨h39, h40⟩, h⟩ := bck_i h
        refine r_aald hκ (t := 10) (by decide) h39 h40 dX12_makes_173 ?_
        refine r_iload hκ 3 rfl dX12_makes_174 ?_
        refine r_aload_n hκ 0 rfl rfl dX12_makes_176 ?_
        obtain ⟨h41, h⟩ := bck_i h
        refine r_get hκ (t := 10) (k := 11) (r := 258) h41 rfl in_X12 (by decide) rfl q3062 (Or.inl rfl) dX12_makes_177 ?_
        refine r_iload hκ 3 rfl dX12_makes_180 ?_
        obtain ⟨⟨h42, h43⟩, h⟩ := bck_i h
        refine r_iald hκ h42 h43 dX12_makes_182 ?_
        obtain ⟨⟨h44, h45⟩, h⟩ := bck_i h
        refine r_iast hκ h44 h45 dX12_makes_183 (fun s9 es9 => ?_)
        replace h := bst_i h s9 es9
        refine r_iinc hκ (L2 := [(5, (0, (x3 + 1))), (0, (2, x0)), (1, (0, x1)), (4, (0, x2))]) 3 rfl (by decide) rfl dX12_makes_184 ?_
        refine r_goto hκ (tgt := 161) (by decide) dX12_makes_187 ?_
        exact r_sub [1, 2, 3, 0] rfl (ih 3 _ _ _ h rfl)
  | b + 4, _, h => trivial
set_option maxHeartbeats 4000000 in
set_option maxRecDepth 100000 in
theorem w_X12_makes (Γ0 : bG) (l0 : Launch) {s0 st' : bS} {v a0 a1 a2 : Int} (h : F_X12_makes s0 a0 a1 a2 = some (st', v)) : bCt Γ0 l0 yX12_makes cX12_makes 8 none 1 23 [(2, a0), (0, a1), (0, a2)] s0 st' none := by
  refine b_ent (own := RX12) (by decide +kernel) rfl (Nat.le_of_ble_eq_true rfl) (L := [(0, (2, a0)), (1, (0, a1)), (2, (0, a2))]) rfl ?_
  intro κ hκ hi hf
  unfold F_X12_makes at h
  refine r_iconst hκ dX12_makes_0 ?_
  refine r_istore_n hκ (L2 := [(3, (0, 0)), (0, (2, a0)), (1, (0, a1)), (2, (0, a2))]) (by decide) rfl rfl dX12_makes_1 ?_
  refine r_iconst hκ dX12_makes_2 ?_
  refine r_istore hκ (L2 := [(4, (0, 0)), (3, (0, 0)), (0, (2, a0)), (1, (0, a1)), (2, (0, a2))]) (by decide) rfl dX12_makes_3 ?_
  refine r_iconst hκ dX12_makes_5 ?_
  refine r_istore hκ (L2 := [(5, (0, 0)), (4, (0, 0)), (3, (0, 0)), (0, (2, a0)), (1, (0, a1)), (2, (0, a2))]) (by decide) rfl dX12_makes_6 ?_
  exact r_sub [3, 4, 5, 2, 1, 0] rfl (w_X12_makes_r hκ hi hf 0 _ _ _ _ _ _ _ _ _ _ h)
/-- EditsMeetModel.copiesRow(II)V -/
def F_X12_copiesRow (s0 : bS) (a0 a1 a2 : Int) : Option (bS × Int) :=
  bck (bg s0 0 a0 0 = 11) <|
  bcl (F_X12_takesRow s0 a0 3 a1) fun s1 v1 =>
  bck (bg s1 0 a0 0 = 11) <|
  bcl (F_X12_keepsRow s1 a0 a2 3) fun s2 v2 =>
  some (s2, 0)
set_option maxHeartbeats 4000000 in
set_option maxRecDepth 100000 in
theorem w_X12_copiesRow (Γ0 : bG) (l0 : Launch) {s0 st' : bS} {v a0 a1 a2 : Int} (h : F_X12_copiesRow s0 a0 a1 a2 = some (st', v)) : bCt Γ0 l0 yX12_copiesRow cX12_copiesRow 3 none 2 46 [(2, a0), (0, a1), (0, a2)] s0 st' none := by
  refine b_ent (own := RX12) (by decide +kernel) rfl (Nat.le_of_ble_eq_true rfl) (L := [(0, (2, a0)), (1, (0, a1)), (2, (0, a2))]) rfl ?_
  intro κ hκ hi hf
  unfold F_X12_copiesRow at h
  refine r_aload_n hκ 0 rfl rfl dX12_copiesRow_0 ?_
  refine r_iconst hκ dX12_copiesRow_1 ?_
  refine r_iload_n hκ 1 rfl rfl dX12_copiesRow_2 ?_
  obtain ⟨h1, h⟩ := bck_i h
  obtain ⟨s1, v1, h2, h⟩ := bcl_i h
  refine r_callV hκ (n' := 2) (index := 97) (w_X12_takesRow Γ0 l0 h2) (lw_V q3285 q3287 qs90 q146 q3288) (by decide +kernel) (t := 10) h1 rfl rfl (by decide) rfl (Nat.le_of_ble_eq_true rfl) dX12_copiesRow_3 ?_
  refine r_aload_n hκ 0 rfl rfl dX12_copiesRow_6 ?_
  refine r_iload_n hκ 2 rfl rfl dX12_copiesRow_7 ?_
  refine r_iconst hκ dX12_copiesRow_8 ?_
  obtain ⟨h3, h⟩ := bck_i h
  obtain ⟨s2, v2, h4, h⟩ := bcl_i h
  refine r_callV hκ (n' := 2) (index := 101) (w_X12_keepsRow Γ0 l0 h4) (lw_V q3211 q3213 qs80 q146 q3214) (by decide +kernel) (t := 10) h3 rfl rfl (by decide) rfl (Nat.le_of_ble_eq_true rfl) dX12_copiesRow_9 ?_
  exact r_vretH hκ hf h dX12_copiesRow_12
/-- EditsMeetModel.pushes(III)V -/
def F_X12_pushes_r (b : Nat) (x0 x1 x2 x3 x4 x5 : Int) (s0 : bS) : Option (bS × Int) :=
  match b with
  | 0 =>
    bck (bg s0 0 x0 0 = 11) <|
    bcl (F_X12_st s0 x0 x1 x2) fun s1 v1 =>
    bte (i32 v1 = i32 20)
    (F_X12_pushes_r 1 x0 x1 x2 x3 (x4 + (20 * x1)) 1 s1)
    (F_X12_pushes_r 2 x0 x1 x2 x3 (x4 + (20 * x1)) v1 s1)
  | 1 =>
    bte (i32 20 ≤ i32 x5)
    (F_X12_pushes_r 2 x0 x1 x2 x3 x4 19 s0)
    (bck (bg s0 0 x0 0 = 11) <|
    bcl (F_X12_copiesRow s0 x0 (x4 + x5) ((x4 + x5) - 1)) fun s4 v3 =>
    F_X12_pushes_r 1 x0 x1 x2 x3 x4 (x5 + 1) s4)
  | 2 =>
    bck (bg s0 0 x0 0 = 11) <|
    bcl (F_X12_keepsRow s0 x0 (x4 + x5) x3) fun s2 v2 =>
    bck (bg s2 0 x0 0 = 11) <|
    bck (bg s2 0 (bg s2 234 x0 0) 0 = 1003 ∧ (0 : Int) ≤ ((8 * x1) + x2) ∧ ((8 * x1) + x2) < bg s2 4 (bg s2 234 x0 0) 0) <|
    bst (bw s2 20 (bg s2 234 x0 0) ((8 * x1) + x2) (x5 + 1)) fun s3 =>
    some (s3, 0)
  | _ => none
partial_fixpoint
def F_X12_pushes (s0 : bS) (a0 a1 a2 a3 : Int) : Option (bS × Int) :=
  bte (i32 a2 = i32 4)
  (F_X12_pushes_r 0 a0 a1 a2 a3 24 0 s0)
  (F_X12_pushes_r 0 a0 a1 a2 a3 104 0 s0)
set_option maxHeartbeats 4000000 in
set_option maxRecDepth 100000 in
set_option synthInstance.maxHeartbeats 4000000 in
theorem w_X12_pushes_r {Γ0 : bG} {l0 : Launch} {κ : bK} {st' : bS} {v : Int} (hκ : bOk κ Γ0 l0 cX12_pushes RX12 7 3 68) (hi : bIn κ yX12_pushes) (hf : bFin κ none st' none) (b : Nat) (x0 x1 x2 x3 x4 x5 : Int) (s0 : bS) (h : F_X12_pushes_r b x0 x1 x2 x3 x4 x5 s0 = some (st', v)) : match (generalizing := false) b with | 0 => bJ κ s0 12 [(0, (2, x0)), (1, (0, x1)), (2, (0, x2)), (3, (0, x3))] [(0, x4)] | 1 => bJ κ s0 37 [(0, (2, x0)), (1, (0, x1)), (2, (0, x2)), (3, (0, x3)), (4, (0, x4)), (6, (0, x5))] [] | 2 => bJ κ s0 70 [(0, (2, x0)), (1, (0, x1)), (2, (0, x2)), (3, (0, x3)), (4, (0, x4)), (5, (0, x5))] [] | _ => True := by
  refine F_X12_pushes_r.partial_correctness x0 x1 x2 x3 (fun b x4 x5 s0 r => r = (st', v) → match (generalizing := false) b with | 0 => bJ κ s0 12 [(0, (2, x0)), (1, (0, x1)), (2, (0, x2)), (3, (0, x3))] [(0, x4)] | 1 => bJ κ s0 37 [(0, (2, x0)), (1, (0, x1)), (2, (0, x2)), (3, (0, x3)), (4, (0, x4)), (6, (0, x5))] [] | 2 => bJ κ s0 70 [(0, (2, x0)), (1, (0, x1)), (2, (0, x2)), (3, (0, x3)), (4, (0, x4)), (5, (0, x5))] [] | _ => True) ?_ b x4 x5 s0 _ h rfl
  intro f' ih b x4 x5 s0 r h hr
  subst hr
  match b, h with
  | 0, h =>
      refine r_bipush hκ (by decide) dX12_pushes_12 ?_
      refine r_iload_n hκ 1 rfl rfl dX12_pushes_14 ?_
      refine r_imul hκ dX12_pushes_15 ?_
      refine r_iadd hκ dX12_pushes_16 ?_
      refine r_istore hκ (L2 := [(4, (0, (x4 + (20 * x1)))), (0, (2, x0)), (1, (0, x1)), (2, (0, x2)), (3, (0, x3))]) (by decide) rfl dX12_pushes_17 ?_
      refine r_aload_n hκ 1 rfl rfl dX12_pushes_19 ?_
      refine r_iload_n hκ 2 rfl rfl dX12_pushes_20 ?_
      refine r_iload_n hκ 3 rfl rfl dX12_pushes_21 ?_
      obtain ⟨h2, h⟩ := bck_i h
      obtain ⟨s1, v1, h3, h⟩ := bcl_i h
      refine r_callV hκ (n' := 2) (index := 135) (w_X12_st Γ0 l0 h3) (lw_V q3360 q3362 qs103 q146 q3363) (by decide +kernel) (t := 10) h2 rfl rfl (by decide) rfl (Nat.le_of_ble_eq_true rfl) dX12_pushes_22 ?_
      refine r_istore hκ (L2 := [(5, (0, v1)), (4, (0, (x4 + (20 * x1)))), (0, (2, x0)), (1, (0, x1)), (2, (0, x2)), (3, (0, x3))]) (by decide) rfl dX12_pushes_25 ?_
      refine r_iload hκ 0 rfl dX12_pushes_27 ?_
      refine r_bipush hκ (by decide) dX12_pushes_29 ?_
      refine r_icmp_ne hκ (tgt := 70) (by decide) dX12_pushes_31 (fun h4 => ?_) (fun h4 => ?_)
      · replace h := (bte_i h).2 h4
        exact r_sub [2, 3, 4, 5, 1, 0] rfl (ih 2 _ _ _ _ h rfl)
      · replace h := (bte_i h).1 h4
        refine r_iconst hκ dX12_pushes_34 ?_
        refine r_istore hκ (L2 := [(6, (0, 1)), (5, (0, v1)), (4, (0, (x4 + (20 * x1)))), (0, (2, x0)), (1, (0, x1)), (2, (0, x2)), (3, (0, x3))]) (by decide) rfl dX12_pushes_35 ?_
        exact r_sub [3, 4, 5, 6, 2, 0] rfl (ih 1 _ _ _ _ h rfl)
  | 1, h =>
      refine r_iload hκ 5 rfl dX12_pushes_37 ?_
      refine r_bipush hκ (by decide) dX12_pushes_39 ?_
      refine r_icmp_ge hκ (tgt := 66) (by decide) dX12_pushes_41 (fun h10 => ?_) (fun h10 => ?_)
      · replace h := (bte_i h).1 h10
        refine r_bipush hκ (by decide) dX12_pushes_66 ?_
        refine r_istore hκ (L2 := [(5, (0, 19)), (0, (2, x0)), (1, (0, x1)), (2, (0, x2)), (3, (0, x3)), (4, (0, x4)), (6, (0, x5))]) (by decide) rfl dX12_pushes_68 ?_
        exact r_sub [1, 2, 3, 4, 5, 0] rfl (ih 2 _ _ _ _ h rfl)
      · replace h := (bte_i h).2 h10
        refine r_aload_n hκ 0 rfl rfl dX12_pushes_44 ?_
        refine r_iload hκ 4 rfl dX12_pushes_45 ?_
        refine r_iload hκ 5 rfl dX12_pushes_47 ?_
        refine r_iadd hκ dX12_pushes_49 ?_
        refine r_iload hκ 4 rfl dX12_pushes_50 ?_
        refine r_iload hκ 5 rfl dX12_pushes_52 ?_
        refine r_iadd hκ dX12_pushes_54 ?_
        refine r_iconst hκ dX12_pushes_55 ?_
        refine r_isub hκ dX12_pushes_56 ?_
        obtain ⟨h11, h⟩ := bck_i h
        obtain ⟨s4, v3, h12, h⟩ := bcl_i h
        refine r_callV hκ (n' := 2) (index := 142) (w_X12_copiesRow Γ0 l0 h12) (lw_V q3372 q3374 qs106 q146 q3375) (by decide +kernel) (t := 10) h11 rfl rfl (by decide) rfl (Nat.le_of_ble_eq_true rfl) dX12_pushes_57 ?_
        refine r_iinc hκ (L2 := [(6, (0, (x5 + 1))), (0, (2, x0)), (1, (0, x1)), (2, (0, x2)), (3, (0, x3)), (4, (0, x4))]) 5 rfl (by decide) rfl dX12_pushes_60 ?_
        refine r_goto hκ (tgt := 37) (by decide) dX12_pushes_63 ?_
        exact r_sub [1, 2, 3, 4, 5, 0] rfl (ih 1 _ _ _ _ h rfl)
  | 2, h =>
      refine r_aload_n hκ 0 rfl rfl dX12_pushes_70 ?_
      refine r_iload hκ 4 rfl dX12_pushes_71 ?_
      refine r_iload hκ 5 rfl dX12_pushes_73 ?_
      refine r_iadd hκ dX12_pushes_75 ?_
      refine r_iload_n hκ 3 rfl rfl dX12_pushes_76 ?_
      obtain ⟨h5, h⟩ := bck_i h
      obtain ⟨s2, v2, h6, h⟩ := bcl_i h
      refine r_callV hκ (n' := 2) (index := 101) (w_X12_keepsRow Γ0 l0 h6) (lw_V q3211 q3213 qs80 q146 q3214) (by decide +kernel) (t := 10) h5 rfl rfl (by decide) rfl (Nat.le_of_ble_eq_true rfl) dX12_pushes_77 ?_
      refine r_aload_n hκ 0 rfl rfl dX12_pushes_80 ?_
      obtain ⟨h7, h⟩ := bck_i h
      refine r_get hκ (t := 10) (k := 5) (r := 234) h7 rfl in_X12 (by decide) rfl q3056 (Or.inl rfl) dX12_pushes_81 ?_
      refine r_bipush hκ (by decide) dX12_pushes_84 ?_
      refine r_iload_n hκ 1 rfl rfl dX12_pushes_86 ?_
      refine r_imul hκ dX12_pushes_87 ?_
      refine r_iload_n hκ 2 rfl rfl dX12_pushes_88 ?_
      refine r_iadd hκ dX12_pushes_89 ?_
      refine r_iload hκ 5 rfl dX12_pushes_90 ?_
      refine r_iconst hκ dX12_pushes_92 ?_
      refine r_iadd hκ dX12_pushes_93 ?_
      obtain ⟨⟨h8, h9⟩, h⟩ := bck_i h
      refine r_iast hκ h8 h9 dX12_pushes_94 (fun s3 es3 => ?_)
      replace h := bst_i h s3 es3
      exact r_vretH hκ hf h dX12_pushes_95
  | b + 3, h => trivial
set_option maxHeartbeats 4000000 in
set_option maxRecDepth 100000 in
theorem w_X12_pushes (Γ0 : bG) (l0 : Launch) {s0 st' : bS} {v a0 a1 a2 a3 : Int} (h : F_X12_pushes s0 a0 a1 a2 a3 = some (st', v)) : bCt Γ0 l0 yX12_pushes cX12_pushes 7 none 3 68 [(2, a0), (0, a1), (0, a2), (0, a3)] s0 st' none := by
  refine b_ent (own := RX12) (by decide +kernel) rfl (Nat.le_of_ble_eq_true rfl) (L := [(0, (2, a0)), (1, (0, a1)), (2, (0, a2)), (3, (0, a3))]) rfl ?_
  intro κ hκ hi hf
  unfold F_X12_pushes at h
  refine r_iload_n hκ 2 rfl rfl dX12_pushes_0 ?_
  refine r_iconst hκ dX12_pushes_1 ?_
  refine r_icmp_ne hκ (tgt := 10) (by decide) dX12_pushes_2 (fun h1 => ?_) (fun h1 => ?_)
  · replace h := (bte_i h).2 h1
    refine r_bipush hκ (by decide) dX12_pushes_10 ?_
    exact r_sub [0, 1, 2, 3] rfl (w_X12_pushes_r hκ hi hf 0 _ _ _ _ _ _ _ h)
  · replace h := (bte_i h).1 h1
    refine r_bipush hκ (by decide) dX12_pushes_5 ?_
    refine r_goto hκ (tgt := 12) (by decide) dX12_pushes_7 ?_
    exact r_sub [0, 1, 2, 3] rfl (w_X12_pushes_r hκ hi hf 0 _ _ _ _ _ _ _ h)
/-- EditsMeetModel.done(IIZ)V -/
def F_X12_done_r (b : Nat) (x0 x1 : Int) (s0 : bS) : Option (bS × Int) :=
  match b with
  | 0 =>
    bck (bg s0 0 x0 0 = 11) <|
    bcl (F_X12_st s0 x0 x1 1) fun s6 v5 =>
    bte (i32 v5 = 0)
    (bck (bg s6 0 x0 0 = 11) <|
    bcl (F_X12_keepsRow s6 x0 (16 + x1) 0) fun s13 v11 =>
    bck (bg s13 0 x0 0 = 11) <|
    bcl (F_X12_keepsRow s13 x0 (12 + x1) 0) fun s14 v12 =>
    bck (bg s14 0 x0 0 = 11) <|
    bck (bg s14 0 (bg s14 234 x0 0) 0 = 1003 ∧ (0 : Int) ≤ ((8 * x1) + 1) ∧ ((8 * x1) + 1) < bg s14 4 (bg s14 234 x0 0) 0) <|
    bst (bw s14 20 (bg s14 234 x0 0) ((8 * x1) + 1) 1) fun s15 =>
    bck (bg s15 0 x0 0 = 11) <|
    bck (bg s15 0 x0 0 = 11) <|
    bcl (F_X12_st s15 x0 x1 0) fun s16 v13 =>
    bck (bg s16 0 (bg s15 234 x0 0) 0 = 1003 ∧ (0 : Int) ≤ ((8 * x1) + 2) ∧ ((8 * x1) + 2) < bg s16 4 (bg s15 234 x0 0) 0) <|
    bst (bw s16 20 (bg s15 234 x0 0) ((8 * x1) + 2) v13) fun s17 =>
    some (s17, 0))
    (bck (bg s6 0 x0 0 = 11) <|
    bcl (F_X12_st s6 x0 x1 3) fun s7 v6 =>
    bte (i32 v6 = 0)
    (bck (bg s7 0 x0 0 = 11) <|
    bcl (F_X12_keepsRow s7 x0 (20 + x1) 0) fun s11 v10 =>
    bck (bg s11 0 x0 0 = 11) <|
    bck (bg s11 0 (bg s11 234 x0 0) 0 = 1003 ∧ (0 : Int) ≤ ((8 * x1) + 3) ∧ ((8 * x1) + 3) < bg s11 4 (bg s11 234 x0 0) 0) <|
    bst (bw s11 20 (bg s11 234 x0 0) ((8 * x1) + 3) 1) fun s12 =>
    some (s12, 0))
    (bck (bg s7 0 x0 0 = 11) <|
    bcl (F_X12_takesRow s7 x0 1 (20 + x1)) fun s8 v7 =>
    bck (bg s8 0 x0 0 = 11) <|
    bcl (F_X12_behindRow s8 x0 1 0 2) fun s9 v8 =>
    bck (bg s9 0 x0 0 = 11) <|
    bcl (F_X12_keepsRow s9 x0 (20 + x1) 2) fun s10 v9 =>
    some (s10, 0)))
  | _ => none
def F_X12_done (s0 : bS) (a0 a1 a2 a3 : Int) : Option (bS × Int) :=
  bck (bg s0 0 a0 0 = 11) <|
  bcl (F_X12_turnedRow s0 a0 0 a1 1) fun s1 v1 =>
  bck (bg s1 0 a0 0 = 11) <|
  bcl (F_X12_makes s1 a0 a1 0) fun s2 v2 =>
  bck (bg s2 0 a0 0 = 11) <|
  bcl (F_X12_cursorGoes s2 a0 a1 0 1) fun s3 v3 =>
  bck (bg s3 0 a0 0 = 11) <|
  bcl (F_X12_pushes s3 a0 a1 a2 1) fun s4 v4 =>
  bte (i32 a3 = 0)
  (F_X12_done_r 0 a0 a1 s4)
  (bck (bg s4 0 a0 0 = 11) <|
  bck (bg s4 0 (bg s4 234 a0 0) 0 = 1003 ∧ (0 : Int) ≤ ((8 * a1) + 5) ∧ ((8 * a1) + 5) < bg s4 4 (bg s4 234 a0 0) 0) <|
  bst (bw s4 20 (bg s4 234 a0 0) ((8 * a1) + 5) 0) fun s5 =>
  F_X12_done_r 0 a0 a1 s5)
set_option maxHeartbeats 4000000 in
set_option maxRecDepth 100000 in
set_option synthInstance.maxHeartbeats 4000000 in
theorem w_X12_done_r {Γ0 : bG} {l0 : Launch} {κ : bK} {st' : bS} {v : Int} (hκ : bOk κ Γ0 l0 cX12_done RX12 4 4 94) (hi : bIn κ yX12_done) (hf : bFin κ none st' none) (b : Nat) (x0 x1 : Int) (s0 : bS) (h : F_X12_done_r b x0 x1 s0 = some (st', v)) : match (generalizing := false) b with | 0 => bJ κ s0 43 [(0, (2, x0)), (1, (0, x1))] [] | _ => True := by
  unfold F_X12_done_r at h
  match b, h with
  | 0, h =>
      refine r_aload_n hκ 0 rfl rfl dX12_done_43 ?_
      refine r_iload_n hκ 1 rfl rfl dX12_done_44 ?_
      refine r_iconst hκ dX12_done_45 ?_
      obtain ⟨h13, h⟩ := bck_i h
      obtain ⟨s6, v5, h14, h⟩ := bcl_i h
      refine r_callV hκ (n' := 2) (index := 135) (w_X12_st Γ0 l0 h14) (lw_V q3360 q3362 qs103 q146 q3363) (by decide +kernel) (t := 10) h13 rfl rfl (by decide) rfl (Nat.le_of_ble_eq_true rfl) dX12_done_46 ?_
      refine r_if_ne hκ (tgt := 102) (by decide) dX12_done_49 (fun h15 => ?_) (fun h15 => ?_)
      · replace h := (bte_i h).2 h15
        refine r_aload_n hκ 0 rfl rfl dX12_done_102 ?_
        refine r_iload_n hκ 1 rfl rfl dX12_done_103 ?_
        refine r_iconst hκ dX12_done_104 ?_
        obtain ⟨h16, h⟩ := bck_i h
        obtain ⟨s7, v6, h17, h⟩ := bcl_i h
        refine r_callV hκ (n' := 2) (index := 135) (w_X12_st Γ0 l0 h17) (lw_V q3360 q3362 qs103 q146 q3363) (by decide +kernel) (t := 10) h16 rfl rfl (by decide) rfl (Nat.le_of_ble_eq_true rfl) dX12_done_105 ?_
        refine r_if_ne hκ (tgt := 135) (by decide) dX12_done_108 (fun h18 => ?_) (fun h18 => ?_)
        · replace h := (bte_i h).2 h18
          refine r_aload_n hκ 0 rfl rfl dX12_done_135 ?_
          refine r_iconst hκ dX12_done_136 ?_
          refine r_bipush hκ (by decide) dX12_done_137 ?_
          refine r_iload_n hκ 1 rfl rfl dX12_done_139 ?_
          refine r_iadd hκ dX12_done_140 ?_
          obtain ⟨h19, h⟩ := bck_i h
          obtain ⟨s8, v7, h20, h⟩ := bcl_i h
          refine r_callV hκ (n' := 2) (index := 97) (w_X12_takesRow Γ0 l0 h20) (lw_V q3285 q3287 qs90 q146 q3288) (by decide +kernel) (t := 10) h19 rfl rfl (by decide) rfl (Nat.le_of_ble_eq_true rfl) dX12_done_141 ?_
          refine r_aload_n hκ 0 rfl rfl dX12_done_144 ?_
          refine r_iconst hκ dX12_done_145 ?_
          refine r_iconst hκ dX12_done_146 ?_
          refine r_iconst hκ dX12_done_147 ?_
          obtain ⟨h21, h⟩ := bck_i h
          obtain ⟨s9, v8, h22, h⟩ := bcl_i h
          refine r_callV hκ (n' := 3) (index := 158) (w_X12_behindRow Γ0 l0 h22) (lw_V q3289 q3291 qs91 q146 q3292) (by decide +kernel) (t := 10) h21 rfl rfl (by decide) rfl (Nat.le_of_ble_eq_true rfl) dX12_done_148 ?_
          refine r_aload_n hκ 0 rfl rfl dX12_done_151 ?_
          refine r_bipush hκ (by decide) dX12_done_152 ?_
          refine r_iload_n hκ 1 rfl rfl dX12_done_154 ?_
          refine r_iadd hκ dX12_done_155 ?_
          refine r_iconst hκ dX12_done_156 ?_
          obtain ⟨h23, h⟩ := bck_i h
          obtain ⟨s10, v9, h24, h⟩ := bcl_i h
          refine r_callV hκ (n' := 2) (index := 101) (w_X12_keepsRow Γ0 l0 h24) (lw_V q3211 q3213 qs80 q146 q3214) (by decide +kernel) (t := 10) h23 rfl rfl (by decide) rfl (Nat.le_of_ble_eq_true rfl) dX12_done_157 ?_
          exact r_vretH hκ hf h dX12_done_160
        · replace h := (bte_i h).1 h18
          refine r_aload_n hκ 0 rfl rfl dX12_done_111 ?_
          refine r_bipush hκ (by decide) dX12_done_112 ?_
          refine r_iload_n hκ 1 rfl rfl dX12_done_114 ?_
          refine r_iadd hκ dX12_done_115 ?_
          refine r_iconst hκ dX12_done_116 ?_
          obtain ⟨h25, h⟩ := bck_i h
          obtain ⟨s11, v10, h26, h⟩ := bcl_i h
          refine r_callV hκ (n' := 2) (index := 101) (w_X12_keepsRow Γ0 l0 h26) (lw_V q3211 q3213 qs80 q146 q3214) (by decide +kernel) (t := 10) h25 rfl rfl (by decide) rfl (Nat.le_of_ble_eq_true rfl) dX12_done_117 ?_
          refine r_aload_n hκ 0 rfl rfl dX12_done_120 ?_
          obtain ⟨h27, h⟩ := bck_i h
          refine r_get hκ (t := 10) (k := 5) (r := 234) h27 rfl in_X12 (by decide) rfl q3056 (Or.inl rfl) dX12_done_121 ?_
          refine r_bipush hκ (by decide) dX12_done_124 ?_
          refine r_iload_n hκ 1 rfl rfl dX12_done_126 ?_
          refine r_imul hκ dX12_done_127 ?_
          refine r_iconst hκ dX12_done_128 ?_
          refine r_iadd hκ dX12_done_129 ?_
          refine r_iconst hκ dX12_done_130 ?_
          obtain ⟨⟨h28, h29⟩, h⟩ := bck_i h
          refine r_iast hκ h28 h29 dX12_done_131 (fun s12 es12 => ?_)
          replace h := bst_i h s12 es12
          refine r_goto hκ (tgt := 160) (by decide) dX12_done_132 ?_
          exact r_vretH hκ hf h dX12_done_160
      · replace h := (bte_i h).1 h15
        refine r_aload_n hκ 0 rfl rfl dX12_done_52 ?_
        refine r_bipush hκ (by decide) dX12_done_53 ?_
        refine r_iload_n hκ 1 rfl rfl dX12_done_55 ?_
        refine r_iadd hκ dX12_done_56 ?_
        refine r_iconst hκ dX12_done_57 ?_
        obtain ⟨h30, h⟩ := bck_i h
        obtain ⟨s13, v11, h31, h⟩ := bcl_i h
        refine r_callV hκ (n' := 2) (index := 101) (w_X12_keepsRow Γ0 l0 h31) (lw_V q3211 q3213 qs80 q146 q3214) (by decide +kernel) (t := 10) h30 rfl rfl (by decide) rfl (Nat.le_of_ble_eq_true rfl) dX12_done_58 ?_
        refine r_aload_n hκ 0 rfl rfl dX12_done_61 ?_
        refine r_bipush hκ (by decide) dX12_done_62 ?_
        refine r_iload_n hκ 1 rfl rfl dX12_done_64 ?_
        refine r_iadd hκ dX12_done_65 ?_
        refine r_iconst hκ dX12_done_66 ?_
        obtain ⟨h32, h⟩ := bck_i h
        obtain ⟨s14, v12, h33, h⟩ := bcl_i h
        refine r_callV hκ (n' := 2) (index := 101) (w_X12_keepsRow Γ0 l0 h33) (lw_V q3211 q3213 qs80 q146 q3214) (by decide +kernel) (t := 10) h32 rfl rfl (by decide) rfl (Nat.le_of_ble_eq_true rfl) dX12_done_67 ?_
        refine r_aload_n hκ 0 rfl rfl dX12_done_70 ?_
        obtain ⟨h34, h⟩ := bck_i h
        refine r_get hκ (t := 10) (k := 5) (r := 234) h34 rfl in_X12 (by decide) rfl q3056 (Or.inl rfl) dX12_done_71 ?_
        refine r_bipush hκ (by decide) dX12_done_74 ?_
        refine r_iload_n hκ 1 rfl rfl dX12_done_76 ?_
        refine r_imul hκ dX12_done_77 ?_
        refine r_iconst hκ dX12_done_78 ?_
        refine r_iadd hκ dX12_done_79 ?_
        refine r_iconst hκ dX12_done_80 ?_
        obtain ⟨⟨h35, h36⟩, h⟩ := bck_i h
        refine r_iast hκ h35 h36 dX12_done_81 (fun s15 es15 => ?_)
        replace h := bst_i h s15 es15
        refine r_aload_n hκ 0 rfl rfl dX12_done_82 ?_
        obtain ⟨h37, h⟩ := bck_i h
        refine r_get hκ (t := 10) (k := 5) (r := 234) h37 rfl in_X12 (by decide) rfl q3056 (Or.inl rfl) dX12_done_83 ?_
        refine r_bipush hκ (by decide) dX12_done_86 ?_
        refine r_iload_n hκ 1 rfl rfl dX12_done_88 ?_
        refine r_imul hκ dX12_done_89 ?_
        refine r_iconst hκ dX12_done_90 ?_
        refine r_iadd hκ dX12_done_91 ?_
        refine r_aload_n hκ 0 rfl rfl dX12_done_92 ?_
        refine r_iload_n hκ 1 rfl rfl dX12_done_93 ?_
        refine r_iconst hκ dX12_done_94 ?_
        obtain ⟨h38, h⟩ := bck_i h
        obtain ⟨s16, v13, h39, h⟩ := bcl_i h
        refine r_callV hκ (n' := 2) (index := 135) (w_X12_st Γ0 l0 h39) (lw_V q3360 q3362 qs103 q146 q3363) (by decide +kernel) (t := 10) h38 rfl rfl (by decide) rfl (Nat.le_of_ble_eq_true rfl) dX12_done_95 ?_
        obtain ⟨⟨h40, h41⟩, h⟩ := bck_i h
        refine r_iast hκ h40 h41 dX12_done_98 (fun s17 es17 => ?_)
        replace h := bst_i h s17 es17
        refine r_goto hκ (tgt := 160) (by decide) dX12_done_99 ?_
        exact r_vretH hκ hf h dX12_done_160
  | b + 1, h => trivial
set_option maxHeartbeats 4000000 in
set_option maxRecDepth 100000 in
theorem w_X12_done (Γ0 : bG) (l0 : Launch) {s0 st' : bS} {v a0 a1 a2 a3 : Int} (h : F_X12_done s0 a0 a1 a2 a3 = some (st', v)) : bCt Γ0 l0 yX12_done cX12_done 4 none 4 94 [(2, a0), (0, a1), (0, a2), (0, a3)] s0 st' none := by
  refine b_ent (own := RX12) (by decide +kernel) rfl (Nat.le_of_ble_eq_true rfl) (L := [(0, (2, a0)), (1, (0, a1)), (2, (0, a2)), (3, (0, a3))]) rfl ?_
  intro κ hκ hi hf
  unfold F_X12_done at h
  refine r_aload_n hκ 0 rfl rfl dX12_done_0 ?_
  refine r_iconst hκ dX12_done_1 ?_
  refine r_iload_n hκ 1 rfl rfl dX12_done_2 ?_
  refine r_iconst hκ dX12_done_3 ?_
  obtain ⟨h1, h⟩ := bck_i h
  obtain ⟨s1, v1, h2, h⟩ := bcl_i h
  refine r_callV hκ (n' := 3) (index := 145) (w_X12_turnedRow Γ0 l0 h2) (lw_V q3327 q3329 qs97 q146 q3330) (by decide +kernel) (t := 10) h1 rfl rfl (by decide) rfl (Nat.le_of_ble_eq_true rfl) dX12_done_4 ?_
  refine r_aload_n hκ 0 rfl rfl dX12_done_7 ?_
  refine r_iload_n hκ 1 rfl rfl dX12_done_8 ?_
  refine r_iconst hκ dX12_done_9 ?_
  obtain ⟨h3, h⟩ := bck_i h
  obtain ⟨s2, v2, h4, h⟩ := bcl_i h
  refine r_callV hκ (n' := 2) (index := 148) (w_X12_makes Γ0 l0 h4) (lw_V q3352 q3354 qs101 q146 q3355) (by decide +kernel) (t := 10) h3 rfl rfl (by decide) rfl (Nat.le_of_ble_eq_true rfl) dX12_done_10 ?_
  refine r_aload_n hκ 0 rfl rfl dX12_done_13 ?_
  refine r_iload_n hκ 1 rfl rfl dX12_done_14 ?_
  refine r_iconst hκ dX12_done_15 ?_
  refine r_iconst hκ dX12_done_16 ?_
  obtain ⟨h5, h⟩ := bck_i h
  obtain ⟨s3, v3, h6, h⟩ := bcl_i h
  refine r_callV hκ (n' := 3) (index := 151) (w_X12_cursorGoes Γ0 l0 h6) (lw_V q3356 q3358 qs102 q146 q3359) (by decide +kernel) (t := 10) h5 rfl rfl (by decide) rfl (Nat.le_of_ble_eq_true rfl) dX12_done_17 ?_
  refine r_aload_n hκ 0 rfl rfl dX12_done_20 ?_
  refine r_iload_n hκ 1 rfl rfl dX12_done_21 ?_
  refine r_iload_n hκ 2 rfl rfl dX12_done_22 ?_
  refine r_iconst hκ dX12_done_23 ?_
  obtain ⟨h7, h⟩ := bck_i h
  obtain ⟨s4, v4, h8, h⟩ := bcl_i h
  refine r_callV hκ (n' := 3) (index := 155) (w_X12_pushes Γ0 l0 h8) (lw_V q3368 q3370 qs105 q146 q3371) (by decide +kernel) (t := 10) h7 rfl rfl (by decide) rfl (Nat.le_of_ble_eq_true rfl) dX12_done_24 ?_
  refine r_iload_n hκ 3 rfl rfl dX12_done_27 ?_
  refine r_if_eq hκ (tgt := 43) (by decide) dX12_done_28 (fun h9 => ?_) (fun h9 => ?_)
  · replace h := (bte_i h).1 h9
    exact r_sub [0, 1] rfl (w_X12_done_r hκ hi hf 0 _ _ _ h)
  · replace h := (bte_i h).2 h9
    refine r_aload_n hκ 0 rfl rfl dX12_done_31 ?_
    obtain ⟨h10, h⟩ := bck_i h
    refine r_get hκ (t := 10) (k := 5) (r := 234) h10 rfl in_X12 (by decide) rfl q3056 (Or.inl rfl) dX12_done_32 ?_
    refine r_bipush hκ (by decide) dX12_done_35 ?_
    refine r_iload_n hκ 1 rfl rfl dX12_done_37 ?_
    refine r_imul hκ dX12_done_38 ?_
    refine r_iconst hκ dX12_done_39 ?_
    refine r_iadd hκ dX12_done_40 ?_
    refine r_iconst hκ dX12_done_41 ?_
    obtain ⟨⟨h11, h12⟩, h⟩ := bck_i h
    refine r_iast hκ h11 h12 dX12_done_42 (fun s5 es5 => ?_)
    replace h := bst_i h s5 es5
    exact r_sub [0, 1] rfl (w_X12_done_r hκ hi hf 0 _ _ _ h)
/-- EditsMeetModel.resultLength(I)I -/
def F_X12_resultLength (s0 : bS) (a0 a1 : Int) : Option (bS × Int) :=
  bck (bg s0 0 a0 0 = 11) <|
  bck (bg s0 0 (bg s0 254 a0 0) 0 = 1003 ∧ (0 : Int) ≤ a1 ∧ a1 < bg s0 4 (bg s0 254 a0 0) 0) <|
  bck (bg s0 0 a0 0 = 11) <|
  bck (bg s0 0 (bg s0 250 a0 0) 0 = 1010 ∧ (0 : Int) ≤ a1 ∧ a1 < bg s0 4 (bg s0 250 a0 0) 0) <|
  bck (bg s0 0 a0 0 = 11) <|
  bck (bg s0 0 (bg s0 254 a0 0) 0 = 1003 ∧ (0 : Int) ≤ a1 ∧ a1 < bg s0 4 (bg s0 254 a0 0) 0) <|
  bcl (F_X12_count s0 (bg s0 10 (bg s0 250 a0 0) a1) (bg s0 20 (bg s0 254 a0 0) a1) 3145728) fun s1 v1 =>
  some (s1, ((bg s0 20 (bg s0 254 a0 0) a1) - v1))
set_option maxHeartbeats 4000000 in
set_option maxRecDepth 100000 in
theorem w_X12_resultLength (Γ0 : bG) (l0 : Launch) {s0 st' : bS} {v a0 a1 : Int} (h : F_X12_resultLength s0 a0 a1 = some (st', v)) : bCt Γ0 l0 yX12_resultLength cX12_resultLength 2 (some .int) 2 44 [(2, a0), (0, a1)] s0 st' (some (0, v)) := by
  refine b_ent (own := RX12) (by decide +kernel) rfl (Nat.le_of_ble_eq_true rfl) (L := [(0, (2, a0)), (1, (0, a1))]) rfl ?_
  intro κ hκ hi hf
  unfold F_X12_resultLength at h
  refine r_aload_n hκ 0 rfl rfl dX12_resultLength_0 ?_
  obtain ⟨h1, h⟩ := bck_i h
  refine r_get hκ (t := 10) (k := 10) (r := 254) h1 rfl in_X12 (by decide) rfl q3061 (Or.inl rfl) dX12_resultLength_1 ?_
  refine r_iload_n hκ 1 rfl rfl dX12_resultLength_4 ?_
  obtain ⟨⟨h2, h3⟩, h⟩ := bck_i h
  refine r_iald hκ h2 h3 dX12_resultLength_5 ?_
  refine r_aload_n hκ 0 rfl rfl dX12_resultLength_6 ?_
  obtain ⟨h4, h⟩ := bck_i h
  refine r_get hκ (t := 10) (k := 9) (r := 250) h4 rfl in_X12 (by decide) rfl q3060 (Or.inl rfl) dX12_resultLength_7 ?_
  refine r_iload_n hκ 1 rfl rfl dX12_resultLength_10 ?_
  obtain ⟨⟨h5, h6⟩, h⟩ := bck_i h
  refine r_aald hκ (t := 10) (by decide) h5 h6 dX12_resultLength_11 ?_
  refine r_aload_n hκ 0 rfl rfl dX12_resultLength_12 ?_
  obtain ⟨h7, h⟩ := bck_i h
  refine r_get hκ (t := 10) (k := 10) (r := 254) h7 rfl in_X12 (by decide) rfl q3061 (Or.inl rfl) dX12_resultLength_13 ?_
  refine r_iload_n hκ 1 rfl rfl dX12_resultLength_16 ?_
  obtain ⟨⟨h8, h9⟩, h⟩ := bck_i h
  refine r_iald hκ h8 h9 dX12_resultLength_17 ?_
  refine r_ldci hκ (x := 3145728) q3197 (by decide) dX12_resultLength_18 ?_
  obtain ⟨s1, v1, h10, h⟩ := bcl_i h
  refine r_callS hκ (n' := 3) (index := 111) (w_X12_count Γ0 l0 h10) (lw_S q3238 q3239 q146 q3240) (by decide +kernel) rfl (by decide) rfl (Nat.le_of_ble_eq_true rfl) dX12_resultLength_20 ?_
  refine r_isub hκ dX12_resultLength_23 ?_
  exact r_iretH hκ hf h (nar_int _) dX12_resultLength_24
/-- EditsMeetModel.isFull(II)Z -/
def F_X12_isFull (s0 : bS) (a0 a1 a2 : Int) : Option (bS × Int) :=
  bck (bg s0 0 a0 0 = 11) <|
  bcl (F_X12_resultLength s0 a0 a2) fun s1 v1 =>
  bte (i32 v1 ≤ i32 60)
  (some (s1, 0))
  (bck (bg s1 0 a0 0 = 11) <|
  bcl (F_X12_resultLength s1 a0 a2) fun s2 v2 =>
  bck (bg s2 0 a0 0 = 11) <|
  bck (bg s2 0 (bg s2 230 a0 0) 0 = 1003 ∧ (0 : Int) ≤ a1 ∧ a1 < bg s2 4 (bg s2 230 a0 0) 0) <|
  bte (i32 v2 ≤ i32 (bg s2 20 (bg s2 230 a0 0) a1))
  (some (s2, 0))
  (some (s2, 1)))
set_option maxHeartbeats 4000000 in
set_option maxRecDepth 100000 in
theorem w_X12_isFull (Γ0 : bG) (l0 : Launch) {s0 st' : bS} {v a0 a1 a2 : Int} (h : F_X12_isFull s0 a0 a1 a2 = some (st', v)) : bCt Γ0 l0 yX12_isFull cX12_isFull 3 (some .boolean) 3 65 [(2, a0), (0, a1), (0, a2)] s0 st' (some (0, v)) := by
  refine b_ent (own := RX12) (by decide +kernel) rfl (Nat.le_of_ble_eq_true rfl) (L := [(0, (2, a0)), (1, (0, a1)), (2, (0, a2))]) rfl ?_
  intro κ hκ hi hf
  unfold F_X12_isFull at h
  refine r_aload_n hκ 0 rfl rfl dX12_isFull_0 ?_
  refine r_iload_n hκ 2 rfl rfl dX12_isFull_1 ?_
  obtain ⟨h1, h⟩ := bck_i h
  obtain ⟨s1, v1, h2, h⟩ := bcl_i h
  refine r_callV hκ (n' := 1) (index := 161) (w_X12_resultLength Γ0 l0 h2) (lw_V q3344 q3346 qs99 q146 q3347) (by decide +kernel) (t := 10) h1 rfl rfl (by decide) rfl (Nat.le_of_ble_eq_true rfl) dX12_isFull_2 ?_
  refine r_bipush hκ (by decide) dX12_isFull_5 ?_
  refine r_icmp_le hκ (tgt := 28) (by decide) dX12_isFull_7 (fun h3 => ?_) (fun h3 => ?_)
  · replace h := (bte_i h).1 h3
    refine r_iconst hκ dX12_isFull_28 ?_
    exact r_iretH hκ hf h (nar_bool (by decide)) dX12_isFull_29
  · replace h := (bte_i h).2 h3
    refine r_aload_n hκ 0 rfl rfl dX12_isFull_10 ?_
    refine r_iload_n hκ 2 rfl rfl dX12_isFull_11 ?_
    obtain ⟨h4, h⟩ := bck_i h
    obtain ⟨s2, v2, h5, h⟩ := bcl_i h
    refine r_callV hκ (n' := 1) (index := 161) (w_X12_resultLength Γ0 l0 h5) (lw_V q3344 q3346 qs99 q146 q3347) (by decide +kernel) (t := 10) h4 rfl rfl (by decide) rfl (Nat.le_of_ble_eq_true rfl) dX12_isFull_12 ?_
    refine r_aload_n hκ 0 rfl rfl dX12_isFull_15 ?_
    obtain ⟨h6, h⟩ := bck_i h
    refine r_get hκ (t := 10) (k := 4) (r := 230) h6 rfl in_X12 (by decide) rfl q3055 (Or.inl rfl) dX12_isFull_16 ?_
    refine r_iload_n hκ 1 rfl rfl dX12_isFull_19 ?_
    obtain ⟨⟨h7, h8⟩, h⟩ := bck_i h
    refine r_iald hκ h7 h8 dX12_isFull_20 ?_
    refine r_icmp_le hκ (tgt := 28) (by decide) dX12_isFull_21 (fun h9 => ?_) (fun h9 => ?_)
    · replace h := (bte_i h).1 h9
      refine r_iconst hκ dX12_isFull_28 ?_
      exact r_iretH hκ hf h (nar_bool (by decide)) dX12_isFull_29
    · replace h := (bte_i h).2 h9
      refine r_iconst hκ dX12_isFull_24 ?_
      refine r_goto hκ (tgt := 29) (by decide) dX12_isFull_25 ?_
      exact r_iretH hκ hf h (nar_bool (by decide)) dX12_isFull_29
/-- EditsMeetModel.does(II)I -/
def F_X12_does_r (b : Nat) (x0 : Int) (s0 : bS) : Option (bS × Int) :=
  match b with
  | 0 =>
    bck (bg s0 0 x0 0 = 11) <|
    bcl (F_X12_refused s0 x0 (-2)) fun s11 v11 =>
    some (s11, v11)
  | _ => none
def F_X12_does (s0 : bS) (a0 a1 a2 : Int) : Option (bS × Int) :=
  bcl (F_X12_isClient s0 a1) fun s1 v1 =>
  bte (i32 v1 = 0)
  (F_X12_does_r 0 a0 s1)
  (bcl (F_X12_isEdit s1 a2) fun s2 v2 =>
  bte (i32 v2 = 0)
  (F_X12_does_r 0 a0 s2)
  (bck (bg s2 0 a0 0 = 11) <|
  bcl (F_X12_isKept s2 a0 a2) fun s3 v3 =>
  bte (i32 v3 = 0)
  (bck (bg s3 0 a0 0 = 11) <|
  bcl (F_X12_refused s3 a0 (-4)) fun s10 v10 =>
  some (s10, v10))
  (bck (bg s3 0 a0 0 = 11) <|
  bcl (F_X12_from s3 a0 a2) fun s4 v4 =>
  bck (bg s4 0 a0 0 = 11) <|
  bck (bg s4 0 (bg s4 230 a0 0) 0 = 1003 ∧ (0 : Int) ≤ a1 ∧ a1 < bg s4 4 (bg s4 230 a0 0) 0) <|
  bte (i32 v4 = i32 (bg s4 20 (bg s4 230 a0 0) a1))
  (bck (bg s4 0 a0 0 = 11) <|
  bcl (F_X12_takesRow s4 a0 0 a2) fun s5 v5 =>
  bck (bg s5 0 a0 0 = 11) <|
  bcl (F_X12_isFull s5 a0 a1 0) fun s6 v6 =>
  bte (i32 v6 = 0)
  (bck (bg s6 0 a0 0 = 11) <|
  bcl (F_X12_done s6 a0 a1 4 1) fun s7 v7 =>
  bck (bg s7 0 a0 0 = 11) <|
  bck (bg s7 0 (bg s7 230 a0 0) 0 = 1003 ∧ (0 : Int) ≤ a1 ∧ a1 < bg s7 4 (bg s7 230 a0 0) 0) <|
  some (s7, (bg s7 20 (bg s7 230 a0 0) a1)))
  (bck (bg s6 0 a0 0 = 11) <|
  bcl (F_X12_refused s6 a0 (-6)) fun s8 v8 =>
  some (s8, v8)))
  (bck (bg s4 0 a0 0 = 11) <|
  bcl (F_X12_refused s4 a0 (-5)) fun s9 v9 =>
  some (s9, v9)))))
set_option maxHeartbeats 4000000 in
set_option maxRecDepth 100000 in
set_option synthInstance.maxHeartbeats 4000000 in
theorem w_X12_does_r {Γ0 : bG} {l0 : Launch} {κ : bK} {st' : bS} {v : Int} (hκ : bOk κ Γ0 l0 cX12_does RX12 3 5 117) (hi : bIn κ yX12_does) (hf : bFin κ (some .int) st' (some (0, v))) (b : Nat) (x0 : Int) (s0 : bS) (h : F_X12_does_r b x0 s0 = some (st', v)) : match (generalizing := false) b with | 0 => bJ κ s0 14 [(0, (2, x0))] [] | _ => True := by
  unfold F_X12_does_r at h
  match b, h with
  | 0, h =>
      refine r_aload_n hκ 0 rfl rfl dX12_does_14 ?_
      refine r_bipush hκ (by decide) dX12_does_15 ?_
      obtain ⟨h30, h⟩ := bck_i h
      obtain ⟨s11, v11, h31, h⟩ := bcl_i h
      refine r_callV hκ (n' := 1) (index := 183) (w_X12_refused Γ0 l0 h31) (lw_V q3159 q3161 qs73 q146 q3162) (by decide +kernel) (t := 10) h30 rfl rfl (by decide) rfl (Nat.le_of_ble_eq_true rfl) dX12_does_17 ?_
      exact r_iretH hκ hf h (nar_int _) dX12_does_20
  | b + 1, h => trivial
set_option maxHeartbeats 4000000 in
set_option maxRecDepth 100000 in
theorem w_X12_does (Γ0 : bG) (l0 : Launch) {s0 st' : bS} {v a0 a1 a2 : Int} (h : F_X12_does s0 a0 a1 a2 = some (st', v)) : bCt Γ0 l0 yX12_does cX12_does 3 (some .int) 5 117 [(2, a0), (0, a1), (0, a2)] s0 st' (some (0, v)) := by
  refine b_ent (own := RX12) (by decide +kernel) rfl (Nat.le_of_ble_eq_true rfl) (L := [(0, (2, a0)), (1, (0, a1)), (2, (0, a2))]) rfl ?_
  intro κ hκ hi hf
  unfold F_X12_does at h
  refine r_iload_n hκ 1 rfl rfl dX12_does_0 ?_
  obtain ⟨s1, v1, h1, h⟩ := bcl_i h
  refine r_callS hκ (n' := 1) (index := 272) (w_X12_isClient Γ0 l0 h1) (lw_S q3324 q3325 q146 q3326) (by decide +kernel) rfl (by decide) rfl (Nat.le_of_ble_eq_true rfl) dX12_does_1 ?_
  refine r_if_eq hκ (tgt := 14) (by decide) dX12_does_4 (fun h2 => ?_) (fun h2 => ?_)
  · replace h := (bte_i h).1 h2
    exact r_sub [0] rfl (w_X12_does_r hκ hi hf 0 _ _ h)
  · replace h := (bte_i h).2 h2
    refine r_iload_n hκ 2 rfl rfl dX12_does_7 ?_
    obtain ⟨s2, v2, h3, h⟩ := bcl_i h
    refine r_callS hκ (n' := 1) (index := 211) (w_X12_isEdit Γ0 l0 h3) (lw_S q3171 q3172 q146 q3173) (by decide +kernel) rfl (by decide) rfl (Nat.le_of_ble_eq_true rfl) dX12_does_8 ?_
    refine r_if_ne hκ (tgt := 21) (by decide) dX12_does_11 (fun h4 => ?_) (fun h4 => ?_)
    · replace h := (bte_i h).2 h4
      refine r_aload_n hκ 0 rfl rfl dX12_does_21 ?_
      refine r_iload_n hκ 2 rfl rfl dX12_does_22 ?_
      obtain ⟨h5, h⟩ := bck_i h
      obtain ⟨s3, v3, h6, h⟩ := bcl_i h
      refine r_callV hκ (n' := 1) (index := 230) (w_X12_isKept Γ0 l0 h6) (lw_V q3230 q3232 qs82 q146 q3233) (by decide +kernel) (t := 10) h5 rfl rfl (by decide) rfl (Nat.le_of_ble_eq_true rfl) dX12_does_23 ?_
      refine r_if_ne hκ (tgt := 36) (by decide) dX12_does_26 (fun h7 => ?_) (fun h7 => ?_)
      · replace h := (bte_i h).2 h7
        refine r_aload_n hκ 0 rfl rfl dX12_does_36 ?_
        refine r_iload_n hκ 2 rfl rfl dX12_does_37 ?_
        obtain ⟨h8, h⟩ := bck_i h
        obtain ⟨s4, v4, h9, h⟩ := bcl_i h
        refine r_callV hκ (n' := 1) (index := 233) (w_X12_from Γ0 l0 h9) (lw_V q3234 q3236 qs83 q146 q3237) (by decide +kernel) (t := 10) h8 rfl rfl (by decide) rfl (Nat.le_of_ble_eq_true rfl) dX12_does_38 ?_
        refine r_aload_n hκ 0 rfl rfl dX12_does_41 ?_
        obtain ⟨h10, h⟩ := bck_i h
        refine r_get hκ (t := 10) (k := 4) (r := 230) h10 rfl in_X12 (by decide) rfl q3055 (Or.inl rfl) dX12_does_42 ?_
        refine r_iload_n hκ 1 rfl rfl dX12_does_45 ?_
        obtain ⟨⟨h11, h12⟩, h⟩ := bck_i h
        refine r_iald hκ h11 h12 dX12_does_46 ?_
        refine r_icmp_eq hκ (tgt := 57) (by decide) dX12_does_47 (fun h13 => ?_) (fun h13 => ?_)
        · replace h := (bte_i h).1 h13
          refine r_aload_n hκ 0 rfl rfl dX12_does_57 ?_
          refine r_iconst hκ dX12_does_58 ?_
          refine r_iload_n hκ 2 rfl rfl dX12_does_59 ?_
          obtain ⟨h14, h⟩ := bck_i h
          obtain ⟨s5, v5, h15, h⟩ := bcl_i h
          refine r_callV hκ (n' := 2) (index := 97) (w_X12_takesRow Γ0 l0 h15) (lw_V q3285 q3287 qs90 q146 q3288) (by decide +kernel) (t := 10) h14 rfl rfl (by decide) rfl (Nat.le_of_ble_eq_true rfl) dX12_does_60 ?_
          refine r_aload_n hκ 0 rfl rfl dX12_does_63 ?_
          refine r_iload_n hκ 1 rfl rfl dX12_does_64 ?_
          refine r_iconst hκ dX12_does_65 ?_
          obtain ⟨h16, h⟩ := bck_i h
          obtain ⟨s6, v6, h17, h⟩ := bcl_i h
          refine r_callV hκ (n' := 2) (index := 280) (w_X12_isFull Γ0 l0 h17) (lw_V q3340 q3342 qs98 q146 q3343) (by decide +kernel) (t := 10) h16 rfl rfl (by decide) rfl (Nat.le_of_ble_eq_true rfl) dX12_does_66 ?_
          refine r_if_eq hκ (tgt := 79) (by decide) dX12_does_69 (fun h18 => ?_) (fun h18 => ?_)
          · replace h := (bte_i h).1 h18
            refine r_aload_n hκ 0 rfl rfl dX12_does_79 ?_
            refine r_iload_n hκ 1 rfl rfl dX12_does_80 ?_
            refine r_iconst hκ dX12_does_81 ?_
            refine r_iconst hκ dX12_does_82 ?_
            obtain ⟨h19, h⟩ := bck_i h
            obtain ⟨s7, v7, h20, h⟩ := bcl_i h
            refine r_callV hκ (n' := 3) (index := 283) (w_X12_done Γ0 l0 h20) (lw_V q3348 q3350 qs100 q146 q3351) (by decide +kernel) (t := 10) h19 rfl rfl (by decide) rfl (Nat.le_of_ble_eq_true rfl) dX12_does_83 ?_
            refine r_aload_n hκ 0 rfl rfl dX12_does_86 ?_
            obtain ⟨h21, h⟩ := bck_i h
            refine r_get hκ (t := 10) (k := 4) (r := 230) h21 rfl in_X12 (by decide) rfl q3055 (Or.inl rfl) dX12_does_87 ?_
            refine r_iload_n hκ 1 rfl rfl dX12_does_90 ?_
            obtain ⟨⟨h22, h23⟩, h⟩ := bck_i h
            refine r_iald hκ h22 h23 dX12_does_91 ?_
            exact r_iretH hκ hf h (nar_int _) dX12_does_92
          · replace h := (bte_i h).2 h18
            refine r_aload_n hκ 0 rfl rfl dX12_does_72 ?_
            refine r_bipush hκ (by decide) dX12_does_73 ?_
            obtain ⟨h24, h⟩ := bck_i h
            obtain ⟨s8, v8, h25, h⟩ := bcl_i h
            refine r_callV hκ (n' := 1) (index := 183) (w_X12_refused Γ0 l0 h25) (lw_V q3159 q3161 qs73 q146 q3162) (by decide +kernel) (t := 10) h24 rfl rfl (by decide) rfl (Nat.le_of_ble_eq_true rfl) dX12_does_75 ?_
            exact r_iretH hκ hf h (nar_int _) dX12_does_78
        · replace h := (bte_i h).2 h13
          refine r_aload_n hκ 0 rfl rfl dX12_does_50 ?_
          refine r_bipush hκ (by decide) dX12_does_51 ?_
          obtain ⟨h26, h⟩ := bck_i h
          obtain ⟨s9, v9, h27, h⟩ := bcl_i h
          refine r_callV hκ (n' := 1) (index := 183) (w_X12_refused Γ0 l0 h27) (lw_V q3159 q3161 qs73 q146 q3162) (by decide +kernel) (t := 10) h26 rfl rfl (by decide) rfl (Nat.le_of_ble_eq_true rfl) dX12_does_53 ?_
          exact r_iretH hκ hf h (nar_int _) dX12_does_56
      · replace h := (bte_i h).1 h7
        refine r_aload_n hκ 0 rfl rfl dX12_does_29 ?_
        refine r_bipush hκ (by decide) dX12_does_30 ?_
        obtain ⟨h28, h⟩ := bck_i h
        obtain ⟨s10, v10, h29, h⟩ := bcl_i h
        refine r_callV hκ (n' := 1) (index := 183) (w_X12_refused Γ0 l0 h29) (lw_V q3159 q3161 qs73 q146 q3162) (by decide +kernel) (t := 10) h28 rfl rfl (by decide) rfl (Nat.le_of_ble_eq_true rfl) dX12_does_32 ?_
        exact r_iretH hκ hf h (nar_int _) dX12_does_35
    · replace h := (bte_i h).1 h4
      exact r_sub [0] rfl (w_X12_does_r hκ hi hf 0 _ _ h)
/-- EditsMeetModel.inserts(III)V -/
def F_X12_inserts_r (b : Nat) (x0 x1 x2 x3 x4 : Int) (s0 : bS) : Option (bS × Int) :=
  match b with
  | 0 =>
    bck (bg s0 0 x0 0 = 11) <|
    bck (bg s0 0 (bg s0 230 x0 0) 0 = 1003 ∧ (0 : Int) ≤ x1 ∧ x1 < bg s0 4 (bg s0 230 x0 0) 0) <|
    bte (i32 (bg s0 20 (bg s0 230 x0 0) x1) < i32 x4)
    (bck (bg s0 0 x0 0 = 11) <|
    bcl (F_X12_done s0 x0 x1 4 1) fun s2 v1 =>
    some (s2, 0))
    (bte (i32 x4 = i32 x2)
    (bck (bg s0 0 x0 0 = 11) <|
    bcl (F_X12_adds s0 x0 0 x3) fun s3 v2 =>
    F_X12_inserts_r 1 x0 x1 x2 x3 x4 s3)
    (F_X12_inserts_r 1 x0 x1 x2 x3 x4 s0))
  | 1 =>
    bck (bg s0 0 x0 0 = 11) <|
    bck (bg s0 0 (bg s0 230 x0 0) 0 = 1003 ∧ (0 : Int) ≤ x1 ∧ x1 < bg s0 4 (bg s0 230 x0 0) 0) <|
    bte (i32 (bg s0 20 (bg s0 230 x0 0) x1) ≤ i32 x4)
    (F_X12_inserts_r 2 x0 x1 x2 x3 x4 s0)
    (bck (bg s0 0 x0 0 = 11) <|
    bcl (F_X12_adds s0 x0 0 2097152) fun s4 v3 =>
    F_X12_inserts_r 2 x0 x1 x2 x3 x4 s4)
  | 2 =>
    F_X12_inserts_r 0 x0 x1 x2 x3 (x4 + 1) s0
  | _ => none
partial_fixpoint
def F_X12_inserts (s0 : bS) (a0 a1 a2 a3 : Int) : Option (bS × Int) :=
  bck (bg s0 0 a0 0 = 11) <|
  bck (bg s0 0 (bg s0 254 a0 0) 0 = 1003 ∧ (0 : Int) ≤ 0 ∧ 0 < bg s0 4 (bg s0 254 a0 0) 0) <|
  bst (bw s0 20 (bg s0 254 a0 0) 0 0) fun s1 =>
  F_X12_inserts_r 0 a0 a1 a2 a3 0 s1
set_option maxHeartbeats 4000000 in
set_option maxRecDepth 100000 in
set_option synthInstance.maxHeartbeats 4000000 in
theorem w_X12_inserts_r {Γ0 : bG} {l0 : Launch} {κ : bK} {st' : bS} {v : Int} (hκ : bOk κ Γ0 l0 cX12_inserts RX12 5 5 117) (hi : bIn κ yX12_inserts) (hf : bFin κ none st' none) (b : Nat) (x0 x1 x2 x3 x4 : Int) (s0 : bS) (h : F_X12_inserts_r b x0 x1 x2 x3 x4 s0 = some (st', v)) : match (generalizing := false) b with | 0 => bJ κ s0 10 [(0, (2, x0)), (1, (0, x1)), (2, (0, x2)), (3, (0, x3)), (4, (0, x4))] [] | 1 => bJ κ s0 33 [(0, (2, x0)), (1, (0, x1)), (2, (0, x2)), (3, (0, x3)), (4, (0, x4))] [] | 2 => bJ κ s0 51 [(0, (2, x0)), (1, (0, x1)), (2, (0, x2)), (3, (0, x3)), (4, (0, x4))] [] | _ => True := by
  refine F_X12_inserts_r.partial_correctness x0 x1 x2 x3 (fun b x4 s0 r => r = (st', v) → match (generalizing := false) b with | 0 => bJ κ s0 10 [(0, (2, x0)), (1, (0, x1)), (2, (0, x2)), (3, (0, x3)), (4, (0, x4))] [] | 1 => bJ κ s0 33 [(0, (2, x0)), (1, (0, x1)), (2, (0, x2)), (3, (0, x3)), (4, (0, x4))] [] | 2 => bJ κ s0 51 [(0, (2, x0)), (1, (0, x1)), (2, (0, x2)), (3, (0, x3)), (4, (0, x4))] [] | _ => True) ?_ b x4 s0 _ h rfl
  intro f' ih b x4 s0 r h hr
  subst hr
  match b, h with
  | 0, h =>
      refine r_iload hκ 4 rfl dX12_inserts_10 ?_
      refine r_aload_n hκ 0 rfl rfl dX12_inserts_12 ?_
      obtain ⟨h4, h⟩ := bck_i h
      refine r_get hκ (t := 10) (k := 4) (r := 230) h4 rfl in_X12 (by decide) rfl q3055 (Or.inl rfl) dX12_inserts_13 ?_
      refine r_iload_n hκ 1 rfl rfl dX12_inserts_16 ?_
      obtain ⟨⟨h5, h6⟩, h⟩ := bck_i h
      refine r_iald hκ h5 h6 dX12_inserts_17 ?_
      refine r_icmp_gt hκ (tgt := 57) (by decide) dX12_inserts_18 (fun h7 => ?_) (fun h7 => ?_)
      · replace h := (bte_i h).1 h7
        refine r_aload_n hκ 0 rfl rfl dX12_inserts_57 ?_
        refine r_iload_n hκ 1 rfl rfl dX12_inserts_58 ?_
        refine r_iconst hκ dX12_inserts_59 ?_
        refine r_iconst hκ dX12_inserts_60 ?_
        obtain ⟨h8, h⟩ := bck_i h
        obtain ⟨s2, v1, h9, h⟩ := bcl_i h
        refine r_callV hκ (n' := 3) (index := 283) (w_X12_done Γ0 l0 h9) (lw_V q3348 q3350 qs100 q146 q3351) (by decide +kernel) (t := 10) h8 rfl rfl (by decide) rfl (Nat.le_of_ble_eq_true rfl) dX12_inserts_61 ?_
        exact r_vretH hκ hf h dX12_inserts_64
      · replace h := (bte_i h).2 h7
        refine r_iload hκ 4 rfl dX12_inserts_21 ?_
        refine r_iload_n hκ 2 rfl rfl dX12_inserts_23 ?_
        refine r_icmp_ne hκ (tgt := 33) (by decide) dX12_inserts_24 (fun h10 => ?_) (fun h10 => ?_)
        · replace h := (bte_i h).2 h10
          exact r_sub [0, 1, 2, 3, 4] rfl (ih 1 _ _ _ h rfl)
        · replace h := (bte_i h).1 h10
          refine r_aload_n hκ 0 rfl rfl dX12_inserts_27 ?_
          refine r_iconst hκ dX12_inserts_28 ?_
          refine r_iload_n hκ 3 rfl rfl dX12_inserts_29 ?_
          obtain ⟨h11, h⟩ := bck_i h
          obtain ⟨s3, v2, h12, h⟩ := bcl_i h
          refine r_callV hκ (n' := 2) (index := 115) (w_X12_adds Γ0 l0 h12) (lw_V q3186 q3188 qs76 q146 q3189) (by decide +kernel) (t := 10) h11 rfl rfl (by decide) rfl (Nat.le_of_ble_eq_true rfl) dX12_inserts_30 ?_
          exact r_sub [0, 1, 2, 3, 4] rfl (ih 1 _ _ _ h rfl)
  | 1, h =>
      refine r_iload hκ 4 rfl dX12_inserts_33 ?_
      refine r_aload_n hκ 0 rfl rfl dX12_inserts_35 ?_
      obtain ⟨h13, h⟩ := bck_i h
      refine r_get hκ (t := 10) (k := 4) (r := 230) h13 rfl in_X12 (by decide) rfl q3055 (Or.inl rfl) dX12_inserts_36 ?_
      refine r_iload_n hκ 1 rfl rfl dX12_inserts_39 ?_
      obtain ⟨⟨h14, h15⟩, h⟩ := bck_i h
      refine r_iald hκ h14 h15 dX12_inserts_40 ?_
      refine r_icmp_ge hκ (tgt := 51) (by decide) dX12_inserts_41 (fun h16 => ?_) (fun h16 => ?_)
      · replace h := (bte_i h).1 h16
        exact r_sub [0, 1, 2, 3, 4] rfl (ih 2 _ _ _ h rfl)
      · replace h := (bte_i h).2 h16
        refine r_aload_n hκ 0 rfl rfl dX12_inserts_44 ?_
        refine r_iconst hκ dX12_inserts_45 ?_
        refine r_ldci hκ (x := 2097152) q3196 (by decide) dX12_inserts_46 ?_
        obtain ⟨h17, h⟩ := bck_i h
        obtain ⟨s4, v3, h18, h⟩ := bcl_i h
        refine r_callV hκ (n' := 2) (index := 115) (w_X12_adds Γ0 l0 h18) (lw_V q3186 q3188 qs76 q146 q3189) (by decide +kernel) (t := 10) h17 rfl rfl (by decide) rfl (Nat.le_of_ble_eq_true rfl) dX12_inserts_48 ?_
        exact r_sub [0, 1, 2, 3, 4] rfl (ih 2 _ _ _ h rfl)
  | 2, h =>
      refine r_iinc hκ (L2 := [(4, (0, (x4 + 1))), (0, (2, x0)), (1, (0, x1)), (2, (0, x2)), (3, (0, x3))]) 4 rfl (by decide) rfl dX12_inserts_51 ?_
      refine r_goto hκ (tgt := 10) (by decide) dX12_inserts_54 ?_
      exact r_sub [1, 2, 3, 4, 0] rfl (ih 0 _ _ _ h rfl)
  | b + 3, h => trivial
set_option maxHeartbeats 4000000 in
set_option maxRecDepth 100000 in
theorem w_X12_inserts (Γ0 : bG) (l0 : Launch) {s0 st' : bS} {v a0 a1 a2 a3 : Int} (h : F_X12_inserts s0 a0 a1 a2 a3 = some (st', v)) : bCt Γ0 l0 yX12_inserts cX12_inserts 5 none 5 117 [(2, a0), (0, a1), (0, a2), (0, a3)] s0 st' none := by
  refine b_ent (own := RX12) (by decide +kernel) rfl (Nat.le_of_ble_eq_true rfl) (L := [(0, (2, a0)), (1, (0, a1)), (2, (0, a2)), (3, (0, a3))]) rfl ?_
  intro κ hκ hi hf
  unfold F_X12_inserts at h
  refine r_aload_n hκ 0 rfl rfl dX12_inserts_0 ?_
  obtain ⟨h1, h⟩ := bck_i h
  refine r_get hκ (t := 10) (k := 10) (r := 254) h1 rfl in_X12 (by decide) rfl q3061 (Or.inl rfl) dX12_inserts_1 ?_
  refine r_iconst hκ dX12_inserts_4 ?_
  refine r_iconst hκ dX12_inserts_5 ?_
  obtain ⟨⟨h2, h3⟩, h⟩ := bck_i h
  refine r_iast hκ h2 h3 dX12_inserts_6 (fun s1 es1 => ?_)
  replace h := bst_i h s1 es1
  refine r_iconst hκ dX12_inserts_7 ?_
  refine r_istore hκ (L2 := [(4, (0, 0)), (0, (2, a0)), (1, (0, a1)), (2, (0, a2)), (3, (0, a3))]) (by decide) rfl dX12_inserts_8 ?_
  exact r_sub [1, 2, 3, 4, 0] rfl (w_X12_inserts_r hκ hi hf 0 _ _ _ _ _ _ h)
/-- EditsMeetModel.insert(IIII)I -/
def F_X12_insert_r (b : Nat) (x0 : Int) (s0 : bS) : Option (bS × Int) :=
  match b with
  | 0 =>
    bck (bg s0 0 x0 0 = 11) <|
    bcl (F_X12_refused s0 x0 (-2)) fun s7 v7 =>
    some (s7, v7)
  | _ => none
def F_X12_insert (s0 : bS) (a0 a1 a2 a3 a4 : Int) : Option (bS × Int) :=
  bcl (F_X12_isClient s0 a1) fun s1 v1 =>
  bte (i32 v1 = 0)
  (F_X12_insert_r 0 a0 s1)
  (bck (bg s1 0 a0 0 = 11) <|
  bck (bg s1 0 (bg s1 230 a0 0) 0 = 1003 ∧ (0 : Int) ≤ a1 ∧ a1 < bg s1 4 (bg s1 230 a0 0) 0) <|
  bcl (F_X12_in s1 (b_i2l a2) 0 (b_i2l (bg s1 20 (bg s1 230 a0 0) a1))) fun s2 v2 =>
  bte (i32 v2 = 0)
  (F_X12_insert_r 0 a0 s2)
  (bcl (F_X12_in s2 (b_i2l a3) 0 25) fun s3 v3 =>
  bte (i32 v3 = 0)
  (F_X12_insert_r 0 a0 s3)
  (bcl (F_X12_in s3 (b_i2l a4) 0 15) fun s4 v4 =>
  bte (i32 v4 = 0)
  (F_X12_insert_r 0 a0 s4)
  (bck (bg s4 0 a0 0 = 11) <|
  bck (bg s4 0 (bg s4 230 a0 0) 0 = 1003 ∧ (0 : Int) ≤ a1 ∧ a1 < bg s4 4 (bg s4 230 a0 0) 0) <|
  bte (i32 (bg s4 20 (bg s4 230 a0 0) a1) < i32 60)
  (bck (bg s4 0 a0 0 = 11) <|
  bcl (F_X12_inserts s4 a0 a1 a2 (b_ior (b_ior 1048576 (b_ishl a4 8)) a3)) fun s5 v5 =>
  bck (bg s5 0 a0 0 = 11) <|
  bck (bg s5 0 (bg s5 230 a0 0) 0 = 1003 ∧ (0 : Int) ≤ a1 ∧ a1 < bg s5 4 (bg s5 230 a0 0) 0) <|
  some (s5, (bg s5 20 (bg s5 230 a0 0) a1)))
  (bck (bg s4 0 a0 0 = 11) <|
  bcl (F_X12_refused s4 a0 (-6)) fun s6 v6 =>
  some (s6, v6))))))
set_option maxHeartbeats 4000000 in
set_option maxRecDepth 100000 in
set_option synthInstance.maxHeartbeats 4000000 in
theorem w_X12_insert_r {Γ0 : bG} {l0 : Launch} {κ : bK} {st' : bS} {v : Int} (hκ : bOk κ Γ0 l0 cX12_insert RX12 5 6 141) (hi : bIn κ yX12_insert) (hf : bFin κ (some .int) st' (some (0, v))) (b : Nat) (x0 : Int) (s0 : bS) (h : F_X12_insert_r b x0 s0 = some (st', v)) : match (generalizing := false) b with | 0 => bJ κ s0 48 [(0, (2, x0))] [] | _ => True := by
  unfold F_X12_insert_r at h
  match b, h with
  | 0, h =>
      refine r_aload_n hκ 0 rfl rfl dX12_insert_48 ?_
      refine r_bipush hκ (by decide) dX12_insert_49 ?_
      obtain ⟨h23, h⟩ := bck_i h
      obtain ⟨s7, v7, h24, h⟩ := bcl_i h
      refine r_callV hκ (n' := 1) (index := 183) (w_X12_refused Γ0 l0 h24) (lw_V q3159 q3161 qs73 q146 q3162) (by decide +kernel) (t := 10) h23 rfl rfl (by decide) rfl (Nat.le_of_ble_eq_true rfl) dX12_insert_51 ?_
      exact r_iretH hκ hf h (nar_int _) dX12_insert_54
  | b + 1, h => trivial
set_option maxHeartbeats 4000000 in
set_option maxRecDepth 100000 in
theorem w_X12_insert (Γ0 : bG) (l0 : Launch) {s0 st' : bS} {v a0 a1 a2 a3 a4 : Int} (h : F_X12_insert s0 a0 a1 a2 a3 a4 = some (st', v)) : bCt Γ0 l0 yX12_insert cX12_insert 5 (some .int) 6 141 [(2, a0), (0, a1), (0, a2), (0, a3), (0, a4)] s0 st' (some (0, v)) := by
  refine b_ent (own := RX12) (by decide +kernel) rfl (Nat.le_of_ble_eq_true rfl) (L := [(0, (2, a0)), (1, (0, a1)), (2, (0, a2)), (3, (0, a3)), (4, (0, a4))]) rfl ?_
  intro κ hκ hi hf
  unfold F_X12_insert at h
  refine r_iload_n hκ 1 rfl rfl dX12_insert_0 ?_
  obtain ⟨s1, v1, h1, h⟩ := bcl_i h
  refine r_callS hκ (n' := 1) (index := 272) (w_X12_isClient Γ0 l0 h1) (lw_S q3324 q3325 q146 q3326) (by decide +kernel) rfl (by decide) rfl (Nat.le_of_ble_eq_true rfl) dX12_insert_1 ?_
  refine r_if_eq hκ (tgt := 48) (by decide) dX12_insert_4 (fun h2 => ?_) (fun h2 => ?_)
  · replace h := (bte_i h).1 h2
    exact r_sub [0] rfl (w_X12_insert_r hκ hi hf 0 _ _ h)
  · replace h := (bte_i h).2 h2
    refine r_iload_n hκ 2 rfl rfl dX12_insert_7 ?_
    refine r_i2l hκ dX12_insert_8 ?_
    refine r_lconst hκ (x := 0) (by decide) dX12_insert_9 ?_
    refine r_aload_n hκ 0 rfl rfl dX12_insert_10 ?_
    obtain ⟨h3, h⟩ := bck_i h
    refine r_get hκ (t := 10) (k := 4) (r := 230) h3 rfl in_X12 (by decide) rfl q3055 (Or.inl rfl) dX12_insert_11 ?_
    refine r_iload_n hκ 1 rfl rfl dX12_insert_14 ?_
    obtain ⟨⟨h4, h5⟩, h⟩ := bck_i h
    refine r_iald hκ h4 h5 dX12_insert_15 ?_
    refine r_i2l hκ dX12_insert_16 ?_
    obtain ⟨s2, v2, h6, h⟩ := bcl_i h
    refine r_callS hκ (n' := 3) (index := 175) (w_X12_in Γ0 l0 h6) (lw_S q3156 q3157 q146 q3158) (by decide +kernel) rfl (by decide) rfl (Nat.le_of_ble_eq_true rfl) dX12_insert_17 ?_
    refine r_if_eq hκ (tgt := 48) (by decide) dX12_insert_20 (fun h7 => ?_) (fun h7 => ?_)
    · replace h := (bte_i h).1 h7
      exact r_sub [0] rfl (w_X12_insert_r hκ hi hf 0 _ _ h)
    · replace h := (bte_i h).2 h7
      refine r_iload_n hκ 3 rfl rfl dX12_insert_23 ?_
      refine r_i2l hκ dX12_insert_24 ?_
      refine r_lconst hκ (x := 0) (by decide) dX12_insert_25 ?_
      refine r_ldcl hκ (x := 25) q3380 (by decide) dX12_insert_26 ?_
      obtain ⟨s3, v3, h8, h⟩ := bcl_i h
      refine r_callS hκ (n' := 3) (index := 175) (w_X12_in Γ0 l0 h8) (lw_S q3156 q3157 q146 q3158) (by decide +kernel) rfl (by decide) rfl (Nat.le_of_ble_eq_true rfl) dX12_insert_29 ?_
      refine r_if_eq hκ (tgt := 48) (by decide) dX12_insert_32 (fun h9 => ?_) (fun h9 => ?_)
      · replace h := (bte_i h).1 h9
        exact r_sub [0] rfl (w_X12_insert_r hκ hi hf 0 _ _ h)
      · replace h := (bte_i h).2 h9
        refine r_iload hκ 4 rfl dX12_insert_35 ?_
        refine r_i2l hκ dX12_insert_37 ?_
        refine r_lconst hκ (x := 0) (by decide) dX12_insert_38 ?_
        refine r_ldcl hκ (x := 15) q3381 (by decide) dX12_insert_39 ?_
        obtain ⟨s4, v4, h10, h⟩ := bcl_i h
        refine r_callS hκ (n' := 3) (index := 175) (w_X12_in Γ0 l0 h10) (lw_S q3156 q3157 q146 q3158) (by decide +kernel) rfl (by decide) rfl (Nat.le_of_ble_eq_true rfl) dX12_insert_42 ?_
        refine r_if_ne hκ (tgt := 55) (by decide) dX12_insert_45 (fun h11 => ?_) (fun h11 => ?_)
        · replace h := (bte_i h).2 h11
          refine r_aload_n hκ 0 rfl rfl dX12_insert_55 ?_
          obtain ⟨h12, h⟩ := bck_i h
          refine r_get hκ (t := 10) (k := 4) (r := 230) h12 rfl in_X12 (by decide) rfl q3055 (Or.inl rfl) dX12_insert_56 ?_
          refine r_iload_n hκ 1 rfl rfl dX12_insert_59 ?_
          obtain ⟨⟨h13, h14⟩, h⟩ := bck_i h
          refine r_iald hκ h13 h14 dX12_insert_60 ?_
          refine r_bipush hκ (by decide) dX12_insert_61 ?_
          refine r_icmp_lt hκ (tgt := 73) (by decide) dX12_insert_63 (fun h15 => ?_) (fun h15 => ?_)
          · replace h := (bte_i h).1 h15
            refine r_aload_n hκ 0 rfl rfl dX12_insert_73 ?_
            refine r_iload_n hκ 1 rfl rfl dX12_insert_74 ?_
            refine r_iload_n hκ 2 rfl rfl dX12_insert_75 ?_
            refine r_ldci hκ (x := 1048576) q3185 (by decide) dX12_insert_76 ?_
            refine r_iload hκ 4 rfl dX12_insert_78 ?_
            refine r_bipush hκ (by decide) dX12_insert_80 ?_
            refine r_ishl hκ dX12_insert_82 ?_
            refine r_ior hκ dX12_insert_83 ?_
            refine r_iload_n hκ 3 rfl rfl dX12_insert_84 ?_
            refine r_ior hκ dX12_insert_85 ?_
            obtain ⟨h16, h⟩ := bck_i h
            obtain ⟨s5, v5, h17, h⟩ := bcl_i h
            refine r_callV hκ (n' := 3) (index := 290) (w_X12_inserts Γ0 l0 h17) (lw_V q3382 q3384 qs107 q146 q3385) (by decide +kernel) (t := 10) h16 rfl rfl (by decide) rfl (Nat.le_of_ble_eq_true rfl) dX12_insert_86 ?_
            refine r_aload_n hκ 0 rfl rfl dX12_insert_89 ?_
            obtain ⟨h18, h⟩ := bck_i h
            refine r_get hκ (t := 10) (k := 4) (r := 230) h18 rfl in_X12 (by decide) rfl q3055 (Or.inl rfl) dX12_insert_90 ?_
            refine r_iload_n hκ 1 rfl rfl dX12_insert_93 ?_
            obtain ⟨⟨h19, h20⟩, h⟩ := bck_i h
            refine r_iald hκ h19 h20 dX12_insert_94 ?_
            exact r_iretH hκ hf h (nar_int _) dX12_insert_95
          · replace h := (bte_i h).2 h15
            refine r_aload_n hκ 0 rfl rfl dX12_insert_66 ?_
            refine r_bipush hκ (by decide) dX12_insert_67 ?_
            obtain ⟨h21, h⟩ := bck_i h
            obtain ⟨s6, v6, h22, h⟩ := bcl_i h
            refine r_callV hκ (n' := 1) (index := 183) (w_X12_refused Γ0 l0 h22) (lw_V q3159 q3161 qs73 q146 q3162) (by decide +kernel) (t := 10) h21 rfl rfl (by decide) rfl (Nat.le_of_ble_eq_true rfl) dX12_insert_69 ?_
            exact r_iretH hκ hf h (nar_int _) dX12_insert_72
        · replace h := (bte_i h).1 h11
          exact r_sub [0] rfl (w_X12_insert_r hκ hi hf 0 _ _ h)
/-- EditsMeetModel.isStretch(III)Z -/
def F_X12_isStretch (s0 : bS) (a0 a1 a2 a3 : Int) : Option (bS × Int) :=
  bcl (F_X12_isClient s0 a1) fun s1 v1 =>
  bte (i32 v1 = 0)
  (some (s1, 0))
  (bte (i32 a3 < i32 1)
  (some (s1, 0))
  (bck (bg s1 0 a0 0 = 11) <|
  bck (bg s1 0 (bg s1 230 a0 0) 0 = 1003 ∧ (0 : Int) ≤ a1 ∧ a1 < bg s1 4 (bg s1 230 a0 0) 0) <|
  bcl (F_X12_in s1 (b_i2l a2) 0 (b_i2l ((bg s1 20 (bg s1 230 a0 0) a1) - 1))) fun s2 v2 =>
  bte (i32 v2 = 0)
  (some (s2, 0))
  (bck (bg s2 0 a0 0 = 11) <|
  bck (bg s2 0 (bg s2 230 a0 0) 0 = 1003 ∧ (0 : Int) ≤ a1 ∧ a1 < bg s2 4 (bg s2 230 a0 0) 0) <|
  bte (i32 ((bg s2 20 (bg s2 230 a0 0) a1) - a2) < i32 a3)
  (some (s2, 0))
  (some (s2, 1)))))
set_option maxHeartbeats 4000000 in
set_option maxRecDepth 100000 in
theorem w_X12_isStretch (Γ0 : bG) (l0 : Launch) {s0 st' : bS} {v a0 a1 a2 a3 : Int} (h : F_X12_isStretch s0 a0 a1 a2 a3 = some (st', v)) : bCt Γ0 l0 yX12_isStretch cX12_isStretch 4 (some .boolean) 2 45 [(2, a0), (0, a1), (0, a2), (0, a3)] s0 st' (some (0, v)) := by
  refine b_ent (own := RX12) (by decide +kernel) rfl (Nat.le_of_ble_eq_true rfl) (L := [(0, (2, a0)), (1, (0, a1)), (2, (0, a2)), (3, (0, a3))]) rfl ?_
  intro κ hκ hi hf
  unfold F_X12_isStretch at h
  refine r_iload_n hκ 1 rfl rfl dX12_isStretch_0 ?_
  obtain ⟨s1, v1, h1, h⟩ := bcl_i h
  refine r_callS hκ (n' := 1) (index := 272) (w_X12_isClient Γ0 l0 h1) (lw_S q3324 q3325 q146 q3326) (by decide +kernel) rfl (by decide) rfl (Nat.le_of_ble_eq_true rfl) dX12_isStretch_1 ?_
  refine r_if_eq hκ (tgt := 46) (by decide) dX12_isStretch_4 (fun h2 => ?_) (fun h2 => ?_)
  · replace h := (bte_i h).1 h2
    refine r_iconst hκ dX12_isStretch_46 ?_
    exact r_iretH hκ hf h (nar_bool (by decide)) dX12_isStretch_47
  · replace h := (bte_i h).2 h2
    refine r_iload_n hκ 3 rfl rfl dX12_isStretch_7 ?_
    refine r_iconst hκ dX12_isStretch_8 ?_
    refine r_icmp_lt hκ (tgt := 46) (by decide) dX12_isStretch_9 (fun h3 => ?_) (fun h3 => ?_)
    · replace h := (bte_i h).1 h3
      refine r_iconst hκ dX12_isStretch_46 ?_
      exact r_iretH hκ hf h (nar_bool (by decide)) dX12_isStretch_47
    · replace h := (bte_i h).2 h3
      refine r_iload_n hκ 2 rfl rfl dX12_isStretch_12 ?_
      refine r_i2l hκ dX12_isStretch_13 ?_
      refine r_lconst hκ (x := 0) (by decide) dX12_isStretch_14 ?_
      refine r_aload_n hκ 0 rfl rfl dX12_isStretch_15 ?_
      obtain ⟨h4, h⟩ := bck_i h
      refine r_get hκ (t := 10) (k := 4) (r := 230) h4 rfl in_X12 (by decide) rfl q3055 (Or.inl rfl) dX12_isStretch_16 ?_
      refine r_iload_n hκ 1 rfl rfl dX12_isStretch_19 ?_
      obtain ⟨⟨h5, h6⟩, h⟩ := bck_i h
      refine r_iald hκ h5 h6 dX12_isStretch_20 ?_
      refine r_iconst hκ dX12_isStretch_21 ?_
      refine r_isub hκ dX12_isStretch_22 ?_
      refine r_i2l hκ dX12_isStretch_23 ?_
      obtain ⟨s2, v2, h7, h⟩ := bcl_i h
      refine r_callS hκ (n' := 3) (index := 175) (w_X12_in Γ0 l0 h7) (lw_S q3156 q3157 q146 q3158) (by decide +kernel) rfl (by decide) rfl (Nat.le_of_ble_eq_true rfl) dX12_isStretch_24 ?_
      refine r_if_eq hκ (tgt := 46) (by decide) dX12_isStretch_27 (fun h8 => ?_) (fun h8 => ?_)
      · replace h := (bte_i h).1 h8
        refine r_iconst hκ dX12_isStretch_46 ?_
        exact r_iretH hκ hf h (nar_bool (by decide)) dX12_isStretch_47
      · replace h := (bte_i h).2 h8
        refine r_iload_n hκ 3 rfl rfl dX12_isStretch_30 ?_
        refine r_aload_n hκ 0 rfl rfl dX12_isStretch_31 ?_
        obtain ⟨h9, h⟩ := bck_i h
        refine r_get hκ (t := 10) (k := 4) (r := 230) h9 rfl in_X12 (by decide) rfl q3055 (Or.inl rfl) dX12_isStretch_32 ?_
        refine r_iload_n hκ 1 rfl rfl dX12_isStretch_35 ?_
        obtain ⟨⟨h10, h11⟩, h⟩ := bck_i h
        refine r_iald hκ h10 h11 dX12_isStretch_36 ?_
        refine r_iload_n hκ 2 rfl rfl dX12_isStretch_37 ?_
        refine r_isub hκ dX12_isStretch_38 ?_
        refine r_icmp_gt hκ (tgt := 46) (by decide) dX12_isStretch_39 (fun h12 => ?_) (fun h12 => ?_)
        · replace h := (bte_i h).1 h12
          refine r_iconst hκ dX12_isStretch_46 ?_
          exact r_iretH hκ hf h (nar_bool (by decide)) dX12_isStretch_47
        · replace h := (bte_i h).2 h12
          refine r_iconst hκ dX12_isStretch_42 ?_
          refine r_goto hκ (tgt := 47) (by decide) dX12_isStretch_43 ?_
          exact r_iretH hκ hf h (nar_bool (by decide)) dX12_isStretch_47
/-- EditsMeetModel.keepsAllBut(IIII)V -/
def F_X12_keepsAllBut_r (b : Nat) (x0 x1 x2 x3 x4 x5 x6 x7 x8 : Int) (s0 : bS) : Option (bS × Int) :=
  match b with
  | 0 =>
    bck (bg s0 0 x0 0 = 11) <|
    bck (bg s0 0 (bg s0 230 x0 0) 0 = 1003 ∧ (0 : Int) ≤ x1 ∧ x1 < bg s0 4 (bg s0 230 x0 0) 0) <|
    bte (i32 (bg s0 20 (bg s0 230 x0 0) x1) ≤ i32 x5)
    (some (s0, 0))
    (bte (i32 x5 < i32 x2)
    (F_X12_keepsAllBut_r 1 x0 x1 x2 x3 x4 x5 0 x0 0 s0)
    (bte (i32 (x2 + x3) ≤ i32 x5)
    (F_X12_keepsAllBut_r 1 x0 x1 x2 x3 x4 x5 0 x0 0 s0)
    (F_X12_keepsAllBut_r 2 x0 x1 x2 x3 x4 x5 x4 0 x0 s0)))
  | 1 =>
    F_X12_keepsAllBut_r 2 x0 x1 x2 x3 x4 x5 2097152 x6 x7 s0
  | 2 =>
    bck (bg s0 0 x8 0 = 11) <|
    bcl (F_X12_adds s0 x8 x7 x6) fun s2 v1 =>
    F_X12_keepsAllBut_r 0 x0 x1 x2 x3 x4 (x5 + 1) 0 0 0 s2
  | _ => none
partial_fixpoint
def F_X12_keepsAllBut (s0 : bS) (a0 a1 a2 a3 a4 : Int) : Option (bS × Int) :=
  bck (bg s0 0 a0 0 = 11) <|
  bck (bg s0 0 (bg s0 254 a0 0) 0 = 1003 ∧ (0 : Int) ≤ 0 ∧ 0 < bg s0 4 (bg s0 254 a0 0) 0) <|
  bst (bw s0 20 (bg s0 254 a0 0) 0 0) fun s1 =>
  F_X12_keepsAllBut_r 0 a0 a1 a2 a3 a4 0 0 0 0 s1
set_option maxHeartbeats 4000000 in
set_option maxRecDepth 100000 in
set_option synthInstance.maxHeartbeats 4000000 in
theorem w_X12_keepsAllBut_r {Γ0 : bG} {l0 : Launch} {κ : bK} {st' : bS} {v : Int} (hκ : bOk κ Γ0 l0 cX12_keepsAllBut RX12 6 1 22) (hi : bIn κ yX12_keepsAllBut) (hf : bFin κ none st' none) (b : Nat) (x0 x1 x2 x3 x4 x5 x6 x7 x8 : Int) (s0 : bS) (h : F_X12_keepsAllBut_r b x0 x1 x2 x3 x4 x5 x6 x7 x8 s0 = some (st', v)) : match (generalizing := false) b with | 0 => bJ κ s0 10 [(0, (2, x0)), (1, (0, x1)), (2, (0, x2)), (3, (0, x3)), (4, (0, x4)), (5, (0, x5))] [] | 1 => bJ κ s0 42 [(0, (2, x0)), (1, (0, x1)), (2, (0, x2)), (3, (0, x3)), (4, (0, x4)), (5, (0, x5))] [(0, x6), (2, x7)] | 2 => bJ κ s0 44 [(0, (2, x0)), (1, (0, x1)), (2, (0, x2)), (3, (0, x3)), (4, (0, x4)), (5, (0, x5))] [(0, x6), (0, x7), (2, x8)] | _ => True := by
  refine F_X12_keepsAllBut_r.partial_correctness x0 x1 x2 x3 x4 (fun b x5 x6 x7 x8 s0 r => r = (st', v) → match (generalizing := false) b with | 0 => bJ κ s0 10 [(0, (2, x0)), (1, (0, x1)), (2, (0, x2)), (3, (0, x3)), (4, (0, x4)), (5, (0, x5))] [] | 1 => bJ κ s0 42 [(0, (2, x0)), (1, (0, x1)), (2, (0, x2)), (3, (0, x3)), (4, (0, x4)), (5, (0, x5))] [(0, x6), (2, x7)] | 2 => bJ κ s0 44 [(0, (2, x0)), (1, (0, x1)), (2, (0, x2)), (3, (0, x3)), (4, (0, x4)), (5, (0, x5))] [(0, x6), (0, x7), (2, x8)] | _ => True) ?_ b x5 x6 x7 x8 s0 _ h rfl
  intro f' ih b x5 x6 x7 x8 s0 r h hr
  subst hr
  match b, h with
  | 0, h =>
      refine r_iload hκ 5 rfl dX12_keepsAllBut_10 ?_
      refine r_aload_n hκ 0 rfl rfl dX12_keepsAllBut_12 ?_
      obtain ⟨h4, h⟩ := bck_i h
      refine r_get hκ (t := 10) (k := 4) (r := 230) h4 rfl in_X12 (by decide) rfl q3055 (Or.inl rfl) dX12_keepsAllBut_13 ?_
      refine r_iload_n hκ 1 rfl rfl dX12_keepsAllBut_16 ?_
      obtain ⟨⟨h5, h6⟩, h⟩ := bck_i h
      refine r_iald hκ h5 h6 dX12_keepsAllBut_17 ?_
      refine r_icmp_ge hκ (tgt := 53) (by decide) dX12_keepsAllBut_18 (fun h7 => ?_) (fun h7 => ?_)
      · replace h := (bte_i h).1 h7
        exact r_vretH hκ hf h dX12_keepsAllBut_53
      · replace h := (bte_i h).2 h7
        refine r_aload_n hκ 0 rfl rfl dX12_keepsAllBut_21 ?_
        refine r_iconst hκ dX12_keepsAllBut_22 ?_
        refine r_iload hκ 5 rfl dX12_keepsAllBut_23 ?_
        refine r_iload_n hκ 2 rfl rfl dX12_keepsAllBut_25 ?_
        refine r_icmp_lt hκ (tgt := 42) (by decide) dX12_keepsAllBut_26 (fun h8 => ?_) (fun h8 => ?_)
        · replace h := (bte_i h).1 h8
          exact r_sub [0, 1, 2, 3, 4, 5] rfl (ih 1 _ _ _ _ _ _ h rfl)
        · replace h := (bte_i h).2 h8
          refine r_iload hκ 5 rfl dX12_keepsAllBut_29 ?_
          refine r_iload_n hκ 2 rfl rfl dX12_keepsAllBut_31 ?_
          refine r_iload_n hκ 3 rfl rfl dX12_keepsAllBut_32 ?_
          refine r_iadd hκ dX12_keepsAllBut_33 ?_
          refine r_icmp_ge hκ (tgt := 42) (by decide) dX12_keepsAllBut_34 (fun h9 => ?_) (fun h9 => ?_)
          · replace h := (bte_i h).1 h9
            exact r_sub [0, 1, 2, 3, 4, 5] rfl (ih 1 _ _ _ _ _ _ h rfl)
          · replace h := (bte_i h).2 h9
            refine r_iload hκ 4 rfl dX12_keepsAllBut_37 ?_
            refine r_goto hκ (tgt := 44) (by decide) dX12_keepsAllBut_39 ?_
            exact r_sub [0, 1, 2, 3, 4, 5] rfl (ih 2 _ _ _ _ _ _ h rfl)
  | 1, h =>
      refine r_ldci hκ (x := 2097152) q3196 (by decide) dX12_keepsAllBut_42 ?_
      exact r_sub [0, 1, 2, 3, 4, 5] rfl (ih 2 _ _ _ _ _ _ h rfl)
  | 2, h =>
      obtain ⟨h10, h⟩ := bck_i h
      obtain ⟨s2, v1, h11, h⟩ := bcl_i h
      refine r_callV hκ (n' := 2) (index := 115) (w_X12_adds Γ0 l0 h11) (lw_V q3186 q3188 qs76 q146 q3189) (by decide +kernel) (t := 10) h10 rfl rfl (by decide) rfl (Nat.le_of_ble_eq_true rfl) dX12_keepsAllBut_44 ?_
      refine r_iinc hκ (L2 := [(5, (0, (x5 + 1))), (0, (2, x0)), (1, (0, x1)), (2, (0, x2)), (3, (0, x3)), (4, (0, x4))]) 5 rfl (by decide) rfl dX12_keepsAllBut_47 ?_
      refine r_goto hκ (tgt := 10) (by decide) dX12_keepsAllBut_50 ?_
      exact r_sub [1, 2, 3, 4, 5, 0] rfl (ih 0 _ _ _ _ _ _ h rfl)
  | b + 3, h => trivial
set_option maxHeartbeats 4000000 in
set_option maxRecDepth 100000 in
theorem w_X12_keepsAllBut (Γ0 : bG) (l0 : Launch) {s0 st' : bS} {v a0 a1 a2 a3 a4 : Int} (h : F_X12_keepsAllBut s0 a0 a1 a2 a3 a4 = some (st', v)) : bCt Γ0 l0 yX12_keepsAllBut cX12_keepsAllBut 6 none 1 22 [(2, a0), (0, a1), (0, a2), (0, a3), (0, a4)] s0 st' none := by
  refine b_ent (own := RX12) (by decide +kernel) rfl (Nat.le_of_ble_eq_true rfl) (L := [(0, (2, a0)), (1, (0, a1)), (2, (0, a2)), (3, (0, a3)), (4, (0, a4))]) rfl ?_
  intro κ hκ hi hf
  unfold F_X12_keepsAllBut at h
  refine r_aload_n hκ 0 rfl rfl dX12_keepsAllBut_0 ?_
  obtain ⟨h1, h⟩ := bck_i h
  refine r_get hκ (t := 10) (k := 10) (r := 254) h1 rfl in_X12 (by decide) rfl q3061 (Or.inl rfl) dX12_keepsAllBut_1 ?_
  refine r_iconst hκ dX12_keepsAllBut_4 ?_
  refine r_iconst hκ dX12_keepsAllBut_5 ?_
  obtain ⟨⟨h2, h3⟩, h⟩ := bck_i h
  refine r_iast hκ h2 h3 dX12_keepsAllBut_6 (fun s1 es1 => ?_)
  replace h := bst_i h s1 es1
  refine r_iconst hκ dX12_keepsAllBut_7 ?_
  refine r_istore hκ (L2 := [(5, (0, 0)), (0, (2, a0)), (1, (0, a1)), (2, (0, a2)), (3, (0, a3)), (4, (0, a4))]) (by decide) rfl dX12_keepsAllBut_8 ?_
  exact r_sub [1, 2, 3, 4, 5, 0] rfl (w_X12_keepsAllBut_r hκ hi hf 0 _ _ _ _ _ _ _ _ _ _ h)
/-- EditsMeetModel.cut(III)I -/
def F_X12_cut (s0 : bS) (a0 a1 a2 a3 : Int) : Option (bS × Int) :=
  bck (bg s0 0 a0 0 = 11) <|
  bcl (F_X12_isStretch s0 a0 a1 a2 a3) fun s1 v1 =>
  bte (i32 v1 = 0)
  (bck (bg s1 0 a0 0 = 11) <|
  bcl (F_X12_refused s1 a0 (-2)) fun s4 v4 =>
  some (s4, v4))
  (bck (bg s1 0 a0 0 = 11) <|
  bcl (F_X12_keepsAllBut s1 a0 a1 a2 a3 3145728) fun s2 v2 =>
  bck (bg s2 0 a0 0 = 11) <|
  bcl (F_X12_done s2 a0 a1 4 1) fun s3 v3 =>
  bck (bg s3 0 a0 0 = 11) <|
  bck (bg s3 0 (bg s3 230 a0 0) 0 = 1003 ∧ (0 : Int) ≤ a1 ∧ a1 < bg s3 4 (bg s3 230 a0 0) 0) <|
  some (s3, (bg s3 20 (bg s3 230 a0 0) a1)))
set_option maxHeartbeats 4000000 in
set_option maxRecDepth 100000 in
theorem w_X12_cut (Γ0 : bG) (l0 : Launch) {s0 st' : bS} {v a0 a1 a2 a3 : Int} (h : F_X12_cut s0 a0 a1 a2 a3 = some (st', v)) : bCt Γ0 l0 yX12_cut cX12_cut 4 (some .int) 5 117 [(2, a0), (0, a1), (0, a2), (0, a3)] s0 st' (some (0, v)) := by
  refine b_ent (own := RX12) (by decide +kernel) rfl (Nat.le_of_ble_eq_true rfl) (L := [(0, (2, a0)), (1, (0, a1)), (2, (0, a2)), (3, (0, a3))]) rfl ?_
  intro κ hκ hi hf
  unfold F_X12_cut at h
  refine r_aload_n hκ 0 rfl rfl dX12_cut_0 ?_
  refine r_iload_n hκ 1 rfl rfl dX12_cut_1 ?_
  refine r_iload_n hκ 2 rfl rfl dX12_cut_2 ?_
  refine r_iload_n hκ 3 rfl rfl dX12_cut_3 ?_
  obtain ⟨h1, h⟩ := bck_i h
  obtain ⟨s1, v1, h2, h⟩ := bcl_i h
  refine r_callV hκ (n' := 3) (index := 293) (w_X12_isStretch Γ0 l0 h2) (lw_V q3390 q3392 qs108 q146 q3393) (by decide +kernel) (t := 10) h1 rfl rfl (by decide) rfl (Nat.le_of_ble_eq_true rfl) dX12_cut_4 ?_
  refine r_if_ne hκ (tgt := 17) (by decide) dX12_cut_7 (fun h3 => ?_) (fun h3 => ?_)
  · replace h := (bte_i h).2 h3
    refine r_aload_n hκ 0 rfl rfl dX12_cut_17 ?_
    refine r_iload_n hκ 1 rfl rfl dX12_cut_18 ?_
    refine r_iload_n hκ 2 rfl rfl dX12_cut_19 ?_
    refine r_iload_n hκ 3 rfl rfl dX12_cut_20 ?_
    refine r_ldci hκ (x := 3145728) q3197 (by decide) dX12_cut_21 ?_
    obtain ⟨h4, h⟩ := bck_i h
    obtain ⟨s2, v2, h5, h⟩ := bcl_i h
    refine r_callV hκ (n' := 4) (index := 297) (w_X12_keepsAllBut Γ0 l0 h5) (lw_V q3394 q3396 qs109 q146 q3397) (by decide +kernel) (t := 10) h4 rfl rfl (by decide) rfl (Nat.le_of_ble_eq_true rfl) dX12_cut_23 ?_
    refine r_aload_n hκ 0 rfl rfl dX12_cut_26 ?_
    refine r_iload_n hκ 1 rfl rfl dX12_cut_27 ?_
    refine r_iconst hκ dX12_cut_28 ?_
    refine r_iconst hκ dX12_cut_29 ?_
    obtain ⟨h6, h⟩ := bck_i h
    obtain ⟨s3, v3, h7, h⟩ := bcl_i h
    refine r_callV hκ (n' := 3) (index := 283) (w_X12_done Γ0 l0 h7) (lw_V q3348 q3350 qs100 q146 q3351) (by decide +kernel) (t := 10) h6 rfl rfl (by decide) rfl (Nat.le_of_ble_eq_true rfl) dX12_cut_30 ?_
    refine r_aload_n hκ 0 rfl rfl dX12_cut_33 ?_
    obtain ⟨h8, h⟩ := bck_i h
    refine r_get hκ (t := 10) (k := 4) (r := 230) h8 rfl in_X12 (by decide) rfl q3055 (Or.inl rfl) dX12_cut_34 ?_
    refine r_iload_n hκ 1 rfl rfl dX12_cut_37 ?_
    obtain ⟨⟨h9, h10⟩, h⟩ := bck_i h
    refine r_iald hκ h9 h10 dX12_cut_38 ?_
    exact r_iretH hκ hf h (nar_int _) dX12_cut_39
  · replace h := (bte_i h).1 h3
    refine r_aload_n hκ 0 rfl rfl dX12_cut_10 ?_
    refine r_bipush hκ (by decide) dX12_cut_11 ?_
    obtain ⟨h11, h⟩ := bck_i h
    obtain ⟨s4, v4, h12, h⟩ := bcl_i h
    refine r_callV hκ (n' := 1) (index := 183) (w_X12_refused Γ0 l0 h12) (lw_V q3159 q3161 qs73 q146 q3162) (by decide +kernel) (t := 10) h11 rfl rfl (by decide) rfl (Nat.le_of_ble_eq_true rfl) dX12_cut_13 ?_
    exact r_iretH hκ hf h (nar_int _) dX12_cut_16
/-- EditsMeetModel.mark(IIIII)I -/
def F_X12_mark_r (b : Nat) (xs : Int × Int × Int × Int × Int × Int × Int × Int × Int) (s0 : bS) : Option (bS × Int) :=
  match b, xs with
  | 0, (x0, _, _, _, _, _, _, _, _) =>
    bck (bg s0 0 x0 0 = 11) <|
    bcl (F_X12_refused s0 x0 (-2)) fun s4 v4 =>
    some (s4, v4)
  | 1, (x0, x1, x2, x3, x4, x5, x6, x7, _) =>
    bte (i32 (x2 + x3) ≤ i32 x7)
    (bte (i32 x5 = i32 1)
    (F_X12_mark_r 3 (x0, x1, x6, (b_ishl 16 x4), 4194304, x3, x2, x1, x0) s0)
    (F_X12_mark_r 3 (x0, x1, x6, (b_ishl 1 x4), 4194304, x3, x2, x1, x0) s0))
    (bck (bg s0 0 x0 0 = 11) <|
    bck (bg s0 0 (bg s0 226 x0 0) 0 = 1010 ∧ (0 : Int) ≤ x1 ∧ x1 < bg s0 4 (bg s0 226 x0 0) 0) <|
    bck (bg s0 0 (bg s0 10 (bg s0 226 x0 0) x1) 0 = 1003 ∧ (0 : Int) ≤ x7 ∧ x7 < bg s0 4 (bg s0 10 (bg s0 226 x0 0) x1) 0) <|
    bte (i32 (b_iand (b_ishr (bg s0 20 (bg s0 10 (bg s0 226 x0 0) x1) x7) (8 + x4)) 1) = i32 x5)
    (F_X12_mark_r 2 (x0, x1, x2, x3, x4, x5, x7, 0, x6) s0)
    (F_X12_mark_r 2 (x0, x1, x2, x3, x4, x5, x7, 1, x6) s0))
  | 2, (x0, x1, x2, x3, x4, x5, x6, x7, x8) =>
    F_X12_mark_r 1 (x0, x1, x2, x3, x4, x5, (x8 + x7), (x6 + 1), 0) s0
  | 3, (x0, x1, x2, x3, x4, x5, x6, x7, x8) =>
    bck (bg s0 0 x8 0 = 11) <|
    bcl (F_X12_keepsAllBut s0 x8 x7 x6 x5 (b_ior x4 x3)) fun s5 v5 =>
    bck (bg s5 0 x0 0 = 11) <|
    bcl (F_X12_done s5 x0 x1 4 1) fun s6 v6 =>
    some (s6, x2)
  | _, _ => none
partial_fixpoint
def F_X12_mark (s0 : bS) (a0 a1 a2 a3 a4 a5 : Int) : Option (bS × Int) :=
  bck (bg s0 0 a0 0 = 11) <|
  bcl (F_X12_isStretch s0 a0 a1 a2 a3) fun s1 v1 =>
  bte (i32 v1 = 0)
  (F_X12_mark_r 0 (a0, 0, 0, 0, 0, 0, 0, 0, 0) s1)
  (bcl (F_X12_in s1 (b_i2l a4) 0 3) fun s2 v2 =>
  bte (i32 v2 = 0)
  (F_X12_mark_r 0 (a0, 0, 0, 0, 0, 0, 0, 0, 0) s2)
  (bcl (F_X12_in s2 (b_i2l a5) 0 1) fun s3 v3 =>
  bte (i32 v3 = 0)
  (F_X12_mark_r 0 (a0, 0, 0, 0, 0, 0, 0, 0, 0) s3)
  (F_X12_mark_r 1 (a0, a1, a2, a3, a4, a5, 0, a2, 0) s3)))
set_option maxHeartbeats 4000000 in
set_option maxRecDepth 100000 in
set_option synthInstance.maxHeartbeats 4000000 in
theorem w_X12_mark_r {Γ0 : bG} {l0 : Launch} {κ : bK} {st' : bS} {v : Int} (hκ : bOk κ Γ0 l0 cX12_mark RX12 8 5 117) (hi : bIn κ yX12_mark) (hf : bFin κ (some .int) st' (some (0, v))) (b : Nat) (x0 x1 x2 x3 x4 x5 x6 x7 x8 : Int) (s0 : bS) (h : F_X12_mark_r b (x0, x1, x2, x3, x4, x5, x6, x7, x8) s0 = some (st', v)) : match (generalizing := false) b with | 0 => bJ κ s0 34 [(0, (2, x0))] [] | 1 => bJ κ s0 47 [(0, (2, x0)), (1, (0, x1)), (2, (0, x2)), (3, (0, x3)), (4, (0, x4)), (5, (0, x5)), (6, (0, x6)), (7, (0, x7))] [] | 2 => bJ κ s0 84 [(0, (2, x0)), (1, (0, x1)), (2, (0, x2)), (3, (0, x3)), (4, (0, x4)), (5, (0, x5)), (7, (0, x6))] [(0, x7), (0, x8)] | 3 => bJ κ s0 117 [(0, (2, x0)), (1, (0, x1)), (6, (0, x2))] [(0, x3), (0, x4), (0, x5), (0, x6), (0, x7), (2, x8)] | _ => True := by
  refine F_X12_mark_r.partial_correctness s0 (fun b xs r => r = (st', v) → match (generalizing := false) b with | 0 => bJ κ s0 34 [(0, (2, xs.1))] [] | 1 => bJ κ s0 47 [(0, (2, xs.1)), (1, (0, xs.2.1)), (2, (0, xs.2.2.1)), (3, (0, xs.2.2.2.1)), (4, (0, xs.2.2.2.2.1)), (5, (0, xs.2.2.2.2.2.1)), (6, (0, xs.2.2.2.2.2.2.1)), (7, (0, xs.2.2.2.2.2.2.2.1))] [] | 2 => bJ κ s0 84 [(0, (2, xs.1)), (1, (0, xs.2.1)), (2, (0, xs.2.2.1)), (3, (0, xs.2.2.2.1)), (4, (0, xs.2.2.2.2.1)), (5, (0, xs.2.2.2.2.2.1)), (7, (0, xs.2.2.2.2.2.2.1))] [(0, xs.2.2.2.2.2.2.2.1), (0, xs.2.2.2.2.2.2.2.2)] | 3 => bJ κ s0 117 [(0, (2, xs.1)), (1, (0, xs.2.1)), (6, (0, xs.2.2.1))] [(0, xs.2.2.2.1), (0, xs.2.2.2.2.1), (0, xs.2.2.2.2.2.1), (0, xs.2.2.2.2.2.2.1), (0, xs.2.2.2.2.2.2.2.1), (2, xs.2.2.2.2.2.2.2.2)] | _ => True) ?_ b (x0, x1, x2, x3, x4, x5, x6, x7, x8) _ h rfl
  intro f' ih b xs r h hr
  subst hr
  match b, xs, h with
  | 0, (x0, x1, x2, x3, x4, x5, x6, x7, x8), h =>
      show bJ κ s0 34 [(0, (2, x0))] []
      refine r_aload_n hκ 0 rfl rfl dX12_mark_34 ?_
      refine r_bipush hκ (by decide) dX12_mark_35 ?_
      obtain ⟨h8, h⟩ := bck_i h
      obtain ⟨s4, v4, h9, h⟩ := bcl_i h
      refine r_callV hκ (n' := 1) (index := 183) (w_X12_refused Γ0 l0 h9) (lw_V q3159 q3161 qs73 q146 q3162) (by decide +kernel) (t := 10) h8 rfl rfl (by decide) rfl (Nat.le_of_ble_eq_true rfl) dX12_mark_37 ?_
      exact r_iretH hκ hf h (nar_int _) dX12_mark_40
  | 1, (x0, x1, x2, x3, x4, x5, x6, x7, x8), h =>
      show bJ κ s0 47 [(0, (2, x0)), (1, (0, x1)), (2, (0, x2)), (3, (0, x3)), (4, (0, x4)), (5, (0, x5)), (6, (0, x6)), (7, (0, x7))] []
      refine r_iload hκ 7 rfl dX12_mark_47 ?_
      refine r_iload_n hκ 2 rfl rfl dX12_mark_49 ?_
      refine r_iload_n hκ 3 rfl rfl dX12_mark_50 ?_
      refine r_iadd hκ dX12_mark_51 ?_
      refine r_icmp_ge hκ (tgt := 93) (by decide) dX12_mark_52 (fun h10 => ?_) (fun h10 => ?_)
      · replace h := (bte_i h).1 h10
        refine r_aload_n hκ 0 rfl rfl dX12_mark_93 ?_
        refine r_iload_n hκ 1 rfl rfl dX12_mark_94 ?_
        refine r_iload_n hκ 2 rfl rfl dX12_mark_95 ?_
        refine r_iload_n hκ 3 rfl rfl dX12_mark_96 ?_
        refine r_ldci hκ (x := 4194304) q3198 (by decide) dX12_mark_97 ?_
        refine r_iload hκ 5 rfl dX12_mark_99 ?_
        refine r_iconst hκ dX12_mark_101 ?_
        refine r_icmp_ne hκ (tgt := 113) (by decide) dX12_mark_102 (fun h11 => ?_) (fun h11 => ?_)
        · replace h := (bte_i h).2 h11
          refine r_iconst hκ dX12_mark_113 ?_
          refine r_iload hκ 4 rfl dX12_mark_114 ?_
          refine r_ishl hκ dX12_mark_116 ?_
          exact r_sub [0, 1, 6] rfl (ih 3 _ _ h rfl)
        · replace h := (bte_i h).1 h11
          refine r_bipush hκ (by decide) dX12_mark_105 ?_
          refine r_iload hκ 4 rfl dX12_mark_107 ?_
          refine r_ishl hκ dX12_mark_109 ?_
          refine r_goto hκ (tgt := 117) (by decide) dX12_mark_110 ?_
          exact r_sub [0, 1, 6] rfl (ih 3 _ _ h rfl)
      · replace h := (bte_i h).2 h10
        refine r_iload hκ 6 rfl dX12_mark_55 ?_
        refine r_aload_n hκ 0 rfl rfl dX12_mark_57 ?_
        obtain ⟨h12, h⟩ := bck_i h
        refine r_get hκ (t := 10) (k := 3) (r := 226) h12 rfl in_X12 (by decide) rfl q3054 (Or.inl rfl) dX12_mark_58 ?_
        refine r_iload_n hκ 1 rfl rfl dX12_mark_61 ?_
        obtain ⟨⟨h13, h14⟩, h⟩ := bck_i h
        refine r_aald hκ (t := 10) (by decide) h13 h14 dX12_mark_62 ?_
        refine r_iload hκ 7 rfl dX12_mark_63 ?_
        obtain ⟨⟨h15, h16⟩, h⟩ := bck_i h
        refine r_iald hκ h15 h16 dX12_mark_65 ?_
        refine r_bipush hκ (by decide) dX12_mark_66 ?_
        refine r_iload hκ 4 rfl dX12_mark_68 ?_
        refine r_iadd hκ dX12_mark_70 ?_
        refine r_ishr hκ dX12_mark_71 ?_
        refine r_iconst hκ dX12_mark_72 ?_
        refine r_iand hκ dX12_mark_73 ?_
        refine r_iload hκ 5 rfl dX12_mark_74 ?_
        refine r_icmp_eq hκ (tgt := 83) (by decide) dX12_mark_76 (fun h17 => ?_) (fun h17 => ?_)
        · replace h := (bte_i h).1 h17
          refine r_iconst hκ dX12_mark_83 ?_
          exact r_sub [0, 1, 2, 3, 4, 5, 7] rfl (ih 2 _ _ h rfl)
        · replace h := (bte_i h).2 h17
          refine r_iconst hκ dX12_mark_79 ?_
          refine r_goto hκ (tgt := 84) (by decide) dX12_mark_80 ?_
          exact r_sub [0, 1, 2, 3, 4, 5, 7] rfl (ih 2 _ _ h rfl)
  | 2, (x0, x1, x2, x3, x4, x5, x6, x7, x8), h =>
      show bJ κ s0 84 [(0, (2, x0)), (1, (0, x1)), (2, (0, x2)), (3, (0, x3)), (4, (0, x4)), (5, (0, x5)), (7, (0, x6))] [(0, x7), (0, x8)]
      refine r_iadd hκ dX12_mark_84 ?_
      refine r_istore hκ (L2 := [(6, (0, (x8 + x7))), (0, (2, x0)), (1, (0, x1)), (2, (0, x2)), (3, (0, x3)), (4, (0, x4)), (5, (0, x5)), (7, (0, x6))]) (by decide) rfl dX12_mark_85 ?_
      refine r_iinc hκ (L2 := [(7, (0, (x6 + 1))), (6, (0, (x8 + x7))), (0, (2, x0)), (1, (0, x1)), (2, (0, x2)), (3, (0, x3)), (4, (0, x4)), (5, (0, x5))]) 7 rfl (by decide) rfl dX12_mark_87 ?_
      refine r_goto hκ (tgt := 47) (by decide) dX12_mark_90 ?_
      exact r_sub [2, 3, 4, 5, 6, 7, 1, 0] rfl (ih 1 _ _ h rfl)
  | 3, (x0, x1, x2, x3, x4, x5, x6, x7, x8), h =>
      show bJ κ s0 117 [(0, (2, x0)), (1, (0, x1)), (6, (0, x2))] [(0, x3), (0, x4), (0, x5), (0, x6), (0, x7), (2, x8)]
      refine r_ior hκ dX12_mark_117 ?_
      obtain ⟨h18, h⟩ := bck_i h
      obtain ⟨s5, v5, h19, h⟩ := bcl_i h
      refine r_callV hκ (n' := 4) (index := 297) (w_X12_keepsAllBut Γ0 l0 h19) (lw_V q3394 q3396 qs109 q146 q3397) (by decide +kernel) (t := 10) h18 rfl rfl (by decide) rfl (Nat.le_of_ble_eq_true rfl) dX12_mark_118 ?_
      refine r_aload_n hκ 0 rfl rfl dX12_mark_121 ?_
      refine r_iload_n hκ 1 rfl rfl dX12_mark_122 ?_
      refine r_iconst hκ dX12_mark_123 ?_
      refine r_iconst hκ dX12_mark_124 ?_
      obtain ⟨h20, h⟩ := bck_i h
      obtain ⟨s6, v6, h21, h⟩ := bcl_i h
      refine r_callV hκ (n' := 3) (index := 283) (w_X12_done Γ0 l0 h21) (lw_V q3348 q3350 qs100 q146 q3351) (by decide +kernel) (t := 10) h20 rfl rfl (by decide) rfl (Nat.le_of_ble_eq_true rfl) dX12_mark_125 ?_
      refine r_iload hκ 2 rfl dX12_mark_128 ?_
      exact r_iretH hκ hf h (nar_int _) dX12_mark_130
  | b + 4, _, h => trivial
set_option maxHeartbeats 4000000 in
set_option maxRecDepth 100000 in
theorem w_X12_mark (Γ0 : bG) (l0 : Launch) {s0 st' : bS} {v a0 a1 a2 a3 a4 a5 : Int} (h : F_X12_mark s0 a0 a1 a2 a3 a4 a5 = some (st', v)) : bCt Γ0 l0 yX12_mark cX12_mark 8 (some .int) 5 117 [(2, a0), (0, a1), (0, a2), (0, a3), (0, a4), (0, a5)] s0 st' (some (0, v)) := by
  refine b_ent (own := RX12) (by decide +kernel) rfl (Nat.le_of_ble_eq_true rfl) (L := [(0, (2, a0)), (1, (0, a1)), (2, (0, a2)), (3, (0, a3)), (4, (0, a4)), (5, (0, a5))]) rfl ?_
  intro κ hκ hi hf
  unfold F_X12_mark at h
  refine r_aload_n hκ 0 rfl rfl dX12_mark_0 ?_
  refine r_iload_n hκ 1 rfl rfl dX12_mark_1 ?_
  refine r_iload_n hκ 2 rfl rfl dX12_mark_2 ?_
  refine r_iload_n hκ 3 rfl rfl dX12_mark_3 ?_
  obtain ⟨h1, h⟩ := bck_i h
  obtain ⟨s1, v1, h2, h⟩ := bcl_i h
  refine r_callV hκ (n' := 3) (index := 293) (w_X12_isStretch Γ0 l0 h2) (lw_V q3390 q3392 qs108 q146 q3393) (by decide +kernel) (t := 10) h1 rfl rfl (by decide) rfl (Nat.le_of_ble_eq_true rfl) dX12_mark_4 ?_
  refine r_if_eq hκ (tgt := 34) (by decide) dX12_mark_7 (fun h3 => ?_) (fun h3 => ?_)
  · replace h := (bte_i h).1 h3
    exact r_sub [0] rfl (w_X12_mark_r hκ hi hf 0 _ _ _ _ _ _ _ _ _ _ h)
  · replace h := (bte_i h).2 h3
    refine r_iload hκ 4 rfl dX12_mark_10 ?_
    refine r_i2l hκ dX12_mark_12 ?_
    refine r_lconst hκ (x := 0) (by decide) dX12_mark_13 ?_
    refine r_ldcl hκ (x := 3) q3253 (by decide) dX12_mark_14 ?_
    obtain ⟨s2, v2, h4, h⟩ := bcl_i h
    refine r_callS hκ (n' := 3) (index := 175) (w_X12_in Γ0 l0 h4) (lw_S q3156 q3157 q146 q3158) (by decide +kernel) rfl (by decide) rfl (Nat.le_of_ble_eq_true rfl) dX12_mark_17 ?_
    refine r_if_eq hκ (tgt := 34) (by decide) dX12_mark_20 (fun h5 => ?_) (fun h5 => ?_)
    · replace h := (bte_i h).1 h5
      exact r_sub [0] rfl (w_X12_mark_r hκ hi hf 0 _ _ _ _ _ _ _ _ _ _ h)
    · replace h := (bte_i h).2 h5
      refine r_iload hκ 5 rfl dX12_mark_23 ?_
      refine r_i2l hκ dX12_mark_25 ?_
      refine r_lconst hκ (x := 0) (by decide) dX12_mark_26 ?_
      refine r_lconst hκ (x := 1) (by decide) dX12_mark_27 ?_
      obtain ⟨s3, v3, h6, h⟩ := bcl_i h
      refine r_callS hκ (n' := 3) (index := 175) (w_X12_in Γ0 l0 h6) (lw_S q3156 q3157 q146 q3158) (by decide +kernel) rfl (by decide) rfl (Nat.le_of_ble_eq_true rfl) dX12_mark_28 ?_
      refine r_if_ne hκ (tgt := 41) (by decide) dX12_mark_31 (fun h7 => ?_) (fun h7 => ?_)
      · replace h := (bte_i h).2 h7
        refine r_iconst hκ dX12_mark_41 ?_
        refine r_istore hκ (L2 := [(6, (0, 0)), (0, (2, a0)), (1, (0, a1)), (2, (0, a2)), (3, (0, a3)), (4, (0, a4)), (5, (0, a5))]) (by decide) rfl dX12_mark_42 ?_
        refine r_iload_n hκ 3 rfl rfl dX12_mark_44 ?_
        refine r_istore hκ (L2 := [(7, (0, a2)), (6, (0, 0)), (0, (2, a0)), (1, (0, a1)), (2, (0, a2)), (3, (0, a3)), (4, (0, a4)), (5, (0, a5))]) (by decide) rfl dX12_mark_45 ?_
        exact r_sub [2, 3, 4, 5, 6, 7, 1, 0] rfl (w_X12_mark_r hκ hi hf 1 _ _ _ _ _ _ _ _ _ _ h)
      · replace h := (bte_i h).1 h7
        exact r_sub [0] rfl (w_X12_mark_r hκ hi hf 0 _ _ _ _ _ _ _ _ _ _ h)
/-- EditsMeetModel.keepsWork(II)V -/
def F_X12_keepsWork_r (b : Nat) (x0 x1 x2 x3 : Int) (s0 : bS) : Option (bS × Int) :=
  match b with
  | 0 =>
    bck (bg s0 0 x0 0 = 11) <|
    bck (bg s0 0 (bg s0 254 x0 0) 0 = 1003 ∧ (0 : Int) ≤ x1 ∧ x1 < bg s0 4 (bg s0 254 x0 0) 0) <|
    bte (i32 (bg s0 20 (bg s0 254 x0 0) x1) ≤ i32 x3)
    (some (s0, 0))
    (bck (bg s0 0 x0 0 = 11) <|
    bck (bg s0 0 (bg s0 250 x0 0) 0 = 1010 ∧ (0 : Int) ≤ x2 ∧ x2 < bg s0 4 (bg s0 250 x0 0) 0) <|
    bck (bg s0 0 x0 0 = 11) <|
    bck (bg s0 0 (bg s0 250 x0 0) 0 = 1010 ∧ (0 : Int) ≤ x1 ∧ x1 < bg s0 4 (bg s0 250 x0 0) 0) <|
    bck (bg s0 0 (bg s0 10 (bg s0 250 x0 0) x1) 0 = 1003 ∧ (0 : Int) ≤ x3 ∧ x3 < bg s0 4 (bg s0 10 (bg s0 250 x0 0) x1) 0) <|
    bck (bg s0 0 (bg s0 10 (bg s0 250 x0 0) x2) 0 = 1003 ∧ (0 : Int) ≤ x3 ∧ x3 < bg s0 4 (bg s0 10 (bg s0 250 x0 0) x2) 0) <|
    bst (bw s0 20 (bg s0 10 (bg s0 250 x0 0) x2) x3 (bg s0 20 (bg s0 10 (bg s0 250 x0 0) x1) x3)) fun s2 =>
    F_X12_keepsWork_r 0 x0 x1 x2 (x3 + 1) s2)
  | _ => none
partial_fixpoint
def F_X12_keepsWork (s0 : bS) (a0 a1 a2 : Int) : Option (bS × Int) :=
  bck (bg s0 0 a0 0 = 11) <|
  bck (bg s0 0 a0 0 = 11) <|
  bck (bg s0 0 (bg s0 254 a0 0) 0 = 1003 ∧ (0 : Int) ≤ a1 ∧ a1 < bg s0 4 (bg s0 254 a0 0) 0) <|
  bck (bg s0 0 (bg s0 254 a0 0) 0 = 1003 ∧ (0 : Int) ≤ a2 ∧ a2 < bg s0 4 (bg s0 254 a0 0) 0) <|
  bst (bw s0 20 (bg s0 254 a0 0) a2 (bg s0 20 (bg s0 254 a0 0) a1)) fun s1 =>
  F_X12_keepsWork_r 0 a0 a1 a2 0 s1
set_option maxHeartbeats 4000000 in
set_option maxRecDepth 100000 in
set_option synthInstance.maxHeartbeats 4000000 in
theorem w_X12_keepsWork_r {Γ0 : bG} {l0 : Launch} {κ : bK} {st' : bS} {v : Int} (hκ : bOk κ Γ0 l0 cX12_keepsWork RX12 4 0 0) (hi : bIn κ yX12_keepsWork) (hf : bFin κ none st' none) (b : Nat) (x0 x1 x2 x3 : Int) (s0 : bS) (h : F_X12_keepsWork_r b x0 x1 x2 x3 s0 = some (st', v)) : match (generalizing := false) b with | 0 => bJ κ s0 14 [(0, (2, x0)), (1, (0, x1)), (2, (0, x2)), (3, (0, x3))] [] | _ => True := by
  refine F_X12_keepsWork_r.partial_correctness x0 x1 x2 (fun b x3 s0 r => r = (st', v) → match (generalizing := false) b with | 0 => bJ κ s0 14 [(0, (2, x0)), (1, (0, x1)), (2, (0, x2)), (3, (0, x3))] [] | _ => True) ?_ b x3 s0 _ h rfl
  intro f' ih b x3 s0 r h hr
  subst hr
  match b, h with
  | 0, h =>
      refine r_iload_n hκ 3 rfl rfl dX12_keepsWork_14 ?_
      refine r_aload_n hκ 0 rfl rfl dX12_keepsWork_15 ?_
      obtain ⟨h7, h⟩ := bck_i h
      refine r_get hκ (t := 10) (k := 10) (r := 254) h7 rfl in_X12 (by decide) rfl q3061 (Or.inl rfl) dX12_keepsWork_16 ?_
      refine r_iload_n hκ 1 rfl rfl dX12_keepsWork_19 ?_
      obtain ⟨⟨h8, h9⟩, h⟩ := bck_i h
      refine r_iald hκ h8 h9 dX12_keepsWork_20 ?_
      refine r_icmp_ge hκ (tgt := 46) (by decide) dX12_keepsWork_21 (fun h10 => ?_) (fun h10 => ?_)
      · replace h := (bte_i h).1 h10
        exact r_vretH hκ hf h dX12_keepsWork_46
      · replace h := (bte_i h).2 h10
        refine r_aload_n hκ 0 rfl rfl dX12_keepsWork_24 ?_
        obtain ⟨h11, h⟩ := bck_i h
        refine r_get hκ (t := 10) (k := 9) (r := 250) h11 rfl in_X12 (by decide) rfl q3060 (Or.inl rfl) dX12_keepsWork_25 ?_
        refine r_iload_n hκ 2 rfl rfl dX12_keepsWork_28 ?_
        obtain ⟨⟨h12, h13⟩, h⟩ := bck_i h
        refine r_aald hκ (t := 10) (by decide) h12 h13 dX12_keepsWork_29 ?_
        refine r_iload_n hκ 3 rfl rfl dX12_keepsWork_30 ?_
        refine r_aload_n hκ 0 rfl rfl dX12_keepsWork_31 ?_
        obtain ⟨h14, h⟩ := bck_i h
        refine r_get hκ (t := 10) (k := 9) (r := 250) h14 rfl in_X12 (by decide) rfl q3060 (Or.inl rfl) dX12_keepsWork_32 ?_
        refine r_iload_n hκ 1 rfl rfl dX12_keepsWork_35 ?_
        obtain ⟨⟨h15, h16⟩, h⟩ := bck_i h
        refine r_aald hκ (t := 10) (by decide) h15 h16 dX12_keepsWork_36 ?_
        refine r_iload_n hκ 3 rfl rfl dX12_keepsWork_37 ?_
        obtain ⟨⟨h17, h18⟩, h⟩ := bck_i h
        refine r_iald hκ h17 h18 dX12_keepsWork_38 ?_
        obtain ⟨⟨h19, h20⟩, h⟩ := bck_i h
        refine r_iast hκ h19 h20 dX12_keepsWork_39 (fun s2 es2 => ?_)
        replace h := bst_i h s2 es2
        refine r_iinc hκ (L2 := [(3, (0, (x3 + 1))), (0, (2, x0)), (1, (0, x1)), (2, (0, x2))]) 3 rfl (by decide) rfl dX12_keepsWork_40 ?_
        refine r_goto hκ (tgt := 14) (by decide) dX12_keepsWork_43 ?_
        exact r_sub [1, 2, 3, 0] rfl (ih 0 _ _ _ h rfl)
  | b + 1, h => trivial
set_option maxHeartbeats 4000000 in
set_option maxRecDepth 100000 in
theorem w_X12_keepsWork (Γ0 : bG) (l0 : Launch) {s0 st' : bS} {v a0 a1 a2 : Int} (h : F_X12_keepsWork s0 a0 a1 a2 = some (st', v)) : bCt Γ0 l0 yX12_keepsWork cX12_keepsWork 4 none 0 0 [(2, a0), (0, a1), (0, a2)] s0 st' none := by
  refine b_ent (own := RX12) (by decide +kernel) rfl (Nat.le_of_ble_eq_true rfl) (L := [(0, (2, a0)), (1, (0, a1)), (2, (0, a2))]) rfl ?_
  intro κ hκ hi hf
  unfold F_X12_keepsWork at h
  refine r_aload_n hκ 0 rfl rfl dX12_keepsWork_0 ?_
  obtain ⟨h1, h⟩ := bck_i h
  refine r_get hκ (t := 10) (k := 10) (r := 254) h1 rfl in_X12 (by decide) rfl q3061 (Or.inl rfl) dX12_keepsWork_1 ?_
  refine r_iload_n hκ 2 rfl rfl dX12_keepsWork_4 ?_
  refine r_aload_n hκ 0 rfl rfl dX12_keepsWork_5 ?_
  obtain ⟨h2, h⟩ := bck_i h
  refine r_get hκ (t := 10) (k := 10) (r := 254) h2 rfl in_X12 (by decide) rfl q3061 (Or.inl rfl) dX12_keepsWork_6 ?_
  refine r_iload_n hκ 1 rfl rfl dX12_keepsWork_9 ?_
  obtain ⟨⟨h3, h4⟩, h⟩ := bck_i h
  refine r_iald hκ h3 h4 dX12_keepsWork_10 ?_
  obtain ⟨⟨h5, h6⟩, h⟩ := bck_i h
  refine r_iast hκ h5 h6 dX12_keepsWork_11 (fun s1 es1 => ?_)
  replace h := bst_i h s1 es1
  refine r_iconst hκ dX12_keepsWork_12 ?_
  refine r_istore_n hκ (L2 := [(3, (0, 0)), (0, (2, a0)), (1, (0, a1)), (2, (0, a2))]) (by decide) rfl rfl dX12_keepsWork_13 ?_
  exact r_sub [1, 2, 3, 0] rfl (w_X12_keepsWork_r hκ hi hf 0 _ _ _ _ _ h)
/-- EditsMeetModel.serves(I)I -/
def F_X12_serves_r (b : Nat) (x0 x1 x2 : Int) (s0 : bS) : Option (bS × Int) :=
  match b with
  | 0 =>
    bck (bg s0 0 x0 0 = 11) <|
    bck (bg s0 0 (bg s0 242 x0 0) 0 = 1003 ∧ (0 : Int) ≤ 0 ∧ 0 < bg s0 4 (bg s0 242 x0 0) 0) <|
    bte (i32 (bg s0 20 (bg s0 242 x0 0) 0) < i32 x2)
    (bck (bg s0 0 x0 0 = 11) <|
    bcl (F_X12_makes s0 x0 4 0) fun s3 v3 =>
    bck (bg s3 0 x0 0 = 11) <|
    bck (bg s3 0 (bg s3 242 x0 0) 0 = 1003 ∧ (0 : Int) ≤ 0 ∧ 0 < bg s3 4 (bg s3 242 x0 0) 0) <|
    bck (bg s3 0 (bg s3 242 x0 0) 0 = 1003 ∧ (0 : Int) ≤ 0 ∧ 0 < bg s3 4 (bg s3 242 x0 0) 0) <|
    bst (bw s3 20 (bg s3 242 x0 0) 0 ((bg s3 20 (bg s3 242 x0 0) 0) + 1)) fun s4 =>
    bck (bg s4 0 x0 0 = 11) <|
    bck (bg s4 0 (bg s4 242 x0 0) 0 = 1003 ∧ (0 : Int) ≤ 0 ∧ 0 < bg s4 4 (bg s4 242 x0 0) 0) <|
    bck (bg s4 0 x0 0 = 11) <|
    bcl (F_X12_keepsRow s4 x0 (184 + (bg s4 20 (bg s4 242 x0 0) 0)) 0) fun s5 v4 =>
    bck (bg s5 0 x0 0 = 11) <|
    bck (bg s5 0 x0 0 = 11) <|
    bck (bg s5 0 (bg s5 242 x0 0) 0 = 1003 ∧ (0 : Int) ≤ 0 ∧ 0 < bg s5 4 (bg s5 242 x0 0) 0) <|
    bck (bg s5 0 (bg s5 238 x0 0) 0 = 1003 ∧ (0 : Int) ≤ (bg s5 20 (bg s5 242 x0 0) 0) ∧ (bg s5 20 (bg s5 242 x0 0) 0) < bg s5 4 (bg s5 238 x0 0) 0) <|
    bst (bw s5 20 (bg s5 238 x0 0) (bg s5 20 (bg s5 242 x0 0) 0) x1) fun s6 =>
    bck (bg s6 0 x0 0 = 11) <|
    bck (bg s6 0 (bg s6 234 x0 0) 0 = 1003 ∧ (0 : Int) ≤ ((8 * x1) + 1) ∧ ((8 * x1) + 1) < bg s6 4 (bg s6 234 x0 0) 0) <|
    bst (bw s6 20 (bg s6 234 x0 0) ((8 * x1) + 1) 2) fun s7 =>
    bck (bg s7 0 x0 0 = 11) <|
    bck (bg s7 0 (bg s7 242 x0 0) 0 = 1003 ∧ (0 : Int) ≤ 0 ∧ 0 < bg s7 4 (bg s7 242 x0 0) 0) <|
    some (s7, (bg s7 20 (bg s7 242 x0 0) 0)))
    (bck (bg s0 0 x0 0 = 11) <|
    bcl (F_X12_takesRow s0 x0 1 (184 + x2)) fun s8 v5 =>
    bck (bg s8 0 x0 0 = 11) <|
    bcl (F_X12_overRow s8 x0 0 1 0 2) fun s9 v6 =>
    bck (bg s9 0 x0 0 = 11) <|
    bcl (F_X12_keepsWork s9 x0 2 0) fun s10 v7 =>
    F_X12_serves_r 0 x0 x1 (x2 + 1) s10)
  | _ => none
partial_fixpoint
def F_X12_serves (s0 : bS) (a0 a1 : Int) : Option (bS × Int) :=
  bck (bg s0 0 a0 0 = 11) <|
  bcl (F_X12_takesRow s0 a0 0 (12 + a1)) fun s1 v1 =>
  bck (bg s1 0 a0 0 = 11) <|
  bcl (F_X12_st s1 a0 a1 2) fun s2 v2 =>
  F_X12_serves_r 0 a0 a1 (v2 + 1) s2
set_option maxHeartbeats 4000000 in
set_option maxRecDepth 100000 in
set_option synthInstance.maxHeartbeats 4000000 in
theorem w_X12_serves_r {Γ0 : bG} {l0 : Launch} {κ : bK} {st' : bS} {v : Int} (hκ : bOk κ Γ0 l0 cX12_serves RX12 3 3 76) (hi : bIn κ yX12_serves) (hf : bFin κ (some .int) st' (some (0, v))) (b : Nat) (x0 x1 x2 : Int) (s0 : bS) (h : F_X12_serves_r b x0 x1 x2 s0 = some (st', v)) : match (generalizing := false) b with | 0 => bJ κ s0 18 [(0, (2, x0)), (1, (0, x1)), (2, (0, x2))] [] | _ => True := by
  refine F_X12_serves_r.partial_correctness x0 x1 (fun b x2 s0 r => r = (st', v) → match (generalizing := false) b with | 0 => bJ κ s0 18 [(0, (2, x0)), (1, (0, x1)), (2, (0, x2))] [] | _ => True) ?_ b x2 s0 _ h rfl
  intro f' ih b x2 s0 r h hr
  subst hr
  match b, h with
  | 0, h =>
      refine r_iload_n hκ 2 rfl rfl dX12_serves_18 ?_
      refine r_aload_n hκ 0 rfl rfl dX12_serves_19 ?_
      obtain ⟨h5, h⟩ := bck_i h
      refine r_get hκ (t := 10) (k := 7) (r := 242) h5 rfl in_X12 (by decide) rfl q3058 (Or.inl rfl) dX12_serves_20 ?_
      refine r_iconst hκ dX12_serves_23 ?_
      obtain ⟨⟨h6, h7⟩, h⟩ := bck_i h
      refine r_iald hκ h6 h7 dX12_serves_24 ?_
      refine r_icmp_gt hκ (tgt := 58) (by decide) dX12_serves_25 (fun h8 => ?_) (fun h8 => ?_)
      · replace h := (bte_i h).1 h8
        refine r_aload_n hκ 0 rfl rfl dX12_serves_58 ?_
        refine r_iconst hκ dX12_serves_59 ?_
        refine r_iconst hκ dX12_serves_60 ?_
        obtain ⟨h9, h⟩ := bck_i h
        obtain ⟨s3, v3, h10, h⟩ := bcl_i h
        refine r_callV hκ (n' := 2) (index := 148) (w_X12_makes Γ0 l0 h10) (lw_V q3352 q3354 qs101 q146 q3355) (by decide +kernel) (t := 10) h9 rfl rfl (by decide) rfl (Nat.le_of_ble_eq_true rfl) dX12_serves_61 ?_
        refine r_aload_n hκ 0 rfl rfl dX12_serves_64 ?_
        obtain ⟨h11, h⟩ := bck_i h
        refine r_get hκ (t := 10) (k := 7) (r := 242) h11 rfl in_X12 (by decide) rfl q3058 (Or.inl rfl) dX12_serves_65 ?_
        refine r_iconst hκ dX12_serves_68 ?_
        refine r_dup2 hκ (bd_cat0k _) (bd_cat2k _) dX12_serves_69 ?_
        obtain ⟨⟨h12, h13⟩, h⟩ := bck_i h
        refine r_iald hκ h12 h13 dX12_serves_70 ?_
        refine r_iconst hκ dX12_serves_71 ?_
        refine r_iadd hκ dX12_serves_72 ?_
        obtain ⟨⟨h14, h15⟩, h⟩ := bck_i h
        refine r_iast hκ h14 h15 dX12_serves_73 (fun s4 es4 => ?_)
        replace h := bst_i h s4 es4
        refine r_aload_n hκ 0 rfl rfl dX12_serves_74 ?_
        refine r_sipush hκ (by decide) dX12_serves_75 ?_
        refine r_aload_n hκ 0 rfl rfl dX12_serves_78 ?_
        obtain ⟨h16, h⟩ := bck_i h
        refine r_get hκ (t := 10) (k := 7) (r := 242) h16 rfl in_X12 (by decide) rfl q3058 (Or.inl rfl) dX12_serves_79 ?_
        refine r_iconst hκ dX12_serves_82 ?_
        obtain ⟨⟨h17, h18⟩, h⟩ := bck_i h
        refine r_iald hκ h17 h18 dX12_serves_83 ?_
        refine r_iadd hκ dX12_serves_84 ?_
        refine r_iconst hκ dX12_serves_85 ?_
        obtain ⟨h19, h⟩ := bck_i h
        obtain ⟨s5, v4, h20, h⟩ := bcl_i h
        refine r_callV hκ (n' := 2) (index := 101) (w_X12_keepsRow Γ0 l0 h20) (lw_V q3211 q3213 qs80 q146 q3214) (by decide +kernel) (t := 10) h19 rfl rfl (by decide) rfl (Nat.le_of_ble_eq_true rfl) dX12_serves_86 ?_
        refine r_aload_n hκ 0 rfl rfl dX12_serves_89 ?_
        obtain ⟨h21, h⟩ := bck_i h
        refine r_get hκ (t := 10) (k := 6) (r := 238) h21 rfl in_X12 (by decide) rfl q3057 (Or.inl rfl) dX12_serves_90 ?_
        refine r_aload_n hκ 0 rfl rfl dX12_serves_93 ?_
        obtain ⟨h22, h⟩ := bck_i h
        refine r_get hκ (t := 10) (k := 7) (r := 242) h22 rfl in_X12 (by decide) rfl q3058 (Or.inl rfl) dX12_serves_94 ?_
        refine r_iconst hκ dX12_serves_97 ?_
        obtain ⟨⟨h23, h24⟩, h⟩ := bck_i h
        refine r_iald hκ h23 h24 dX12_serves_98 ?_
        refine r_iload_n hκ 1 rfl rfl dX12_serves_99 ?_
        obtain ⟨⟨h25, h26⟩, h⟩ := bck_i h
        refine r_iast hκ h25 h26 dX12_serves_100 (fun s6 es6 => ?_)
        replace h := bst_i h s6 es6
        refine r_aload_n hκ 0 rfl rfl dX12_serves_101 ?_
        obtain ⟨h27, h⟩ := bck_i h
        refine r_get hκ (t := 10) (k := 5) (r := 234) h27 rfl in_X12 (by decide) rfl q3056 (Or.inl rfl) dX12_serves_102 ?_
        refine r_bipush hκ (by decide) dX12_serves_105 ?_
        refine r_iload_n hκ 1 rfl rfl dX12_serves_107 ?_
        refine r_imul hκ dX12_serves_108 ?_
        refine r_iconst hκ dX12_serves_109 ?_
        refine r_iadd hκ dX12_serves_110 ?_
        refine r_iconst hκ dX12_serves_111 ?_
        obtain ⟨⟨h28, h29⟩, h⟩ := bck_i h
        refine r_iast hκ h28 h29 dX12_serves_112 (fun s7 es7 => ?_)
        replace h := bst_i h s7 es7
        refine r_aload_n hκ 0 rfl rfl dX12_serves_113 ?_
        obtain ⟨h30, h⟩ := bck_i h
        refine r_get hκ (t := 10) (k := 7) (r := 242) h30 rfl in_X12 (by decide) rfl q3058 (Or.inl rfl) dX12_serves_114 ?_
        refine r_iconst hκ dX12_serves_117 ?_
        obtain ⟨⟨h31, h32⟩, h⟩ := bck_i h
        refine r_iald hκ h31 h32 dX12_serves_118 ?_
        exact r_iretH hκ hf h (nar_int _) dX12_serves_119
      · replace h := (bte_i h).2 h8
        refine r_aload_n hκ 0 rfl rfl dX12_serves_28 ?_
        refine r_iconst hκ dX12_serves_29 ?_
        refine r_sipush hκ (by decide) dX12_serves_30 ?_
        refine r_iload_n hκ 2 rfl rfl dX12_serves_33 ?_
        refine r_iadd hκ dX12_serves_34 ?_
        obtain ⟨h33, h⟩ := bck_i h
        obtain ⟨s8, v5, h34, h⟩ := bcl_i h
        refine r_callV hκ (n' := 2) (index := 97) (w_X12_takesRow Γ0 l0 h34) (lw_V q3285 q3287 qs90 q146 q3288) (by decide +kernel) (t := 10) h33 rfl rfl (by decide) rfl (Nat.le_of_ble_eq_true rfl) dX12_serves_35 ?_
        refine r_aload_n hκ 0 rfl rfl dX12_serves_38 ?_
        refine r_iconst hκ dX12_serves_39 ?_
        refine r_iconst hκ dX12_serves_40 ?_
        refine r_iconst hκ dX12_serves_41 ?_
        refine r_iconst hκ dX12_serves_42 ?_
        obtain ⟨h35, h⟩ := bck_i h
        obtain ⟨s9, v6, h36, h⟩ := bcl_i h
        refine r_callV hκ (n' := 4) (index := 164) (w_X12_overRow Γ0 l0 h36) (lw_V q3312 q3314 qs95 q146 q3315) (by decide +kernel) (t := 10) h35 rfl rfl (by decide) rfl (Nat.le_of_ble_eq_true rfl) dX12_serves_43 ?_
        refine r_aload_n hκ 0 rfl rfl dX12_serves_46 ?_
        refine r_iconst hκ dX12_serves_47 ?_
        refine r_iconst hκ dX12_serves_48 ?_
        obtain ⟨h37, h⟩ := bck_i h
        obtain ⟨s10, v7, h38, h⟩ := bcl_i h
        refine r_callV hκ (n' := 2) (index := 167) (w_X12_keepsWork Γ0 l0 h38) (lw_V q3410 q3412 qs111 q146 q3413) (by decide +kernel) (t := 10) h37 rfl rfl (by decide) rfl (Nat.le_of_ble_eq_true rfl) dX12_serves_49 ?_
        refine r_iinc hκ (L2 := [(2, (0, (x2 + 1))), (0, (2, x0)), (1, (0, x1))]) 2 rfl (by decide) rfl dX12_serves_52 ?_
        refine r_goto hκ (tgt := 18) (by decide) dX12_serves_55 ?_
        exact r_sub [1, 2, 0] rfl (ih 0 _ _ _ h rfl)
  | b + 1, h => trivial
set_option maxHeartbeats 4000000 in
set_option maxRecDepth 100000 in
theorem w_X12_serves (Γ0 : bG) (l0 : Launch) {s0 st' : bS} {v a0 a1 : Int} (h : F_X12_serves s0 a0 a1 = some (st', v)) : bCt Γ0 l0 yX12_serves cX12_serves 3 (some .int) 3 76 [(2, a0), (0, a1)] s0 st' (some (0, v)) := by
  refine b_ent (own := RX12) (by decide +kernel) rfl (Nat.le_of_ble_eq_true rfl) (L := [(0, (2, a0)), (1, (0, a1))]) rfl ?_
  intro κ hκ hi hf
  unfold F_X12_serves at h
  refine r_aload_n hκ 0 rfl rfl dX12_serves_0 ?_
  refine r_iconst hκ dX12_serves_1 ?_
  refine r_bipush hκ (by decide) dX12_serves_2 ?_
  refine r_iload_n hκ 1 rfl rfl dX12_serves_4 ?_
  refine r_iadd hκ dX12_serves_5 ?_
  obtain ⟨h1, h⟩ := bck_i h
  obtain ⟨s1, v1, h2, h⟩ := bcl_i h
  refine r_callV hκ (n' := 2) (index := 97) (w_X12_takesRow Γ0 l0 h2) (lw_V q3285 q3287 qs90 q146 q3288) (by decide +kernel) (t := 10) h1 rfl rfl (by decide) rfl (Nat.le_of_ble_eq_true rfl) dX12_serves_6 ?_
  refine r_aload_n hκ 0 rfl rfl dX12_serves_9 ?_
  refine r_iload_n hκ 1 rfl rfl dX12_serves_10 ?_
  refine r_iconst hκ dX12_serves_11 ?_
  obtain ⟨h3, h⟩ := bck_i h
  obtain ⟨s2, v2, h4, h⟩ := bcl_i h
  refine r_callV hκ (n' := 2) (index := 135) (w_X12_st Γ0 l0 h4) (lw_V q3360 q3362 qs103 q146 q3363) (by decide +kernel) (t := 10) h3 rfl rfl (by decide) rfl (Nat.le_of_ble_eq_true rfl) dX12_serves_12 ?_
  refine r_iconst hκ dX12_serves_15 ?_
  refine r_iadd hκ dX12_serves_16 ?_
  refine r_istore_n hκ (L2 := [(2, (0, (v2 + 1))), (0, (2, a0)), (1, (0, a1))]) (by decide) rfl rfl dX12_serves_17 ?_
  exact r_sub [1, 2, 0] rfl (w_X12_serves_r hκ hi hf 0 _ _ _ _ h)
/-- EditsMeetModel.serve(I)I -/
def F_X12_serve (s0 : bS) (a0 a1 : Int) : Option (bS × Int) :=
  bcl (F_X12_isClient s0 a1) fun s1 v1 =>
  bte (i32 v1 = 0)
  (bck (bg s1 0 a0 0 = 11) <|
  bcl (F_X12_refused s1 a0 (-2)) fun s6 v6 =>
  some (s6, v6))
  (bck (bg s1 0 a0 0 = 11) <|
  bcl (F_X12_st s1 a0 a1 1) fun s2 v2 =>
  bte (i32 v2 = i32 1)
  (bck (bg s2 0 a0 0 = 11) <|
  bck (bg s2 0 (bg s2 242 a0 0) 0 = 1003 ∧ (0 : Int) ≤ 0 ∧ 0 < bg s2 4 (bg s2 242 a0 0) 0) <|
  bte (i32 (bg s2 20 (bg s2 242 a0 0) 0) = i32 90)
  (bck (bg s2 0 a0 0 = 11) <|
  bcl (F_X12_refused s2 a0 (-6)) fun s4 v4 =>
  some (s4, v4))
  (bck (bg s2 0 a0 0 = 11) <|
  bcl (F_X12_serves s2 a0 a1) fun s3 v3 =>
  some (s3, v3)))
  (bck (bg s2 0 a0 0 = 11) <|
  bcl (F_X12_refused s2 a0 (-5)) fun s5 v5 =>
  some (s5, v5)))
set_option maxHeartbeats 4000000 in
set_option maxRecDepth 100000 in
theorem w_X12_serve (Γ0 : bG) (l0 : Launch) {s0 st' : bS} {v a0 a1 : Int} (h : F_X12_serve s0 a0 a1 = some (st', v)) : bCt Γ0 l0 yX12_serve cX12_serve 2 (some .int) 4 98 [(2, a0), (0, a1)] s0 st' (some (0, v)) := by
  refine b_ent (own := RX12) (by decide +kernel) rfl (Nat.le_of_ble_eq_true rfl) (L := [(0, (2, a0)), (1, (0, a1))]) rfl ?_
  intro κ hκ hi hf
  unfold F_X12_serve at h
  refine r_iload_n hκ 1 rfl rfl dX12_serve_0 ?_
  obtain ⟨s1, v1, h1, h⟩ := bcl_i h
  refine r_callS hκ (n' := 1) (index := 272) (w_X12_isClient Γ0 l0 h1) (lw_S q3324 q3325 q146 q3326) (by decide +kernel) rfl (by decide) rfl (Nat.le_of_ble_eq_true rfl) dX12_serve_1 ?_
  refine r_if_ne hκ (tgt := 14) (by decide) dX12_serve_4 (fun h2 => ?_) (fun h2 => ?_)
  · replace h := (bte_i h).2 h2
    refine r_aload_n hκ 0 rfl rfl dX12_serve_14 ?_
    refine r_iload_n hκ 1 rfl rfl dX12_serve_15 ?_
    refine r_iconst hκ dX12_serve_16 ?_
    obtain ⟨h3, h⟩ := bck_i h
    obtain ⟨s2, v2, h4, h⟩ := bcl_i h
    refine r_callV hκ (n' := 2) (index := 135) (w_X12_st Γ0 l0 h4) (lw_V q3360 q3362 qs103 q146 q3363) (by decide +kernel) (t := 10) h3 rfl rfl (by decide) rfl (Nat.le_of_ble_eq_true rfl) dX12_serve_17 ?_
    refine r_iconst hκ dX12_serve_20 ?_
    refine r_icmp_eq hκ (tgt := 31) (by decide) dX12_serve_21 (fun h5 => ?_) (fun h5 => ?_)
    · replace h := (bte_i h).1 h5
      refine r_aload_n hκ 0 rfl rfl dX12_serve_31 ?_
      obtain ⟨h6, h⟩ := bck_i h
      refine r_get hκ (t := 10) (k := 7) (r := 242) h6 rfl in_X12 (by decide) rfl q3058 (Or.inl rfl) dX12_serve_32 ?_
      refine r_iconst hκ dX12_serve_35 ?_
      obtain ⟨⟨h7, h8⟩, h⟩ := bck_i h
      refine r_iald hκ h7 h8 dX12_serve_36 ?_
      refine r_bipush hκ (by decide) dX12_serve_37 ?_
      refine r_icmp_ne hκ (tgt := 51) (by decide) dX12_serve_39 (fun h9 => ?_) (fun h9 => ?_)
      · replace h := (bte_i h).2 h9
        refine r_aload_n hκ 0 rfl rfl dX12_serve_51 ?_
        refine r_iload_n hκ 1 rfl rfl dX12_serve_52 ?_
        obtain ⟨h10, h⟩ := bck_i h
        obtain ⟨s3, v3, h11, h⟩ := bcl_i h
        refine r_callV hκ (n' := 1) (index := 300) (w_X12_serves Γ0 l0 h11) (lw_V q3406 q3408 qs110 q146 q3409) (by decide +kernel) (t := 10) h10 rfl rfl (by decide) rfl (Nat.le_of_ble_eq_true rfl) dX12_serve_53 ?_
        exact r_iretH hκ hf h (nar_int _) dX12_serve_56
      · replace h := (bte_i h).1 h9
        refine r_aload_n hκ 0 rfl rfl dX12_serve_42 ?_
        refine r_bipush hκ (by decide) dX12_serve_43 ?_
        obtain ⟨h12, h⟩ := bck_i h
        obtain ⟨s4, v4, h13, h⟩ := bcl_i h
        refine r_callV hκ (n' := 1) (index := 183) (w_X12_refused Γ0 l0 h13) (lw_V q3159 q3161 qs73 q146 q3162) (by decide +kernel) (t := 10) h12 rfl rfl (by decide) rfl (Nat.le_of_ble_eq_true rfl) dX12_serve_45 ?_
        refine r_goto hκ (tgt := 56) (by decide) dX12_serve_48 ?_
        exact r_iretH hκ hf h (nar_int _) dX12_serve_56
    · replace h := (bte_i h).2 h5
      refine r_aload_n hκ 0 rfl rfl dX12_serve_24 ?_
      refine r_bipush hκ (by decide) dX12_serve_25 ?_
      obtain ⟨h14, h⟩ := bck_i h
      obtain ⟨s5, v5, h15, h⟩ := bcl_i h
      refine r_callV hκ (n' := 1) (index := 183) (w_X12_refused Γ0 l0 h15) (lw_V q3159 q3161 qs73 q146 q3162) (by decide +kernel) (t := 10) h14 rfl rfl (by decide) rfl (Nat.le_of_ble_eq_true rfl) dX12_serve_27 ?_
      exact r_iretH hκ hf h (nar_int _) dX12_serve_30
  · replace h := (bte_i h).1 h2
    refine r_aload_n hκ 0 rfl rfl dX12_serve_7 ?_
    refine r_bipush hκ (by decide) dX12_serve_8 ?_
    obtain ⟨h16, h⟩ := bck_i h
    obtain ⟨s6, v6, h17, h⟩ := bcl_i h
    refine r_callV hκ (n' := 1) (index := 183) (w_X12_refused Γ0 l0 h17) (lw_V q3159 q3161 qs73 q146 q3162) (by decide +kernel) (t := 10) h16 rfl rfl (by decide) rfl (Nat.le_of_ble_eq_true rfl) dX12_serve_10 ?_
    exact r_iretH hκ hf h (nar_int _) dX12_serve_13
/-- EditsMeetModel.crosses(I)V -/
def F_X12_crosses (s0 : bS) (a0 a1 : Int) : Option (bS × Int) :=
  bck (bg s0 0 a0 0 = 11) <|
  bcl (F_X12_takesRow s0 a0 1 a1) fun s1 v1 =>
  bck (bg s1 0 a0 0 = 11) <|
  bcl (F_X12_overRow s1 a0 1 0 0 2) fun s2 v2 =>
  bck (bg s2 0 a0 0 = 11) <|
  bcl (F_X12_keepsRow s2 a0 a1 2) fun s3 v3 =>
  bck (bg s3 0 a0 0 = 11) <|
  bcl (F_X12_overRow s3 a0 0 1 1 2) fun s4 v4 =>
  bck (bg s4 0 a0 0 = 11) <|
  bcl (F_X12_keepsWork s4 a0 2 0) fun s5 v5 =>
  some (s5, 0)
set_option maxHeartbeats 4000000 in
set_option maxRecDepth 100000 in
theorem w_X12_crosses (Γ0 : bG) (l0 : Launch) {s0 st' : bS} {v a0 a1 : Int} (h : F_X12_crosses s0 a0 a1 = some (st', v)) : bCt Γ0 l0 yX12_crosses cX12_crosses 2 none 3 76 [(2, a0), (0, a1)] s0 st' none := by
  refine b_ent (own := RX12) (by decide +kernel) rfl (Nat.le_of_ble_eq_true rfl) (L := [(0, (2, a0)), (1, (0, a1))]) rfl ?_
  intro κ hκ hi hf
  unfold F_X12_crosses at h
  refine r_aload_n hκ 0 rfl rfl dX12_crosses_0 ?_
  refine r_iconst hκ dX12_crosses_1 ?_
  refine r_iload_n hκ 1 rfl rfl dX12_crosses_2 ?_
  obtain ⟨h1, h⟩ := bck_i h
  obtain ⟨s1, v1, h2, h⟩ := bcl_i h
  refine r_callV hκ (n' := 2) (index := 97) (w_X12_takesRow Γ0 l0 h2) (lw_V q3285 q3287 qs90 q146 q3288) (by decide +kernel) (t := 10) h1 rfl rfl (by decide) rfl (Nat.le_of_ble_eq_true rfl) dX12_crosses_3 ?_
  refine r_aload_n hκ 0 rfl rfl dX12_crosses_6 ?_
  refine r_iconst hκ dX12_crosses_7 ?_
  refine r_iconst hκ dX12_crosses_8 ?_
  refine r_iconst hκ dX12_crosses_9 ?_
  refine r_iconst hκ dX12_crosses_10 ?_
  obtain ⟨h3, h⟩ := bck_i h
  obtain ⟨s2, v2, h4, h⟩ := bcl_i h
  refine r_callV hκ (n' := 4) (index := 164) (w_X12_overRow Γ0 l0 h4) (lw_V q3312 q3314 qs95 q146 q3315) (by decide +kernel) (t := 10) h3 rfl rfl (by decide) rfl (Nat.le_of_ble_eq_true rfl) dX12_crosses_11 ?_
  refine r_aload_n hκ 0 rfl rfl dX12_crosses_14 ?_
  refine r_iload_n hκ 1 rfl rfl dX12_crosses_15 ?_
  refine r_iconst hκ dX12_crosses_16 ?_
  obtain ⟨h5, h⟩ := bck_i h
  obtain ⟨s3, v3, h6, h⟩ := bcl_i h
  refine r_callV hκ (n' := 2) (index := 101) (w_X12_keepsRow Γ0 l0 h6) (lw_V q3211 q3213 qs80 q146 q3214) (by decide +kernel) (t := 10) h5 rfl rfl (by decide) rfl (Nat.le_of_ble_eq_true rfl) dX12_crosses_17 ?_
  refine r_aload_n hκ 0 rfl rfl dX12_crosses_20 ?_
  refine r_iconst hκ dX12_crosses_21 ?_
  refine r_iconst hκ dX12_crosses_22 ?_
  refine r_iconst hκ dX12_crosses_23 ?_
  refine r_iconst hκ dX12_crosses_24 ?_
  obtain ⟨h7, h⟩ := bck_i h
  obtain ⟨s4, v4, h8, h⟩ := bcl_i h
  refine r_callV hκ (n' := 4) (index := 164) (w_X12_overRow Γ0 l0 h8) (lw_V q3312 q3314 qs95 q146 q3315) (by decide +kernel) (t := 10) h7 rfl rfl (by decide) rfl (Nat.le_of_ble_eq_true rfl) dX12_crosses_25 ?_
  refine r_aload_n hκ 0 rfl rfl dX12_crosses_28 ?_
  refine r_iconst hκ dX12_crosses_29 ?_
  refine r_iconst hκ dX12_crosses_30 ?_
  obtain ⟨h9, h⟩ := bck_i h
  obtain ⟨s5, v5, h10, h⟩ := bcl_i h
  refine r_callV hκ (n' := 2) (index := 167) (w_X12_keepsWork Γ0 l0 h10) (lw_V q3410 q3412 qs111 q146 q3413) (by decide +kernel) (t := 10) h9 rfl rfl (by decide) rfl (Nat.le_of_ble_eq_true rfl) dX12_crosses_31 ?_
  exact r_vretH hκ hf h dX12_crosses_34
/-- EditsMeetModel.hears(I)V -/
def F_X12_hears_r (b : Nat) (x0 x1 x2 : Int) (s0 : bS) : Option (bS × Int) :=
  match b with
  | 0 =>
    bck (bg s0 0 x0 0 = 11) <|
    bcl (F_X12_st s0 x0 x1 3) fun s13 v9 =>
    bte (i32 v9 ≤ 0)
    (F_X12_hears_r 1 x0 x1 0 s13)
    (bck (bg s13 0 x0 0 = 11) <|
    bcl (F_X12_crosses s13 x0 (20 + x1)) fun s14 v10 =>
    F_X12_hears_r 1 x0 x1 0 s14)
  | 1 =>
    bck (bg s0 0 x0 0 = 11) <|
    bcl (F_X12_makes s0 x0 x1 0) fun s15 v11 =>
    bck (bg s15 0 x0 0 = 11) <|
    bcl (F_X12_cursorGoes s15 x0 x1 0 0) fun s16 v12 =>
    bck (bg s16 0 x0 0 = 11) <|
    bcl (F_X12_keepsRow s16 x0 275 0) fun s17 v13 =>
    bck (bg s17 0 x0 0 = 11) <|
    bcl (F_X12_st s17 x0 x1 4) fun s18 v14 =>
    F_X12_hears_r 2 x0 x1 (v14 - 1) s18
  | 2 =>
    bte (i32 x2 < 0)
    (bck (bg s0 0 x0 0 = 11) <|
    bcl (F_X12_takesRow s0 x0 0 275) fun s19 v15 =>
    bck (bg s19 0 x0 0 = 11) <|
    bcl (F_X12_st s19 x0 x1 5) fun s20 v16 =>
    F_X12_hears_r 3 x0 x1 (v16 - 1) s20)
    (bck (bg s0 0 x0 0 = 11) <|
    bcl (F_X12_crosses s0 x0 ((24 + (20 * x1)) + x2)) fun s21 v17 =>
    F_X12_hears_r 2 x0 x1 (x2 + (-1)) s21)
  | 3 =>
    bte (i32 x2 < 0)
    (some (s0, 0))
    (bck (bg s0 0 x0 0 = 11) <|
    bcl (F_X12_crosses s0 x0 ((104 + (20 * x1)) + x2)) fun s22 v18 =>
    F_X12_hears_r 3 x0 x1 (x2 + (-1)) s22)
  | _ => none
partial_fixpoint
def F_X12_hears (s0 : bS) (a0 a1 : Int) : Option (bS × Int) :=
  bck (bg s0 0 a0 0 = 11) <|
  bcl (F_X12_st s0 a0 a1 0) fun s1 v1 =>
  bck (bg s1 0 a0 0 = 11) <|
  bck (bg s1 0 (bg s1 234 a0 0) 0 = 1003 ∧ (0 : Int) ≤ (8 * a1) ∧ (8 * a1) < bg s1 4 (bg s1 234 a0 0) 0) <|
  bst (bw s1 20 (bg s1 234 a0 0) (8 * a1) (v1 + 1)) fun s2 =>
  bck (bg s2 0 a0 0 = 11) <|
  bck (bg s2 0 (bg s2 238 a0 0) 0 = 1003 ∧ (0 : Int) ≤ (v1 + 1) ∧ (v1 + 1) < bg s2 4 (bg s2 238 a0 0) 0) <|
  bte (i32 (bg s2 20 (bg s2 238 a0 0) (v1 + 1)) = i32 a1)
  (bck (bg s2 0 a0 0 = 11) <|
  bck (bg s2 0 a0 0 = 11) <|
  bcl (F_X12_st s2 a0 a1 3) fun s6 v5 =>
  bck (bg s6 0 (bg s2 234 a0 0) 0 = 1003 ∧ (0 : Int) ≤ ((8 * a1) + 1) ∧ ((8 * a1) + 1) < bg s6 4 (bg s2 234 a0 0) 0) <|
  bst (bw s6 20 (bg s2 234 a0 0) ((8 * a1) + 1) v5) fun s7 =>
  bck (bg s7 0 a0 0 = 11) <|
  bcl (F_X12_st s7 a0 a1 3) fun s8 v6 =>
  bte (i32 v6 = i32 1)
  (bck (bg s8 0 a0 0 = 11) <|
  bcl (F_X12_copiesRow s8 a0 (20 + a1) (16 + a1)) fun s9 v7 =>
  bck (bg s9 0 a0 0 = 11) <|
  bcl (F_X12_copiesRow s9 a0 (20 + a1) (12 + a1)) fun s10 v8 =>
  bck (bg s10 0 a0 0 = 11) <|
  bck (bg s10 0 (bg s10 234 a0 0) 0 = 1003 ∧ (0 : Int) ≤ ((8 * a1) + 2) ∧ ((8 * a1) + 2) < bg s10 4 (bg s10 234 a0 0) 0) <|
  bst (bw s10 20 (bg s10 234 a0 0) ((8 * a1) + 2) (v1 + 1)) fun s11 =>
  bck (bg s11 0 a0 0 = 11) <|
  bck (bg s11 0 (bg s11 234 a0 0) 0 = 1003 ∧ (0 : Int) ≤ ((8 * a1) + 3) ∧ ((8 * a1) + 3) < bg s11 4 (bg s11 234 a0 0) 0) <|
  bst (bw s11 20 (bg s11 234 a0 0) ((8 * a1) + 3) 0) fun s12 =>
  some (s12, 0))
  (some (s8, 0)))
  (bck (bg s2 0 a0 0 = 11) <|
  bcl (F_X12_takesRow s2 a0 0 (184 + (v1 + 1))) fun s3 v2 =>
  bck (bg s3 0 a0 0 = 11) <|
  bcl (F_X12_st s3 a0 a1 1) fun s4 v3 =>
  bte (i32 v3 ≤ 0)
  (F_X12_hears_r 0 a0 a1 0 s4)
  (bck (bg s4 0 a0 0 = 11) <|
  bcl (F_X12_crosses s4 a0 (16 + a1)) fun s5 v4 =>
  F_X12_hears_r 0 a0 a1 0 s5))
set_option maxHeartbeats 4000000 in
set_option maxRecDepth 100000 in
set_option synthInstance.maxHeartbeats 4000000 in
theorem w_X12_hears_r {Γ0 : bG} {l0 : Launch} {κ : bK} {st' : bS} {v : Int} (hκ : bOk κ Γ0 l0 cX12_hears RX12 4 4 97) (hi : bIn κ yX12_hears) (hf : bFin κ none st' none) (b : Nat) (x0 x1 x2 : Int) (s0 : bS) (h : F_X12_hears_r b x0 x1 x2 s0 = some (st', v)) : match (generalizing := false) b with | 0 => bJ κ s0 132 [(0, (2, x0)), (1, (0, x1))] [] | 1 => bJ κ s0 149 [(0, (2, x0)), (1, (0, x1))] [] | 2 => bJ κ s0 179 [(0, (2, x0)), (1, (0, x1)), (3, (0, x2))] [] | 3 => bJ κ s0 219 [(0, (2, x0)), (1, (0, x1)), (3, (0, x2))] [] | _ => True := by
  refine F_X12_hears_r.partial_correctness x0 x1 (fun b x2 s0 r => r = (st', v) → match (generalizing := false) b with | 0 => bJ κ s0 132 [(0, (2, x0)), (1, (0, x1))] [] | 1 => bJ κ s0 149 [(0, (2, x0)), (1, (0, x1))] [] | 2 => bJ κ s0 179 [(0, (2, x0)), (1, (0, x1)), (3, (0, x2))] [] | 3 => bJ κ s0 219 [(0, (2, x0)), (1, (0, x1)), (3, (0, x2))] [] | _ => True) ?_ b x2 s0 _ h rfl
  intro f' ih b x2 s0 r h hr
  subst hr
  match b, h with
  | 0, h =>
      refine r_aload_n hκ 0 rfl rfl dX12_hears_132 ?_
      refine r_iload_n hκ 1 rfl rfl dX12_hears_133 ?_
      refine r_iconst hκ dX12_hears_134 ?_
      obtain ⟨h35, h⟩ := bck_i h
      obtain ⟨s13, v9, h36, h⟩ := bcl_i h
      refine r_callV hκ (n' := 2) (index := 135) (w_X12_st Γ0 l0 h36) (lw_V q3360 q3362 qs103 q146 q3363) (by decide +kernel) (t := 10) h35 rfl rfl (by decide) rfl (Nat.le_of_ble_eq_true rfl) dX12_hears_135 ?_
      refine r_if_le hκ (tgt := 149) (by decide) dX12_hears_138 (fun h37 => ?_) (fun h37 => ?_)
      · replace h := (bte_i h).1 h37
        exact r_sub [0, 1] rfl (ih 1 _ _ _ h rfl)
      · replace h := (bte_i h).2 h37
        refine r_aload_n hκ 0 rfl rfl dX12_hears_141 ?_
        refine r_bipush hκ (by decide) dX12_hears_142 ?_
        refine r_iload_n hκ 1 rfl rfl dX12_hears_144 ?_
        refine r_iadd hκ dX12_hears_145 ?_
        obtain ⟨h38, h⟩ := bck_i h
        obtain ⟨s14, v10, h39, h⟩ := bcl_i h
        refine r_callV hκ (n' := 1) (index := 170) (w_X12_crosses Γ0 l0 h39) (lw_V q3422 q3424 qs113 q146 q3425) (by decide +kernel) (t := 10) h38 rfl rfl (by decide) rfl (Nat.le_of_ble_eq_true rfl) dX12_hears_146 ?_
        exact r_sub [0, 1] rfl (ih 1 _ _ _ h rfl)
  | 1, h =>
      refine r_aload_n hκ 0 rfl rfl dX12_hears_149 ?_
      refine r_iload_n hκ 1 rfl rfl dX12_hears_150 ?_
      refine r_iconst hκ dX12_hears_151 ?_
      obtain ⟨h40, h⟩ := bck_i h
      obtain ⟨s15, v11, h41, h⟩ := bcl_i h
      refine r_callV hκ (n' := 2) (index := 148) (w_X12_makes Γ0 l0 h41) (lw_V q3352 q3354 qs101 q146 q3355) (by decide +kernel) (t := 10) h40 rfl rfl (by decide) rfl (Nat.le_of_ble_eq_true rfl) dX12_hears_152 ?_
      refine r_aload_n hκ 0 rfl rfl dX12_hears_155 ?_
      refine r_iload_n hκ 1 rfl rfl dX12_hears_156 ?_
      refine r_iconst hκ dX12_hears_157 ?_
      refine r_iconst hκ dX12_hears_158 ?_
      obtain ⟨h42, h⟩ := bck_i h
      obtain ⟨s16, v12, h43, h⟩ := bcl_i h
      refine r_callV hκ (n' := 3) (index := 151) (w_X12_cursorGoes Γ0 l0 h43) (lw_V q3356 q3358 qs102 q146 q3359) (by decide +kernel) (t := 10) h42 rfl rfl (by decide) rfl (Nat.le_of_ble_eq_true rfl) dX12_hears_159 ?_
      refine r_aload_n hκ 0 rfl rfl dX12_hears_162 ?_
      refine r_sipush hκ (by decide) dX12_hears_163 ?_
      refine r_iconst hκ dX12_hears_166 ?_
      obtain ⟨h44, h⟩ := bck_i h
      obtain ⟨s17, v13, h45, h⟩ := bcl_i h
      refine r_callV hκ (n' := 2) (index := 101) (w_X12_keepsRow Γ0 l0 h45) (lw_V q3211 q3213 qs80 q146 q3214) (by decide +kernel) (t := 10) h44 rfl rfl (by decide) rfl (Nat.le_of_ble_eq_true rfl) dX12_hears_167 ?_
      refine r_aload_n hκ 0 rfl rfl dX12_hears_170 ?_
      refine r_iload_n hκ 1 rfl rfl dX12_hears_171 ?_
      refine r_iconst hκ dX12_hears_172 ?_
      obtain ⟨h46, h⟩ := bck_i h
      obtain ⟨s18, v14, h47, h⟩ := bcl_i h
      refine r_callV hκ (n' := 2) (index := 135) (w_X12_st Γ0 l0 h47) (lw_V q3360 q3362 qs103 q146 q3363) (by decide +kernel) (t := 10) h46 rfl rfl (by decide) rfl (Nat.le_of_ble_eq_true rfl) dX12_hears_173 ?_
      refine r_iconst hκ dX12_hears_176 ?_
      refine r_isub hκ dX12_hears_177 ?_
      refine r_istore_n hκ (L2 := [(3, (0, (v14 - 1))), (0, (2, x0)), (1, (0, x1))]) (by decide) rfl rfl dX12_hears_178 ?_
      exact r_sub [1, 2, 0] rfl (ih 2 _ _ _ h rfl)
  | 2, h =>
      refine r_iload_n hκ 2 rfl rfl dX12_hears_179 ?_
      refine r_if_lt hκ (tgt := 202) (by decide) dX12_hears_180 (fun h48 => ?_) (fun h48 => ?_)
      · replace h := (bte_i h).1 h48
        refine r_aload_n hκ 0 rfl rfl dX12_hears_202 ?_
        refine r_iconst hκ dX12_hears_203 ?_
        refine r_sipush hκ (by decide) dX12_hears_204 ?_
        obtain ⟨h49, h⟩ := bck_i h
        obtain ⟨s19, v15, h50, h⟩ := bcl_i h
        refine r_callV hκ (n' := 2) (index := 97) (w_X12_takesRow Γ0 l0 h50) (lw_V q3285 q3287 qs90 q146 q3288) (by decide +kernel) (t := 10) h49 rfl rfl (by decide) rfl (Nat.le_of_ble_eq_true rfl) dX12_hears_207 ?_
        refine r_aload_n hκ 0 rfl rfl dX12_hears_210 ?_
        refine r_iload_n hκ 1 rfl rfl dX12_hears_211 ?_
        refine r_iconst hκ dX12_hears_212 ?_
        obtain ⟨h51, h⟩ := bck_i h
        obtain ⟨s20, v16, h52, h⟩ := bcl_i h
        refine r_callV hκ (n' := 2) (index := 135) (w_X12_st Γ0 l0 h52) (lw_V q3360 q3362 qs103 q146 q3363) (by decide +kernel) (t := 10) h51 rfl rfl (by decide) rfl (Nat.le_of_ble_eq_true rfl) dX12_hears_213 ?_
        refine r_iconst hκ dX12_hears_216 ?_
        refine r_isub hκ dX12_hears_217 ?_
        refine r_istore_n hκ (L2 := [(3, (0, (v16 - 1))), (0, (2, x0)), (1, (0, x1))]) (by decide) rfl rfl dX12_hears_218 ?_
        exact r_sub [1, 2, 0] rfl (ih 3 _ _ _ h rfl)
      · replace h := (bte_i h).2 h48
        refine r_aload_n hκ 0 rfl rfl dX12_hears_183 ?_
        refine r_bipush hκ (by decide) dX12_hears_184 ?_
        refine r_bipush hκ (by decide) dX12_hears_186 ?_
        refine r_iload_n hκ 1 rfl rfl dX12_hears_188 ?_
        refine r_imul hκ dX12_hears_189 ?_
        refine r_iadd hκ dX12_hears_190 ?_
        refine r_iload_n hκ 2 rfl rfl dX12_hears_191 ?_
        refine r_iadd hκ dX12_hears_192 ?_
        obtain ⟨h53, h⟩ := bck_i h
        obtain ⟨s21, v17, h54, h⟩ := bcl_i h
        refine r_callV hκ (n' := 1) (index := 170) (w_X12_crosses Γ0 l0 h54) (lw_V q3422 q3424 qs113 q146 q3425) (by decide +kernel) (t := 10) h53 rfl rfl (by decide) rfl (Nat.le_of_ble_eq_true rfl) dX12_hears_193 ?_
        refine r_iinc hκ (L2 := [(3, (0, (x2 + (-1)))), (0, (2, x0)), (1, (0, x1))]) 2 rfl (by decide) rfl dX12_hears_196 ?_
        refine r_goto hκ (tgt := 179) (by decide) dX12_hears_199 ?_
        exact r_sub [1, 2, 0] rfl (ih 2 _ _ _ h rfl)
  | 3, h =>
      refine r_iload_n hκ 2 rfl rfl dX12_hears_219 ?_
      refine r_if_lt hκ (tgt := 242) (by decide) dX12_hears_220 (fun h55 => ?_) (fun h55 => ?_)
      · replace h := (bte_i h).1 h55
        exact r_vretH hκ hf h dX12_hears_242
      · replace h := (bte_i h).2 h55
        refine r_aload_n hκ 0 rfl rfl dX12_hears_223 ?_
        refine r_bipush hκ (by decide) dX12_hears_224 ?_
        refine r_bipush hκ (by decide) dX12_hears_226 ?_
        refine r_iload_n hκ 1 rfl rfl dX12_hears_228 ?_
        refine r_imul hκ dX12_hears_229 ?_
        refine r_iadd hκ dX12_hears_230 ?_
        refine r_iload_n hκ 2 rfl rfl dX12_hears_231 ?_
        refine r_iadd hκ dX12_hears_232 ?_
        obtain ⟨h56, h⟩ := bck_i h
        obtain ⟨s22, v18, h57, h⟩ := bcl_i h
        refine r_callV hκ (n' := 1) (index := 170) (w_X12_crosses Γ0 l0 h57) (lw_V q3422 q3424 qs113 q146 q3425) (by decide +kernel) (t := 10) h56 rfl rfl (by decide) rfl (Nat.le_of_ble_eq_true rfl) dX12_hears_233 ?_
        refine r_iinc hκ (L2 := [(3, (0, (x2 + (-1)))), (0, (2, x0)), (1, (0, x1))]) 2 rfl (by decide) rfl dX12_hears_236 ?_
        refine r_goto hκ (tgt := 219) (by decide) dX12_hears_239 ?_
        exact r_sub [1, 2, 0] rfl (ih 3 _ _ _ h rfl)
  | b + 4, h => trivial
set_option maxHeartbeats 4000000 in
set_option maxRecDepth 100000 in
theorem w_X12_hears (Γ0 : bG) (l0 : Launch) {s0 st' : bS} {v a0 a1 : Int} (h : F_X12_hears s0 a0 a1 = some (st', v)) : bCt Γ0 l0 yX12_hears cX12_hears 4 none 4 97 [(2, a0), (0, a1)] s0 st' none := by
  refine b_ent (own := RX12) (by decide +kernel) rfl (Nat.le_of_ble_eq_true rfl) (L := [(0, (2, a0)), (1, (0, a1))]) rfl ?_
  intro κ hκ hi hf
  unfold F_X12_hears at h
  refine r_aload_n hκ 0 rfl rfl dX12_hears_0 ?_
  refine r_iload_n hκ 1 rfl rfl dX12_hears_1 ?_
  refine r_iconst hκ dX12_hears_2 ?_
  obtain ⟨h1, h⟩ := bck_i h
  obtain ⟨s1, v1, h2, h⟩ := bcl_i h
  refine r_callV hκ (n' := 2) (index := 135) (w_X12_st Γ0 l0 h2) (lw_V q3360 q3362 qs103 q146 q3363) (by decide +kernel) (t := 10) h1 rfl rfl (by decide) rfl (Nat.le_of_ble_eq_true rfl) dX12_hears_3 ?_
  refine r_iconst hκ dX12_hears_6 ?_
  refine r_iadd hκ dX12_hears_7 ?_
  refine r_istore_n hκ (L2 := [(2, (0, (v1 + 1))), (0, (2, a0)), (1, (0, a1))]) (by decide) rfl rfl dX12_hears_8 ?_
  refine r_aload_n hκ 1 rfl rfl dX12_hears_9 ?_
  obtain ⟨h3, h⟩ := bck_i h
  refine r_get hκ (t := 10) (k := 5) (r := 234) h3 rfl in_X12 (by decide) rfl q3056 (Or.inl rfl) dX12_hears_10 ?_
  refine r_bipush hκ (by decide) dX12_hears_13 ?_
  refine r_iload_n hκ 2 rfl rfl dX12_hears_15 ?_
  refine r_imul hκ dX12_hears_16 ?_
  refine r_iload_n hκ 0 rfl rfl dX12_hears_17 ?_
  obtain ⟨⟨h4, h5⟩, h⟩ := bck_i h
  refine r_iast hκ h4 h5 dX12_hears_18 (fun s2 es2 => ?_)
  replace h := bst_i h s2 es2
  refine r_aload_n hκ 1 rfl rfl dX12_hears_19 ?_
  obtain ⟨h6, h⟩ := bck_i h
  refine r_get hκ (t := 10) (k := 6) (r := 238) h6 rfl in_X12 (by decide) rfl q3057 (Or.inl rfl) dX12_hears_20 ?_
  refine r_iload_n hκ 0 rfl rfl dX12_hears_23 ?_
  obtain ⟨⟨h7, h8⟩, h⟩ := bck_i h
  refine r_iald hκ h7 h8 dX12_hears_24 ?_
  refine r_iload_n hκ 2 rfl rfl dX12_hears_25 ?_
  refine r_icmp_ne hκ (tgt := 105) (by decide) dX12_hears_26 (fun h9 => ?_) (fun h9 => ?_)
  · replace h := (bte_i h).2 h9
    refine r_aload_n hκ 1 rfl rfl dX12_hears_105 ?_
    refine r_iconst hκ dX12_hears_106 ?_
    refine r_sipush hκ (by decide) dX12_hears_107 ?_
    refine r_iload_n hκ 0 rfl rfl dX12_hears_110 ?_
    refine r_iadd hκ dX12_hears_111 ?_
    obtain ⟨h10, h⟩ := bck_i h
    obtain ⟨s3, v2, h11, h⟩ := bcl_i h
    refine r_callV hκ (n' := 2) (index := 97) (w_X12_takesRow Γ0 l0 h11) (lw_V q3285 q3287 qs90 q146 q3288) (by decide +kernel) (t := 10) h10 rfl rfl (by decide) rfl (Nat.le_of_ble_eq_true rfl) dX12_hears_112 ?_
    refine r_aload_n hκ 1 rfl rfl dX12_hears_115 ?_
    refine r_iload_n hκ 2 rfl rfl dX12_hears_116 ?_
    refine r_iconst hκ dX12_hears_117 ?_
    obtain ⟨h12, h⟩ := bck_i h
    obtain ⟨s4, v3, h13, h⟩ := bcl_i h
    refine r_callV hκ (n' := 2) (index := 135) (w_X12_st Γ0 l0 h13) (lw_V q3360 q3362 qs103 q146 q3363) (by decide +kernel) (t := 10) h12 rfl rfl (by decide) rfl (Nat.le_of_ble_eq_true rfl) dX12_hears_118 ?_
    refine r_if_le hκ (tgt := 132) (by decide) dX12_hears_121 (fun h14 => ?_) (fun h14 => ?_)
    · replace h := (bte_i h).1 h14
      exact r_sub [1, 2] rfl (w_X12_hears_r hκ hi hf 0 _ _ _ _ h)
    · replace h := (bte_i h).2 h14
      refine r_aload_n hκ 1 rfl rfl dX12_hears_124 ?_
      refine r_bipush hκ (by decide) dX12_hears_125 ?_
      refine r_iload_n hκ 2 rfl rfl dX12_hears_127 ?_
      refine r_iadd hκ dX12_hears_128 ?_
      obtain ⟨h15, h⟩ := bck_i h
      obtain ⟨s5, v4, h16, h⟩ := bcl_i h
      refine r_callV hκ (n' := 1) (index := 170) (w_X12_crosses Γ0 l0 h16) (lw_V q3422 q3424 qs113 q146 q3425) (by decide +kernel) (t := 10) h15 rfl rfl (by decide) rfl (Nat.le_of_ble_eq_true rfl) dX12_hears_129 ?_
      exact r_sub [1, 2] rfl (w_X12_hears_r hκ hi hf 0 _ _ _ _ h)
  · replace h := (bte_i h).1 h9
    refine r_aload_n hκ 1 rfl rfl dX12_hears_29 ?_
    obtain ⟨h17, h⟩ := bck_i h
    refine r_get hκ (t := 10) (k := 5) (r := 234) h17 rfl in_X12 (by decide) rfl q3056 (Or.inl rfl) dX12_hears_30 ?_
    refine r_bipush hκ (by decide) dX12_hears_33 ?_
    refine r_iload_n hκ 2 rfl rfl dX12_hears_35 ?_
    refine r_imul hκ dX12_hears_36 ?_
    refine r_iconst hκ dX12_hears_37 ?_
    refine r_iadd hκ dX12_hears_38 ?_
    refine r_aload_n hκ 1 rfl rfl dX12_hears_39 ?_
    refine r_iload_n hκ 2 rfl rfl dX12_hears_40 ?_
    refine r_iconst hκ dX12_hears_41 ?_
    obtain ⟨h18, h⟩ := bck_i h
    obtain ⟨s6, v5, h19, h⟩ := bcl_i h
    refine r_callV hκ (n' := 2) (index := 135) (w_X12_st Γ0 l0 h19) (lw_V q3360 q3362 qs103 q146 q3363) (by decide +kernel) (t := 10) h18 rfl rfl (by decide) rfl (Nat.le_of_ble_eq_true rfl) dX12_hears_42 ?_
    obtain ⟨⟨h20, h21⟩, h⟩ := bck_i h
    refine r_iast hκ h20 h21 dX12_hears_45 (fun s7 es7 => ?_)
    replace h := bst_i h s7 es7
    refine r_aload_n hκ 1 rfl rfl dX12_hears_46 ?_
    refine r_iload_n hκ 2 rfl rfl dX12_hears_47 ?_
    refine r_iconst hκ dX12_hears_48 ?_
    obtain ⟨h22, h⟩ := bck_i h
    obtain ⟨s8, v6, h23, h⟩ := bcl_i h
    refine r_callV hκ (n' := 2) (index := 135) (w_X12_st Γ0 l0 h23) (lw_V q3360 q3362 qs103 q146 q3363) (by decide +kernel) (t := 10) h22 rfl rfl (by decide) rfl (Nat.le_of_ble_eq_true rfl) dX12_hears_49 ?_
    refine r_iconst hκ dX12_hears_52 ?_
    refine r_icmp_ne hκ (tgt := 104) (by decide) dX12_hears_53 (fun h24 => ?_) (fun h24 => ?_)
    · replace h := (bte_i h).2 h24
      exact r_vretH hκ hf h dX12_hears_104
    · replace h := (bte_i h).1 h24
      refine r_aload_n hκ 1 rfl rfl dX12_hears_56 ?_
      refine r_bipush hκ (by decide) dX12_hears_57 ?_
      refine r_iload_n hκ 2 rfl rfl dX12_hears_59 ?_
      refine r_iadd hκ dX12_hears_60 ?_
      refine r_bipush hκ (by decide) dX12_hears_61 ?_
      refine r_iload_n hκ 2 rfl rfl dX12_hears_63 ?_
      refine r_iadd hκ dX12_hears_64 ?_
      obtain ⟨h25, h⟩ := bck_i h
      obtain ⟨s9, v7, h26, h⟩ := bcl_i h
      refine r_callV hκ (n' := 2) (index := 142) (w_X12_copiesRow Γ0 l0 h26) (lw_V q3372 q3374 qs106 q146 q3375) (by decide +kernel) (t := 10) h25 rfl rfl (by decide) rfl (Nat.le_of_ble_eq_true rfl) dX12_hears_65 ?_
      refine r_aload_n hκ 1 rfl rfl dX12_hears_68 ?_
      refine r_bipush hκ (by decide) dX12_hears_69 ?_
      refine r_iload_n hκ 2 rfl rfl dX12_hears_71 ?_
      refine r_iadd hκ dX12_hears_72 ?_
      refine r_bipush hκ (by decide) dX12_hears_73 ?_
      refine r_iload_n hκ 2 rfl rfl dX12_hears_75 ?_
      refine r_iadd hκ dX12_hears_76 ?_
      obtain ⟨h27, h⟩ := bck_i h
      obtain ⟨s10, v8, h28, h⟩ := bcl_i h
      refine r_callV hκ (n' := 2) (index := 142) (w_X12_copiesRow Γ0 l0 h28) (lw_V q3372 q3374 qs106 q146 q3375) (by decide +kernel) (t := 10) h27 rfl rfl (by decide) rfl (Nat.le_of_ble_eq_true rfl) dX12_hears_77 ?_
      refine r_aload_n hκ 1 rfl rfl dX12_hears_80 ?_
      obtain ⟨h29, h⟩ := bck_i h
      refine r_get hκ (t := 10) (k := 5) (r := 234) h29 rfl in_X12 (by decide) rfl q3056 (Or.inl rfl) dX12_hears_81 ?_
      refine r_bipush hκ (by decide) dX12_hears_84 ?_
      refine r_iload_n hκ 2 rfl rfl dX12_hears_86 ?_
      refine r_imul hκ dX12_hears_87 ?_
      refine r_iconst hκ dX12_hears_88 ?_
      refine r_iadd hκ dX12_hears_89 ?_
      refine r_iload_n hκ 0 rfl rfl dX12_hears_90 ?_
      obtain ⟨⟨h30, h31⟩, h⟩ := bck_i h
      refine r_iast hκ h30 h31 dX12_hears_91 (fun s11 es11 => ?_)
      replace h := bst_i h s11 es11
      refine r_aload_n hκ 1 rfl rfl dX12_hears_92 ?_
      obtain ⟨h32, h⟩ := bck_i h
      refine r_get hκ (t := 10) (k := 5) (r := 234) h32 rfl in_X12 (by decide) rfl q3056 (Or.inl rfl) dX12_hears_93 ?_
      refine r_bipush hκ (by decide) dX12_hears_96 ?_
      refine r_iload_n hκ 2 rfl rfl dX12_hears_98 ?_
      refine r_imul hκ dX12_hears_99 ?_
      refine r_iconst hκ dX12_hears_100 ?_
      refine r_iadd hκ dX12_hears_101 ?_
      refine r_iconst hκ dX12_hears_102 ?_
      obtain ⟨⟨h33, h34⟩, h⟩ := bck_i h
      refine r_iast hκ h33 h34 dX12_hears_103 (fun s12 es12 => ?_)
      replace h := bst_i h s12 es12
      exact r_vretH hκ hf h dX12_hears_104
/-- EditsMeetModel.hear(I)I -/
def F_X12_hear (s0 : bS) (a0 a1 : Int) : Option (bS × Int) :=
  bcl (F_X12_isClient s0 a1) fun s1 v1 =>
  bte (i32 v1 = 0)
  (bck (bg s1 0 a0 0 = 11) <|
  bcl (F_X12_refused s1 a0 (-2)) fun s6 v6 =>
  some (s6, v6))
  (bck (bg s1 0 a0 0 = 11) <|
  bcl (F_X12_st s1 a0 a1 0) fun s2 v2 =>
  bck (bg s2 0 a0 0 = 11) <|
  bck (bg s2 0 (bg s2 242 a0 0) 0 = 1003 ∧ (0 : Int) ≤ 0 ∧ 0 < bg s2 4 (bg s2 242 a0 0) 0) <|
  bte (i32 v2 = i32 (bg s2 20 (bg s2 242 a0 0) 0))
  (bck (bg s2 0 a0 0 = 11) <|
  bcl (F_X12_refused s2 a0 (-5)) fun s5 v5 =>
  some (s5, v5))
  (bck (bg s2 0 a0 0 = 11) <|
  bcl (F_X12_hears s2 a0 a1) fun s3 v3 =>
  bck (bg s3 0 a0 0 = 11) <|
  bcl (F_X12_st s3 a0 a1 0) fun s4 v4 =>
  some (s4, v4)))
set_option maxHeartbeats 4000000 in
set_option maxRecDepth 100000 in
theorem w_X12_hear (Γ0 : bG) (l0 : Launch) {s0 st' : bS} {v a0 a1 : Int} (h : F_X12_hear s0 a0 a1 = some (st', v)) : bCt Γ0 l0 yX12_hear cX12_hear 2 (some .int) 5 120 [(2, a0), (0, a1)] s0 st' (some (0, v)) := by
  refine b_ent (own := RX12) (by decide +kernel) rfl (Nat.le_of_ble_eq_true rfl) (L := [(0, (2, a0)), (1, (0, a1))]) rfl ?_
  intro κ hκ hi hf
  unfold F_X12_hear at h
  refine r_iload_n hκ 1 rfl rfl dX12_hear_0 ?_
  obtain ⟨s1, v1, h1, h⟩ := bcl_i h
  refine r_callS hκ (n' := 1) (index := 272) (w_X12_isClient Γ0 l0 h1) (lw_S q3324 q3325 q146 q3326) (by decide +kernel) rfl (by decide) rfl (Nat.le_of_ble_eq_true rfl) dX12_hear_1 ?_
  refine r_if_ne hκ (tgt := 14) (by decide) dX12_hear_4 (fun h2 => ?_) (fun h2 => ?_)
  · replace h := (bte_i h).2 h2
    refine r_aload_n hκ 0 rfl rfl dX12_hear_14 ?_
    refine r_iload_n hκ 1 rfl rfl dX12_hear_15 ?_
    refine r_iconst hκ dX12_hear_16 ?_
    obtain ⟨h3, h⟩ := bck_i h
    obtain ⟨s2, v2, h4, h⟩ := bcl_i h
    refine r_callV hκ (n' := 2) (index := 135) (w_X12_st Γ0 l0 h4) (lw_V q3360 q3362 qs103 q146 q3363) (by decide +kernel) (t := 10) h3 rfl rfl (by decide) rfl (Nat.le_of_ble_eq_true rfl) dX12_hear_17 ?_
    refine r_aload_n hκ 0 rfl rfl dX12_hear_20 ?_
    obtain ⟨h5, h⟩ := bck_i h
    refine r_get hκ (t := 10) (k := 7) (r := 242) h5 rfl in_X12 (by decide) rfl q3058 (Or.inl rfl) dX12_hear_21 ?_
    refine r_iconst hκ dX12_hear_24 ?_
    obtain ⟨⟨h6, h7⟩, h⟩ := bck_i h
    refine r_iald hκ h6 h7 dX12_hear_25 ?_
    refine r_icmp_ne hκ (tgt := 36) (by decide) dX12_hear_26 (fun h8 => ?_) (fun h8 => ?_)
    · replace h := (bte_i h).2 h8
      refine r_aload_n hκ 0 rfl rfl dX12_hear_36 ?_
      refine r_iload_n hκ 1 rfl rfl dX12_hear_37 ?_
      obtain ⟨h9, h⟩ := bck_i h
      obtain ⟨s3, v3, h10, h⟩ := bcl_i h
      refine r_callV hκ (n' := 1) (index := 303) (w_X12_hears Γ0 l0 h10) (lw_V q3418 q3420 qs112 q146 q3421) (by decide +kernel) (t := 10) h9 rfl rfl (by decide) rfl (Nat.le_of_ble_eq_true rfl) dX12_hear_38 ?_
      refine r_aload_n hκ 0 rfl rfl dX12_hear_41 ?_
      refine r_iload_n hκ 1 rfl rfl dX12_hear_42 ?_
      refine r_iconst hκ dX12_hear_43 ?_
      obtain ⟨h11, h⟩ := bck_i h
      obtain ⟨s4, v4, h12, h⟩ := bcl_i h
      refine r_callV hκ (n' := 2) (index := 135) (w_X12_st Γ0 l0 h12) (lw_V q3360 q3362 qs103 q146 q3363) (by decide +kernel) (t := 10) h11 rfl rfl (by decide) rfl (Nat.le_of_ble_eq_true rfl) dX12_hear_44 ?_
      exact r_iretH hκ hf h (nar_int _) dX12_hear_47
    · replace h := (bte_i h).1 h8
      refine r_aload_n hκ 0 rfl rfl dX12_hear_29 ?_
      refine r_bipush hκ (by decide) dX12_hear_30 ?_
      obtain ⟨h13, h⟩ := bck_i h
      obtain ⟨s5, v5, h14, h⟩ := bcl_i h
      refine r_callV hκ (n' := 1) (index := 183) (w_X12_refused Γ0 l0 h14) (lw_V q3159 q3161 qs73 q146 q3162) (by decide +kernel) (t := 10) h13 rfl rfl (by decide) rfl (Nat.le_of_ble_eq_true rfl) dX12_hear_32 ?_
      exact r_iretH hκ hf h (nar_int _) dX12_hear_35
  · replace h := (bte_i h).1 h2
    refine r_aload_n hκ 0 rfl rfl dX12_hear_7 ?_
    refine r_bipush hκ (by decide) dX12_hear_8 ?_
    obtain ⟨h15, h⟩ := bck_i h
    obtain ⟨s6, v6, h16, h⟩ := bcl_i h
    refine r_callV hκ (n' := 1) (index := 183) (w_X12_refused Γ0 l0 h16) (lw_V q3159 q3161 qs73 q146 q3162) (by decide +kernel) (t := 10) h15 rfl rfl (by decide) rfl (Nat.le_of_ble_eq_true rfl) dX12_hear_10 ?_
    exact r_iretH hκ hf h (nar_int _) dX12_hear_13
/-- EditsMeetModel.hearAll()V -/
def F_X12_hearAll_r (b : Nat) (x0 x1 : Int) (s0 : bS) : Option (bS × Int) :=
  match b with
  | 0 =>
    bte (i32 4 ≤ i32 x1)
    (some (s0, 0))
    (F_X12_hearAll_r 1 x0 x1 s0)
  | 1 =>
    bck (bg s0 0 x0 0 = 11) <|
    bcl (F_X12_st s0 x0 x1 0) fun s1 v1 =>
    bck (bg s1 0 x0 0 = 11) <|
    bck (bg s1 0 (bg s1 242 x0 0) 0 = 1003 ∧ (0 : Int) ≤ 0 ∧ 0 < bg s1 4 (bg s1 242 x0 0) 0) <|
    bte (i32 (bg s1 20 (bg s1 242 x0 0) 0) ≤ i32 v1)
    (F_X12_hearAll_r 0 x0 (x1 + 1) s1)
    (bck (bg s1 0 x0 0 = 11) <|
    bcl (F_X12_hears s1 x0 x1) fun s2 v2 =>
    F_X12_hearAll_r 1 x0 x1 s2)
  | _ => none
partial_fixpoint
def F_X12_hearAll (s0 : bS) (a0 : Int) : Option (bS × Int) :=
  F_X12_hearAll_r 0 a0 0 s0
set_option maxHeartbeats 4000000 in
set_option maxRecDepth 100000 in
set_option synthInstance.maxHeartbeats 4000000 in
theorem w_X12_hearAll_r {Γ0 : bG} {l0 : Launch} {κ : bK} {st' : bS} {v : Int} (hκ : bOk κ Γ0 l0 cX12_hearAll RX12 2 5 120) (hi : bIn κ yX12_hearAll) (hf : bFin κ none st' none) (b : Nat) (x0 x1 : Int) (s0 : bS) (h : F_X12_hearAll_r b x0 x1 s0 = some (st', v)) : match (generalizing := false) b with | 0 => bJ κ s0 2 [(0, (2, x0)), (1, (0, x1))] [] | 1 => bJ κ s0 7 [(0, (2, x0)), (1, (0, x1))] [] | _ => True := by
  refine F_X12_hearAll_r.partial_correctness x0 (fun b x1 s0 r => r = (st', v) → match (generalizing := false) b with | 0 => bJ κ s0 2 [(0, (2, x0)), (1, (0, x1))] [] | 1 => bJ κ s0 7 [(0, (2, x0)), (1, (0, x1))] [] | _ => True) ?_ b x1 s0 _ h rfl
  intro f' ih b x1 s0 r h hr
  subst hr
  match b, h with
  | 0, h =>
      refine r_iload_n hκ 1 rfl rfl dX12_hearAll_2 ?_
      refine r_iconst hκ dX12_hearAll_3 ?_
      refine r_icmp_ge hκ (tgt := 36) (by decide) dX12_hearAll_4 (fun h1 => ?_) (fun h1 => ?_)
      · replace h := (bte_i h).1 h1
        exact r_vretH hκ hf h dX12_hearAll_36
      · replace h := (bte_i h).2 h1
        exact r_sub [0, 1] rfl (ih 1 _ _ _ h rfl)
  | 1, h =>
      refine r_aload_n hκ 0 rfl rfl dX12_hearAll_7 ?_
      refine r_iload_n hκ 1 rfl rfl dX12_hearAll_8 ?_
      refine r_iconst hκ dX12_hearAll_9 ?_
      obtain ⟨h2, h⟩ := bck_i h
      obtain ⟨s1, v1, h3, h⟩ := bcl_i h
      refine r_callV hκ (n' := 2) (index := 135) (w_X12_st Γ0 l0 h3) (lw_V q3360 q3362 qs103 q146 q3363) (by decide +kernel) (t := 10) h2 rfl rfl (by decide) rfl (Nat.le_of_ble_eq_true rfl) dX12_hearAll_10 ?_
      refine r_aload_n hκ 0 rfl rfl dX12_hearAll_13 ?_
      obtain ⟨h4, h⟩ := bck_i h
      refine r_get hκ (t := 10) (k := 7) (r := 242) h4 rfl in_X12 (by decide) rfl q3058 (Or.inl rfl) dX12_hearAll_14 ?_
      refine r_iconst hκ dX12_hearAll_17 ?_
      obtain ⟨⟨h5, h6⟩, h⟩ := bck_i h
      refine r_iald hκ h5 h6 dX12_hearAll_18 ?_
      refine r_icmp_ge hκ (tgt := 30) (by decide) dX12_hearAll_19 (fun h7 => ?_) (fun h7 => ?_)
      · replace h := (bte_i h).1 h7
        refine r_iinc hκ (L2 := [(1, (0, (x1 + 1))), (0, (2, x0))]) 1 rfl (by decide) rfl dX12_hearAll_30 ?_
        refine r_goto hκ (tgt := 2) (by decide) dX12_hearAll_33 ?_
        exact r_sub [1, 0] rfl (ih 0 _ _ _ h rfl)
      · replace h := (bte_i h).2 h7
        refine r_aload_n hκ 0 rfl rfl dX12_hearAll_22 ?_
        refine r_iload_n hκ 1 rfl rfl dX12_hearAll_23 ?_
        obtain ⟨h8, h⟩ := bck_i h
        obtain ⟨s2, v2, h9, h⟩ := bcl_i h
        refine r_callV hκ (n' := 1) (index := 303) (w_X12_hears Γ0 l0 h9) (lw_V q3418 q3420 qs112 q146 q3421) (by decide +kernel) (t := 10) h8 rfl rfl (by decide) rfl (Nat.le_of_ble_eq_true rfl) dX12_hearAll_24 ?_
        refine r_goto hκ (tgt := 7) (by decide) dX12_hearAll_27 ?_
        exact r_sub [0, 1] rfl (ih 1 _ _ _ h rfl)
  | b + 2, h => trivial
set_option maxHeartbeats 4000000 in
set_option maxRecDepth 100000 in
theorem w_X12_hearAll (Γ0 : bG) (l0 : Launch) {s0 st' : bS} {v a0 : Int} (h : F_X12_hearAll s0 a0 = some (st', v)) : bCt Γ0 l0 yX12_hearAll cX12_hearAll 2 none 5 120 [(2, a0)] s0 st' none := by
  refine b_ent (own := RX12) (by decide +kernel) rfl (Nat.le_of_ble_eq_true rfl) (L := [(0, (2, a0))]) rfl ?_
  intro κ hκ hi hf
  unfold F_X12_hearAll at h
  refine r_iconst hκ dX12_hearAll_0 ?_
  refine r_istore_n hκ (L2 := [(1, (0, 0)), (0, (2, a0))]) (by decide) rfl rfl dX12_hearAll_1 ?_
  exact r_sub [1, 0] rfl (w_X12_hearAll_r hκ hi hf 0 _ _ _ h)
/-- EditsMeetModel.isAnySent()Z -/
def F_X12_isAnySent_r (b : Nat) (x0 x1 x2 : Int) (s0 : bS) : Option (bS × Int) :=
  match b with
  | 0 =>
    bte (i32 4 ≤ i32 x2)
    (bck (x1 = 0 ∨ x1 = 1) <|
    some (s0, x1))
    (bte (i32 x1 = 0)
    (bck (bg s0 0 x0 0 = 11) <|
    bcl (F_X12_st s0 x0 x2 1) fun s1 v1 =>
    bte (i32 v1 = i32 1)
    (F_X12_isAnySent_r 1 x0 x2 0 s1)
    (F_X12_isAnySent_r 2 x0 x2 0 s1))
    (F_X12_isAnySent_r 1 x0 x2 0 s0))
  | 1 =>
    F_X12_isAnySent_r 2 x0 x1 1 s0
  | 2 =>
    F_X12_isAnySent_r 0 x0 x2 (x1 + 1) s0
  | _ => none
partial_fixpoint
def F_X12_isAnySent (s0 : bS) (a0 : Int) : Option (bS × Int) :=
  F_X12_isAnySent_r 0 a0 0 0 s0
set_option maxHeartbeats 4000000 in
set_option maxRecDepth 100000 in
set_option synthInstance.maxHeartbeats 4000000 in
theorem w_X12_isAnySent_r {Γ0 : bG} {l0 : Launch} {κ : bK} {st' : bS} {v : Int} (hκ : bOk κ Γ0 l0 cX12_isAnySent RX12 3 1 22) (hi : bIn κ yX12_isAnySent) (hf : bFin κ (some .boolean) st' (some (0, v))) (b : Nat) (x0 x1 x2 : Int) (s0 : bS) (h : F_X12_isAnySent_r b x0 x1 x2 s0 = some (st', v)) : match (generalizing := false) b with | 0 => bJ κ s0 4 [(0, (2, x0)), (1, (0, x1)), (2, (0, x2))] [] | 1 => bJ κ s0 23 [(0, (2, x0)), (2, (0, x1))] [] | 2 => bJ κ s0 28 [(0, (2, x0)), (2, (0, x1))] [(0, x2)] | _ => True := by
  refine F_X12_isAnySent_r.partial_correctness x0 (fun b x1 x2 s0 r => r = (st', v) → match (generalizing := false) b with | 0 => bJ κ s0 4 [(0, (2, x0)), (1, (0, x1)), (2, (0, x2))] [] | 1 => bJ κ s0 23 [(0, (2, x0)), (2, (0, x1))] [] | 2 => bJ κ s0 28 [(0, (2, x0)), (2, (0, x1))] [(0, x2)] | _ => True) ?_ b x1 x2 s0 _ h rfl
  intro f' ih b x1 x2 s0 r h hr
  subst hr
  match b, h with
  | 0, h =>
      refine r_iload_n hκ 2 rfl rfl dX12_isAnySent_4 ?_
      refine r_iconst hκ dX12_isAnySent_5 ?_
      refine r_icmp_ge hκ (tgt := 35) (by decide) dX12_isAnySent_6 (fun h1 => ?_) (fun h1 => ?_)
      · replace h := (bte_i h).1 h1
        refine r_iload_n hκ 1 rfl rfl dX12_isAnySent_35 ?_
        obtain ⟨h2, h⟩ := bck_i h
        exact r_iretH hκ hf h (nar_bool h2) dX12_isAnySent_36
      · replace h := (bte_i h).2 h1
        refine r_iload_n hκ 1 rfl rfl dX12_isAnySent_9 ?_
        refine r_if_ne hκ (tgt := 23) (by decide) dX12_isAnySent_10 (fun h3 => ?_) (fun h3 => ?_)
        · replace h := (bte_i h).2 h3
          exact r_sub [0, 2] rfl (ih 1 _ _ _ _ h rfl)
        · replace h := (bte_i h).1 h3
          refine r_aload_n hκ 0 rfl rfl dX12_isAnySent_13 ?_
          refine r_iload_n hκ 2 rfl rfl dX12_isAnySent_14 ?_
          refine r_iconst hκ dX12_isAnySent_15 ?_
          obtain ⟨h4, h⟩ := bck_i h
          obtain ⟨s1, v1, h5, h⟩ := bcl_i h
          refine r_callV hκ (n' := 2) (index := 135) (w_X12_st Γ0 l0 h5) (lw_V q3360 q3362 qs103 q146 q3363) (by decide +kernel) (t := 10) h4 rfl rfl (by decide) rfl (Nat.le_of_ble_eq_true rfl) dX12_isAnySent_16 ?_
          refine r_iconst hκ dX12_isAnySent_19 ?_
          refine r_icmp_ne hκ (tgt := 27) (by decide) dX12_isAnySent_20 (fun h6 => ?_) (fun h6 => ?_)
          · replace h := (bte_i h).2 h6
            refine r_iconst hκ dX12_isAnySent_27 ?_
            exact r_sub [0, 2] rfl (ih 2 _ _ _ _ h rfl)
          · replace h := (bte_i h).1 h6
            exact r_sub [0, 2] rfl (ih 1 _ _ _ _ h rfl)
  | 1, h =>
      refine r_iconst hκ dX12_isAnySent_23 ?_
      refine r_goto hκ (tgt := 28) (by decide) dX12_isAnySent_24 ?_
      exact r_sub [0, 1] rfl (ih 2 _ _ _ _ h rfl)
  | 2, h =>
      refine r_istore_n hκ (L2 := [(1, (0, x2)), (0, (2, x0)), (2, (0, x1))]) (by decide) rfl rfl dX12_isAnySent_28 ?_
      refine r_iinc hκ (L2 := [(2, (0, (x1 + 1))), (1, (0, x2)), (0, (2, x0))]) 2 rfl (by decide) rfl dX12_isAnySent_29 ?_
      refine r_goto hκ (tgt := 4) (by decide) dX12_isAnySent_32 ?_
      exact r_sub [2, 1, 0] rfl (ih 0 _ _ _ _ h rfl)
  | b + 3, h => trivial
set_option maxHeartbeats 4000000 in
set_option maxRecDepth 100000 in
theorem w_X12_isAnySent (Γ0 : bG) (l0 : Launch) {s0 st' : bS} {v a0 : Int} (h : F_X12_isAnySent s0 a0 = some (st', v)) : bCt Γ0 l0 yX12_isAnySent cX12_isAnySent 3 (some .boolean) 1 22 [(2, a0)] s0 st' (some (0, v)) := by
  refine b_ent (own := RX12) (by decide +kernel) rfl (Nat.le_of_ble_eq_true rfl) (L := [(0, (2, a0))]) rfl ?_
  intro κ hκ hi hf
  unfold F_X12_isAnySent at h
  refine r_iconst hκ dX12_isAnySent_0 ?_
  refine r_istore_n hκ (L2 := [(1, (0, 0)), (0, (2, a0))]) (by decide) rfl rfl dX12_isAnySent_1 ?_
  refine r_iconst hκ dX12_isAnySent_2 ?_
  refine r_istore_n hκ (L2 := [(2, (0, 0)), (1, (0, 0)), (0, (2, a0))]) (by decide) rfl rfl dX12_isAnySent_3 ?_
  exact r_sub [2, 1, 0] rfl (w_X12_isAnySent_r hκ hi hf 0 _ _ _ _ h)
/-- EditsMeetModel.meet()I -/
def F_X12_meet_r (b : Nat) (x0 x1 : Int) (s0 : bS) : Option (bS × Int) :=
  match b with
  | 0 =>
    bte (i32 x1 = 0)
    (bck (bg s0 0 x0 0 = 11) <|
    bck (bg s0 0 (bg s0 242 x0 0) 0 = 1003 ∧ (0 : Int) ≤ 0 ∧ 0 < bg s0 4 (bg s0 242 x0 0) 0) <|
    some (s0, (bg s0 20 (bg s0 242 x0 0) 0)))
    (F_X12_meet_r 1 x0 0 s0)
  | 1 =>
    bte (i32 4 ≤ i32 x1)
    (bck (bg s0 0 x0 0 = 11) <|
    bcl (F_X12_hearAll s0 x0) fun s1 v1 =>
    bck (bg s1 0 x0 0 = 11) <|
    bcl (F_X12_isAnySent s1 x0) fun s2 v2 =>
    F_X12_meet_r 0 x0 v2 s2)
    (bck (bg s0 0 x0 0 = 11) <|
    bcl (F_X12_st s0 x0 x1 1) fun s3 v3 =>
    bte (i32 v3 = i32 1)
    (bck (bg s3 0 x0 0 = 11) <|
    bck (bg s3 0 (bg s3 242 x0 0) 0 = 1003 ∧ (0 : Int) ≤ 0 ∧ 0 < bg s3 4 (bg s3 242 x0 0) 0) <|
    bte (i32 (bg s3 20 (bg s3 242 x0 0) 0) = i32 90)
    (bck (bg s3 0 x0 0 = 11) <|
    bcl (F_X12_refused s3 x0 (-6)) fun s5 v5 =>
    some (s5, v5))
    (bck (bg s3 0 x0 0 = 11) <|
    bcl (F_X12_serves s3 x0 x1) fun s4 v4 =>
    F_X12_meet_r 2 x0 x1 s4))
    (F_X12_meet_r 2 x0 x1 s3))
  | 2 =>
    F_X12_meet_r 1 x0 (x1 + 1) s0
  | _ => none
partial_fixpoint
def F_X12_meet (s0 : bS) (a0 : Int) : Option (bS × Int) :=
  F_X12_meet_r 0 a0 1 s0
set_option maxHeartbeats 4000000 in
set_option maxRecDepth 100000 in
set_option synthInstance.maxHeartbeats 4000000 in
theorem w_X12_meet_r {Γ0 : bG} {l0 : Launch} {κ : bK} {st' : bS} {v : Int} (hκ : bOk κ Γ0 l0 cX12_meet RX12 4 6 141) (hi : bIn κ yX12_meet) (hf : bFin κ (some .int) st' (some (0, v))) (b : Nat) (x0 x1 : Int) (s0 : bS) (h : F_X12_meet_r b x0 x1 s0 = some (st', v)) : match (generalizing := false) b with | 0 => bJ κ s0 2 [(0, (2, x0)), (1, (0, x1))] [] | 1 => bJ κ s0 8 [(0, (2, x0)), (2, (0, x1))] [] | 2 => bJ κ s0 47 [(0, (2, x0)), (2, (0, x1))] [] | _ => True := by
  refine F_X12_meet_r.partial_correctness x0 (fun b x1 s0 r => r = (st', v) → match (generalizing := false) b with | 0 => bJ κ s0 2 [(0, (2, x0)), (1, (0, x1))] [] | 1 => bJ κ s0 8 [(0, (2, x0)), (2, (0, x1))] [] | 2 => bJ κ s0 47 [(0, (2, x0)), (2, (0, x1))] [] | _ => True) ?_ b x1 s0 _ h rfl
  intro f' ih b x1 s0 r h hr
  subst hr
  match b, h with
  | 0, h =>
      refine r_iload_n hκ 1 rfl rfl dX12_meet_2 ?_
      refine r_if_eq hκ (tgt := 65) (by decide) dX12_meet_3 (fun h1 => ?_) (fun h1 => ?_)
      · replace h := (bte_i h).1 h1
        refine r_aload_n hκ 0 rfl rfl dX12_meet_65 ?_
        obtain ⟨h2, h⟩ := bck_i h
        refine r_get hκ (t := 10) (k := 7) (r := 242) h2 rfl in_X12 (by decide) rfl q3058 (Or.inl rfl) dX12_meet_66 ?_
        refine r_iconst hκ dX12_meet_69 ?_
        obtain ⟨⟨h3, h4⟩, h⟩ := bck_i h
        refine r_iald hκ h3 h4 dX12_meet_70 ?_
        exact r_iretH hκ hf h (nar_int _) dX12_meet_71
      · replace h := (bte_i h).2 h1
        refine r_iconst hκ dX12_meet_6 ?_
        refine r_istore_n hκ (L2 := [(2, (0, 0)), (0, (2, x0)), (1, (0, x1))]) (by decide) rfl rfl dX12_meet_7 ?_
        exact r_sub [1, 0] rfl (ih 1 _ _ _ h rfl)
  | 1, h =>
      refine r_iload_n hκ 1 rfl rfl dX12_meet_8 ?_
      refine r_iconst hκ dX12_meet_9 ?_
      refine r_icmp_ge hκ (tgt := 53) (by decide) dX12_meet_10 (fun h5 => ?_) (fun h5 => ?_)
      · replace h := (bte_i h).1 h5
        refine r_aload_n hκ 0 rfl rfl dX12_meet_53 ?_
        obtain ⟨h6, h⟩ := bck_i h
        obtain ⟨s1, v1, h7, h⟩ := bcl_i h
        refine r_callV hκ (n' := 0) (index := 306) (w_X12_hearAll Γ0 l0 h7) (lw_V q3430 q3432 qs114 q146 q3433) (by decide +kernel) (t := 10) h6 rfl rfl (by decide) rfl (Nat.le_of_ble_eq_true rfl) dX12_meet_54 ?_
        refine r_aload_n hκ 0 rfl rfl dX12_meet_57 ?_
        obtain ⟨h8, h⟩ := bck_i h
        obtain ⟨s2, v2, h9, h⟩ := bcl_i h
        refine r_callV hκ (n' := 0) (index := 309) (w_X12_isAnySent Γ0 l0 h9) (lw_V q3434 q3436 qs115 q146 q3437) (by decide +kernel) (t := 10) h8 rfl rfl (by decide) rfl (Nat.le_of_ble_eq_true rfl) dX12_meet_58 ?_
        refine r_istore_n hκ (L2 := [(1, (0, v2)), (0, (2, x0)), (2, (0, x1))]) (by decide) rfl rfl dX12_meet_61 ?_
        refine r_goto hκ (tgt := 2) (by decide) dX12_meet_62 ?_
        exact r_sub [1, 0] rfl (ih 0 _ _ _ h rfl)
      · replace h := (bte_i h).2 h5
        refine r_aload_n hκ 0 rfl rfl dX12_meet_13 ?_
        refine r_iload_n hκ 1 rfl rfl dX12_meet_14 ?_
        refine r_iconst hκ dX12_meet_15 ?_
        obtain ⟨h10, h⟩ := bck_i h
        obtain ⟨s3, v3, h11, h⟩ := bcl_i h
        refine r_callV hκ (n' := 2) (index := 135) (w_X12_st Γ0 l0 h11) (lw_V q3360 q3362 qs103 q146 q3363) (by decide +kernel) (t := 10) h10 rfl rfl (by decide) rfl (Nat.le_of_ble_eq_true rfl) dX12_meet_16 ?_
        refine r_iconst hκ dX12_meet_19 ?_
        refine r_icmp_ne hκ (tgt := 47) (by decide) dX12_meet_20 (fun h12 => ?_) (fun h12 => ?_)
        · replace h := (bte_i h).2 h12
          exact r_sub [0, 1] rfl (ih 2 _ _ _ h rfl)
        · replace h := (bte_i h).1 h12
          refine r_aload_n hκ 0 rfl rfl dX12_meet_23 ?_
          obtain ⟨h13, h⟩ := bck_i h
          refine r_get hκ (t := 10) (k := 7) (r := 242) h13 rfl in_X12 (by decide) rfl q3058 (Or.inl rfl) dX12_meet_24 ?_
          refine r_iconst hκ dX12_meet_27 ?_
          obtain ⟨⟨h14, h15⟩, h⟩ := bck_i h
          refine r_iald hκ h14 h15 dX12_meet_28 ?_
          refine r_bipush hκ (by decide) dX12_meet_29 ?_
          refine r_icmp_ne hκ (tgt := 41) (by decide) dX12_meet_31 (fun h16 => ?_) (fun h16 => ?_)
          · replace h := (bte_i h).2 h16
            refine r_aload_n hκ 0 rfl rfl dX12_meet_41 ?_
            refine r_iload_n hκ 1 rfl rfl dX12_meet_42 ?_
            obtain ⟨h17, h⟩ := bck_i h
            obtain ⟨s4, v4, h18, h⟩ := bcl_i h
            refine r_callV hκ (n' := 1) (index := 300) (w_X12_serves Γ0 l0 h18) (lw_V q3406 q3408 qs110 q146 q3409) (by decide +kernel) (t := 10) h17 rfl rfl (by decide) rfl (Nat.le_of_ble_eq_true rfl) dX12_meet_43 ?_
            refine r_istore_n hκ (L2 := [(3, (0, v4)), (0, (2, x0)), (2, (0, x1))]) (by decide) rfl rfl dX12_meet_46 ?_
            exact r_sub [1, 2] rfl (ih 2 _ _ _ h rfl)
          · replace h := (bte_i h).1 h16
            refine r_aload_n hκ 0 rfl rfl dX12_meet_34 ?_
            refine r_bipush hκ (by decide) dX12_meet_35 ?_
            obtain ⟨h19, h⟩ := bck_i h
            obtain ⟨s5, v5, h20, h⟩ := bcl_i h
            refine r_callV hκ (n' := 1) (index := 183) (w_X12_refused Γ0 l0 h20) (lw_V q3159 q3161 qs73 q146 q3162) (by decide +kernel) (t := 10) h19 rfl rfl (by decide) rfl (Nat.le_of_ble_eq_true rfl) dX12_meet_37 ?_
            exact r_iretH hκ hf h (nar_int _) dX12_meet_40
  | 2, h =>
      refine r_iinc hκ (L2 := [(2, (0, (x1 + 1))), (0, (2, x0))]) 1 rfl (by decide) rfl dX12_meet_47 ?_
      refine r_goto hκ (tgt := 8) (by decide) dX12_meet_50 ?_
      exact r_sub [1, 0] rfl (ih 1 _ _ _ h rfl)
  | b + 3, h => trivial
set_option maxHeartbeats 4000000 in
set_option maxRecDepth 100000 in
theorem w_X12_meet (Γ0 : bG) (l0 : Launch) {s0 st' : bS} {v a0 : Int} (h : F_X12_meet s0 a0 = some (st', v)) : bCt Γ0 l0 yX12_meet cX12_meet 4 (some .int) 6 141 [(2, a0)] s0 st' (some (0, v)) := by
  refine b_ent (own := RX12) (by decide +kernel) rfl (Nat.le_of_ble_eq_true rfl) (L := [(0, (2, a0))]) rfl ?_
  intro κ hκ hi hf
  unfold F_X12_meet at h
  refine r_iconst hκ dX12_meet_0 ?_
  refine r_istore_n hκ (L2 := [(1, (0, 1)), (0, (2, a0))]) (by decide) rfl rfl dX12_meet_1 ?_
  exact r_sub [1, 0] rfl (w_X12_meet_r hκ hi hf 0 _ _ _ h)
