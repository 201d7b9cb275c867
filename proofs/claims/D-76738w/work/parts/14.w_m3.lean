/-! walks, printed by dec.py: 14.w_m3 -/
/-- EditsMeetModel.again(II)I -/
def F_X12_again_r (b : Nat) (x0 x1 x2 x3 x4 x5 x6 : Int) (s0 : bS) : Option (bS × Int) :=
  match b with
  | 0 =>
    bck (bg s0 0 x6 0 = 11) <|
    bcl (F_X12_takesRow s0 x6 x5 (((x4 + (20 * x1)) + x3) - 1)) fun s2 v2 =>
    bck (bg s2 0 x0 0 = 11) <|
    bcl (F_X12_isFull s2 x0 x1 0) fun s3 v3 =>
    bte (i32 v3 = 0)
    (bck (bg s3 0 x0 0 = 11) <|
    bck (bg s3 0 (bg s3 234 x0 0) 0 = 1003 ∧ (0 : Int) ≤ ((8 * x1) + x2) ∧ ((8 * x1) + x2) < bg s3 4 (bg s3 234 x0 0) 0) <|
    bst (bw s3 20 (bg s3 234 x0 0) ((8 * x1) + x2) (x3 - 1)) fun s4 =>
    bck (bg s4 0 x0 0 = 11) <|
    bcl (F_X12_done s4 x0 x1 (9 - x2) 0) fun s5 v4 =>
    some (s5, 0))
    (some (s3, (-6)))
  | _ => none
def F_X12_again (s0 : bS) (a0 a1 a2 : Int) : Option (bS × Int) :=
  bck (bg s0 0 a0 0 = 11) <|
  bcl (F_X12_st s0 a0 a1 a2) fun s1 v1 =>
  bte (i32 v1 = 0)
  (some (s1, (-5)))
  (bte (i32 a2 = i32 4)
  (F_X12_again_r 0 a0 a1 a2 v1 24 0 a0 s1)
  (F_X12_again_r 0 a0 a1 a2 v1 104 0 a0 s1))
set_option maxHeartbeats 4000000 in
set_option maxRecDepth 100000 in
set_option synthInstance.maxHeartbeats 4000000 in
theorem w_X12_again_r {Γ0 : bG} {l0 : Launch} {κ : bK} {st' : bS} {v : Int} (hκ : bOk κ Γ0 l0 cX12_again RX12 4 5 117) (hi : bIn κ yX12_again) (hf : bFin κ (some .int) st' (some (0, v))) (b : Nat) (x0 x1 x2 x3 x4 x5 x6 : Int) (s0 : bS) (h : F_X12_again_r b x0 x1 x2 x3 x4 x5 x6 s0 = some (st', v)) : match (generalizing := false) b with | 0 => bJ κ s0 28 [(0, (2, x0)), (1, (0, x1)), (2, (0, x2)), (3, (0, x3))] [(0, x4), (0, x5), (2, x6)] | _ => True := by
  unfold F_X12_again_r at h
  match b, h with
  | 0, h =>
      refine r_bipush hκ (by decide) dX12_again_28 ?_
      refine r_iload_n hκ 1 rfl rfl dX12_again_30 ?_
      refine r_imul hκ dX12_again_31 ?_
      refine r_iadd hκ dX12_again_32 ?_
      refine r_iload_n hκ 3 rfl rfl dX12_again_33 ?_
      refine r_iadd hκ dX12_again_34 ?_
      refine r_iconst hκ dX12_again_35 ?_
      refine r_isub hκ dX12_again_36 ?_
      obtain ⟨h5, h⟩ := bck_i h
      obtain ⟨s2, v2, h6, h⟩ := bcl_i h
      refine r_callV hκ (n' := 2) (index := 97) (w_X12_takesRow Γ0 l0 h6) (lw_V q3285 q3287 qs90 q146 q3288) (by decide +kernel) (t := 10) h5 rfl rfl (by decide) rfl (Nat.le_of_ble_eq_true rfl) dX12_again_37 ?_
      refine r_aload_n hκ 0 rfl rfl dX12_again_40 ?_
      refine r_iload_n hκ 1 rfl rfl dX12_again_41 ?_
      refine r_iconst hκ dX12_again_42 ?_
      obtain ⟨h7, h⟩ := bck_i h
      obtain ⟨s3, v3, h8, h⟩ := bcl_i h
      refine r_callV hκ (n' := 2) (index := 280) (w_X12_isFull Γ0 l0 h8) (lw_V q3340 q3342 qs98 q146 q3343) (by decide +kernel) (t := 10) h7 rfl rfl (by decide) rfl (Nat.le_of_ble_eq_true rfl) dX12_again_43 ?_
      refine r_if_eq hκ (tgt := 52) (by decide) dX12_again_46 (fun h9 => ?_) (fun h9 => ?_)
      · replace h := (bte_i h).1 h9
        refine r_aload_n hκ 0 rfl rfl dX12_again_52 ?_
        obtain ⟨h10, h⟩ := bck_i h
        refine r_get hκ (t := 10) (k := 5) (r := 234) h10 rfl in_X12 (by decide) rfl q3056 (Or.inl rfl) dX12_again_53 ?_
        refine r_bipush hκ (by decide) dX12_again_56 ?_
        refine r_iload_n hκ 1 rfl rfl dX12_again_58 ?_
        refine r_imul hκ dX12_again_59 ?_
        refine r_iload_n hκ 2 rfl rfl dX12_again_60 ?_
        refine r_iadd hκ dX12_again_61 ?_
        refine r_iload_n hκ 3 rfl rfl dX12_again_62 ?_
        refine r_iconst hκ dX12_again_63 ?_
        refine r_isub hκ dX12_again_64 ?_
        obtain ⟨⟨h11, h12⟩, h⟩ := bck_i h
        refine r_iast hκ h11 h12 dX12_again_65 (fun s4 es4 => ?_)
        replace h := bst_i h s4 es4
        refine r_aload_n hκ 0 rfl rfl dX12_again_66 ?_
        refine r_iload_n hκ 1 rfl rfl dX12_again_67 ?_
        refine r_bipush hκ (by decide) dX12_again_68 ?_
        refine r_iload_n hκ 2 rfl rfl dX12_again_70 ?_
        refine r_isub hκ dX12_again_71 ?_
        refine r_iconst hκ dX12_again_72 ?_
        obtain ⟨h13, h⟩ := bck_i h
        obtain ⟨s5, v4, h14, h⟩ := bcl_i h
        refine r_callV hκ (n' := 3) (index := 283) (w_X12_done Γ0 l0 h14) (lw_V q3348 q3350 qs100 q146 q3351) (by decide +kernel) (t := 10) h13 rfl rfl (by decide) rfl (Nat.le_of_ble_eq_true rfl) dX12_again_73 ?_
        refine r_iconst hκ dX12_again_76 ?_
        exact r_iretH hκ hf h (nar_int _) dX12_again_77
      · replace h := (bte_i h).2 h9
        refine r_bipush hκ (by decide) dX12_again_49 ?_
        exact r_iretH hκ hf h (nar_int _) dX12_again_51
  | b + 1, h => trivial
set_option maxHeartbeats 4000000 in
set_option maxRecDepth 100000 in
theorem w_X12_again (Γ0 : bG) (l0 : Launch) {s0 st' : bS} {v a0 a1 a2 : Int} (h : F_X12_again s0 a0 a1 a2 = some (st', v)) : bCt Γ0 l0 yX12_again cX12_again 4 (some .int) 5 117 [(2, a0), (0, a1), (0, a2)] s0 st' (some (0, v)) := by
  refine b_ent (own := RX12) (by decide +kernel) rfl (Nat.le_of_ble_eq_true rfl) (L := [(0, (2, a0)), (1, (0, a1)), (2, (0, a2))]) rfl ?_
  intro κ hκ hi hf
  unfold F_X12_again at h
  refine r_aload_n hκ 0 rfl rfl dX12_again_0 ?_
  refine r_iload_n hκ 1 rfl rfl dX12_again_1 ?_
  refine r_iload_n hκ 2 rfl rfl dX12_again_2 ?_
  obtain ⟨h1, h⟩ := bck_i h
  obtain ⟨s1, v1, h2, h⟩ := bcl_i h
  refine r_callV hκ (n' := 2) (index := 135) (w_X12_st Γ0 l0 h2) (lw_V q3360 q3362 qs103 q146 q3363) (by decide +kernel) (t := 10) h1 rfl rfl (by decide) rfl (Nat.le_of_ble_eq_true rfl) dX12_again_3 ?_
  refine r_istore_n hκ (L2 := [(3, (0, v1)), (0, (2, a0)), (1, (0, a1)), (2, (0, a2))]) (by decide) rfl rfl dX12_again_6 ?_
  refine r_iload_n hκ 0 rfl rfl dX12_again_7 ?_
  refine r_if_ne hκ (tgt := 14) (by decide) dX12_again_8 (fun h3 => ?_) (fun h3 => ?_)
  · replace h := (bte_i h).2 h3
    refine r_aload_n hκ 1 rfl rfl dX12_again_14 ?_
    refine r_iconst hκ dX12_again_15 ?_
    refine r_iload_n hκ 3 rfl rfl dX12_again_16 ?_
    refine r_iconst hκ dX12_again_17 ?_
    refine r_icmp_ne hκ (tgt := 26) (by decide) dX12_again_18 (fun h4 => ?_) (fun h4 => ?_)
    · replace h := (bte_i h).2 h4
      refine r_bipush hκ (by decide) dX12_again_26 ?_
      exact r_sub [1, 2, 3, 0] rfl (w_X12_again_r hκ hi hf 0 _ _ _ _ _ _ _ _ h)
    · replace h := (bte_i h).1 h4
      refine r_bipush hκ (by decide) dX12_again_21 ?_
      refine r_goto hκ (tgt := 28) (by decide) dX12_again_23 ?_
      exact r_sub [1, 2, 3, 0] rfl (w_X12_again_r hκ hi hf 0 _ _ _ _ _ _ _ _ h)
  · replace h := (bte_i h).1 h3
    refine r_bipush hκ (by decide) dX12_again_11 ?_
    exact r_iretH hκ hf h (nar_int _) dX12_again_13
/-- EditsMeetModel.undo(I)I -/
def F_X12_undo (s0 : bS) (a0 a1 : Int) : Option (bS × Int) :=
  bcl (F_X12_isClient s0 a1) fun s1 v1 =>
  bte (i32 v1 = 0)
  (bck (bg s1 0 a0 0 = 11) <|
  bcl (F_X12_refused s1 a0 (-2)) fun s5 v5 =>
  some (s5, v5))
  (bck (bg s1 0 a0 0 = 11) <|
  bcl (F_X12_again s1 a0 a1 4) fun s2 v2 =>
  bte (0 ≤ i32 v2)
  (bck (bg s2 0 a0 0 = 11) <|
  bcl (F_X12_st s2 a0 a1 4) fun s3 v3 =>
  some (s3, v3))
  (bck (bg s2 0 a0 0 = 11) <|
  bcl (F_X12_refused s2 a0 v2) fun s4 v4 =>
  some (s4, v4)))
set_option maxHeartbeats 4000000 in
set_option maxRecDepth 100000 in
theorem w_X12_undo (Γ0 : bG) (l0 : Launch) {s0 st' : bS} {v a0 a1 : Int} (h : F_X12_undo s0 a0 a1 = some (st', v)) : bCt Γ0 l0 yX12_undo cX12_undo 3 (some .int) 6 140 [(2, a0), (0, a1)] s0 st' (some (0, v)) := by
  refine b_ent (own := RX12) (by decide +kernel) rfl (Nat.le_of_ble_eq_true rfl) (L := [(0, (2, a0)), (1, (0, a1))]) rfl ?_
  intro κ hκ hi hf
  unfold F_X12_undo at h
  refine r_iload_n hκ 1 rfl rfl dX12_undo_0 ?_
  obtain ⟨s1, v1, h1, h⟩ := bcl_i h
  refine r_callS hκ (n' := 1) (index := 272) (w_X12_isClient Γ0 l0 h1) (lw_S q3324 q3325 q146 q3326) (by decide +kernel) rfl (by decide) rfl (Nat.le_of_ble_eq_true rfl) dX12_undo_1 ?_
  refine r_if_ne hκ (tgt := 14) (by decide) dX12_undo_4 (fun h2 => ?_) (fun h2 => ?_)
  · replace h := (bte_i h).2 h2
    refine r_aload_n hκ 0 rfl rfl dX12_undo_14 ?_
    refine r_iload_n hκ 1 rfl rfl dX12_undo_15 ?_
    refine r_iconst hκ dX12_undo_16 ?_
    obtain ⟨h3, h⟩ := bck_i h
    obtain ⟨s2, v2, h4, h⟩ := bcl_i h
    refine r_callV hκ (n' := 2) (index := 312) (w_X12_again Γ0 l0 h4) (lw_V q3442 q3444 qs116 q146 q3445) (by decide +kernel) (t := 10) h3 rfl rfl (by decide) rfl (Nat.le_of_ble_eq_true rfl) dX12_undo_17 ?_
    refine r_istore_n hκ (L2 := [(2, (0, v2)), (0, (2, a0)), (1, (0, a1))]) (by decide) rfl rfl dX12_undo_20 ?_
    refine r_iload_n hκ 0 rfl rfl dX12_undo_21 ?_
    refine r_if_ge hκ (tgt := 33) (by decide) dX12_undo_22 (fun h5 => ?_) (fun h5 => ?_)
    · replace h := (bte_i h).1 h5
      refine r_aload_n hκ 1 rfl rfl dX12_undo_33 ?_
      refine r_iload_n hκ 2 rfl rfl dX12_undo_34 ?_
      refine r_iconst hκ dX12_undo_35 ?_
      obtain ⟨h6, h⟩ := bck_i h
      obtain ⟨s3, v3, h7, h⟩ := bcl_i h
      refine r_callV hκ (n' := 2) (index := 135) (w_X12_st Γ0 l0 h7) (lw_V q3360 q3362 qs103 q146 q3363) (by decide +kernel) (t := 10) h6 rfl rfl (by decide) rfl (Nat.le_of_ble_eq_true rfl) dX12_undo_36 ?_
      exact r_iretH hκ hf h (nar_int _) dX12_undo_39
    · replace h := (bte_i h).2 h5
      refine r_aload_n hκ 1 rfl rfl dX12_undo_25 ?_
      refine r_iload_n hκ 0 rfl rfl dX12_undo_26 ?_
      obtain ⟨h8, h⟩ := bck_i h
      obtain ⟨s4, v4, h9, h⟩ := bcl_i h
      refine r_callV hκ (n' := 1) (index := 183) (w_X12_refused Γ0 l0 h9) (lw_V q3159 q3161 qs73 q146 q3162) (by decide +kernel) (t := 10) h8 rfl rfl (by decide) rfl (Nat.le_of_ble_eq_true rfl) dX12_undo_27 ?_
      refine r_goto hκ (tgt := 39) (by decide) dX12_undo_30 ?_
      exact r_iretH hκ hf h (nar_int _) dX12_undo_39
  · replace h := (bte_i h).1 h2
    refine r_aload_n hκ 0 rfl rfl dX12_undo_7 ?_
    refine r_bipush hκ (by decide) dX12_undo_8 ?_
    obtain ⟨h10, h⟩ := bck_i h
    obtain ⟨s5, v5, h11, h⟩ := bcl_i h
    refine r_callV hκ (n' := 1) (index := 183) (w_X12_refused Γ0 l0 h11) (lw_V q3159 q3161 qs73 q146 q3162) (by decide +kernel) (t := 10) h10 rfl rfl (by decide) rfl (Nat.le_of_ble_eq_true rfl) dX12_undo_10 ?_
    exact r_iretH hκ hf h (nar_int _) dX12_undo_13
/-- EditsMeetModel.redo(I)I -/
def F_X12_redo (s0 : bS) (a0 a1 : Int) : Option (bS × Int) :=
  bcl (F_X12_isClient s0 a1) fun s1 v1 =>
  bte (i32 v1 = 0)
  (bck (bg s1 0 a0 0 = 11) <|
  bcl (F_X12_refused s1 a0 (-2)) fun s5 v5 =>
  some (s5, v5))
  (bck (bg s1 0 a0 0 = 11) <|
  bcl (F_X12_again s1 a0 a1 5) fun s2 v2 =>
  bte (0 ≤ i32 v2)
  (bck (bg s2 0 a0 0 = 11) <|
  bcl (F_X12_st s2 a0 a1 5) fun s3 v3 =>
  some (s3, v3))
  (bck (bg s2 0 a0 0 = 11) <|
  bcl (F_X12_refused s2 a0 v2) fun s4 v4 =>
  some (s4, v4)))
set_option maxHeartbeats 4000000 in
set_option maxRecDepth 100000 in
theorem w_X12_redo (Γ0 : bG) (l0 : Launch) {s0 st' : bS} {v a0 a1 : Int} (h : F_X12_redo s0 a0 a1 = some (st', v)) : bCt Γ0 l0 yX12_redo cX12_redo 3 (some .int) 6 140 [(2, a0), (0, a1)] s0 st' (some (0, v)) := by
  refine b_ent (own := RX12) (by decide +kernel) rfl (Nat.le_of_ble_eq_true rfl) (L := [(0, (2, a0)), (1, (0, a1))]) rfl ?_
  intro κ hκ hi hf
  unfold F_X12_redo at h
  refine r_iload_n hκ 1 rfl rfl dX12_redo_0 ?_
  obtain ⟨s1, v1, h1, h⟩ := bcl_i h
  refine r_callS hκ (n' := 1) (index := 272) (w_X12_isClient Γ0 l0 h1) (lw_S q3324 q3325 q146 q3326) (by decide +kernel) rfl (by decide) rfl (Nat.le_of_ble_eq_true rfl) dX12_redo_1 ?_
  refine r_if_ne hκ (tgt := 14) (by decide) dX12_redo_4 (fun h2 => ?_) (fun h2 => ?_)
  · replace h := (bte_i h).2 h2
    refine r_aload_n hκ 0 rfl rfl dX12_redo_14 ?_
    refine r_iload_n hκ 1 rfl rfl dX12_redo_15 ?_
    refine r_iconst hκ dX12_redo_16 ?_
    obtain ⟨h3, h⟩ := bck_i h
    obtain ⟨s2, v2, h4, h⟩ := bcl_i h
    refine r_callV hκ (n' := 2) (index := 312) (w_X12_again Γ0 l0 h4) (lw_V q3442 q3444 qs116 q146 q3445) (by decide +kernel) (t := 10) h3 rfl rfl (by decide) rfl (Nat.le_of_ble_eq_true rfl) dX12_redo_17 ?_
    refine r_istore_n hκ (L2 := [(2, (0, v2)), (0, (2, a0)), (1, (0, a1))]) (by decide) rfl rfl dX12_redo_20 ?_
    refine r_iload_n hκ 0 rfl rfl dX12_redo_21 ?_
    refine r_if_ge hκ (tgt := 33) (by decide) dX12_redo_22 (fun h5 => ?_) (fun h5 => ?_)
    · replace h := (bte_i h).1 h5
      refine r_aload_n hκ 1 rfl rfl dX12_redo_33 ?_
      refine r_iload_n hκ 2 rfl rfl dX12_redo_34 ?_
      refine r_iconst hκ dX12_redo_35 ?_
      obtain ⟨h6, h⟩ := bck_i h
      obtain ⟨s3, v3, h7, h⟩ := bcl_i h
      refine r_callV hκ (n' := 2) (index := 135) (w_X12_st Γ0 l0 h7) (lw_V q3360 q3362 qs103 q146 q3363) (by decide +kernel) (t := 10) h6 rfl rfl (by decide) rfl (Nat.le_of_ble_eq_true rfl) dX12_redo_36 ?_
      exact r_iretH hκ hf h (nar_int _) dX12_redo_39
    · replace h := (bte_i h).2 h5
      refine r_aload_n hκ 1 rfl rfl dX12_redo_25 ?_
      refine r_iload_n hκ 0 rfl rfl dX12_redo_26 ?_
      obtain ⟨h8, h⟩ := bck_i h
      obtain ⟨s4, v4, h9, h⟩ := bcl_i h
      refine r_callV hκ (n' := 1) (index := 183) (w_X12_refused Γ0 l0 h9) (lw_V q3159 q3161 qs73 q146 q3162) (by decide +kernel) (t := 10) h8 rfl rfl (by decide) rfl (Nat.le_of_ble_eq_true rfl) dX12_redo_27 ?_
      refine r_goto hκ (tgt := 39) (by decide) dX12_redo_30 ?_
      exact r_iretH hκ hf h (nar_int _) dX12_redo_39
  · replace h := (bte_i h).1 h2
    refine r_aload_n hκ 0 rfl rfl dX12_redo_7 ?_
    refine r_bipush hκ (by decide) dX12_redo_8 ?_
    obtain ⟨h10, h⟩ := bck_i h
    obtain ⟨s5, v5, h11, h⟩ := bcl_i h
    refine r_callV hκ (n' := 1) (index := 183) (w_X12_refused Γ0 l0 h11) (lw_V q3159 q3161 qs73 q146 q3162) (by decide +kernel) (t := 10) h10 rfl rfl (by decide) rfl (Nat.le_of_ble_eq_true rfl) dX12_redo_10 ?_
    exact r_iretH hκ hf h (nar_int _) dX12_redo_13
/-- EditsMeetModel.point(III)I -/
def F_X12_point_r (b : Nat) (x0 : Int) (s0 : bS) : Option (bS × Int) :=
  match b with
  | 0 =>
    bck (bg s0 0 x0 0 = 11) <|
    bcl (F_X12_refused s0 x0 (-2)) fun s6 v4 =>
    some (s6, v4)
  | _ => none
def F_X12_point (s0 : bS) (a0 a1 a2 a3 : Int) : Option (bS × Int) :=
  bcl (F_X12_isClient s0 a1) fun s1 v1 =>
  bte (i32 v1 = 0)
  (F_X12_point_r 0 a0 s1)
  (bck (bg s1 0 a0 0 = 11) <|
  bck (bg s1 0 (bg s1 230 a0 0) 0 = 1003 ∧ (0 : Int) ≤ a1 ∧ a1 < bg s1 4 (bg s1 230 a0 0) 0) <|
  bcl (F_X12_in s1 (b_i2l a2) 0 (b_i2l (bg s1 20 (bg s1 230 a0 0) a1))) fun s2 v2 =>
  bte (i32 v2 = 0)
  (F_X12_point_r 0 a0 s2)
  (bck (bg s2 0 a0 0 = 11) <|
  bck (bg s2 0 (bg s2 230 a0 0) 0 = 1003 ∧ (0 : Int) ≤ a1 ∧ a1 < bg s2 4 (bg s2 230 a0 0) 0) <|
  bcl (F_X12_in s2 (b_i2l a3) 0 (b_i2l (bg s2 20 (bg s2 230 a0 0) a1))) fun s3 v3 =>
  bte (i32 v3 = 0)
  (F_X12_point_r 0 a0 s3)
  (bck (bg s3 0 a0 0 = 11) <|
  bck (bg s3 0 (bg s3 234 a0 0) 0 = 1003 ∧ (0 : Int) ≤ ((8 * a1) + 6) ∧ ((8 * a1) + 6) < bg s3 4 (bg s3 234 a0 0) 0) <|
  bst (bw s3 20 (bg s3 234 a0 0) ((8 * a1) + 6) a2) fun s4 =>
  bck (bg s4 0 a0 0 = 11) <|
  bck (bg s4 0 (bg s4 234 a0 0) 0 = 1003 ∧ (0 : Int) ≤ ((8 * a1) + 7) ∧ ((8 * a1) + 7) < bg s4 4 (bg s4 234 a0 0) 0) <|
  bst (bw s4 20 (bg s4 234 a0 0) ((8 * a1) + 7) a3) fun s5 =>
  some (s5, 1))))
set_option maxHeartbeats 4000000 in
set_option maxRecDepth 100000 in
set_option synthInstance.maxHeartbeats 4000000 in
theorem w_X12_point_r {Γ0 : bG} {l0 : Launch} {κ : bK} {st' : bS} {v : Int} (hκ : bOk κ Γ0 l0 cX12_point RX12 4 2 45) (hi : bIn κ yX12_point) (hf : bFin κ (some .int) st' (some (0, v))) (b : Nat) (x0 : Int) (s0 : bS) (h : F_X12_point_r b x0 s0 = some (st', v)) : match (generalizing := false) b with | 0 => bJ κ s0 39 [(0, (2, x0))] [] | _ => True := by
  unfold F_X12_point_r at h
  match b, h with
  | 0, h =>
      refine r_aload_n hκ 0 rfl rfl dX12_point_39 ?_
      refine r_bipush hκ (by decide) dX12_point_40 ?_
      obtain ⟨h19, h⟩ := bck_i h
      obtain ⟨s6, v4, h20, h⟩ := bcl_i h
      refine r_callV hκ (n' := 1) (index := 183) (w_X12_refused Γ0 l0 h20) (lw_V q3159 q3161 qs73 q146 q3162) (by decide +kernel) (t := 10) h19 rfl rfl (by decide) rfl (Nat.le_of_ble_eq_true rfl) dX12_point_42 ?_
      exact r_iretH hκ hf h (nar_int _) dX12_point_45
  | b + 1, h => trivial
set_option maxHeartbeats 4000000 in
set_option maxRecDepth 100000 in
theorem w_X12_point (Γ0 : bG) (l0 : Launch) {s0 st' : bS} {v a0 a1 a2 a3 : Int} (h : F_X12_point s0 a0 a1 a2 a3 = some (st', v)) : bCt Γ0 l0 yX12_point cX12_point 4 (some .int) 2 45 [(2, a0), (0, a1), (0, a2), (0, a3)] s0 st' (some (0, v)) := by
  refine b_ent (own := RX12) (by decide +kernel) rfl (Nat.le_of_ble_eq_true rfl) (L := [(0, (2, a0)), (1, (0, a1)), (2, (0, a2)), (3, (0, a3))]) rfl ?_
  intro κ hκ hi hf
  unfold F_X12_point at h
  refine r_iload_n hκ 1 rfl rfl dX12_point_0 ?_
  obtain ⟨s1, v1, h1, h⟩ := bcl_i h
  refine r_callS hκ (n' := 1) (index := 272) (w_X12_isClient Γ0 l0 h1) (lw_S q3324 q3325 q146 q3326) (by decide +kernel) rfl (by decide) rfl (Nat.le_of_ble_eq_true rfl) dX12_point_1 ?_
  refine r_if_eq hκ (tgt := 39) (by decide) dX12_point_4 (fun h2 => ?_) (fun h2 => ?_)
  · replace h := (bte_i h).1 h2
    exact r_sub [0] rfl (w_X12_point_r hκ hi hf 0 _ _ h)
  · replace h := (bte_i h).2 h2
    refine r_iload_n hκ 2 rfl rfl dX12_point_7 ?_
    refine r_i2l hκ dX12_point_8 ?_
    refine r_lconst hκ (x := 0) (by decide) dX12_point_9 ?_
    refine r_aload_n hκ 0 rfl rfl dX12_point_10 ?_
    obtain ⟨h3, h⟩ := bck_i h
    refine r_get hκ (t := 10) (k := 4) (r := 230) h3 rfl in_X12 (by decide) rfl q3055 (Or.inl rfl) dX12_point_11 ?_
    refine r_iload_n hκ 1 rfl rfl dX12_point_14 ?_
    obtain ⟨⟨h4, h5⟩, h⟩ := bck_i h
    refine r_iald hκ h4 h5 dX12_point_15 ?_
    refine r_i2l hκ dX12_point_16 ?_
    obtain ⟨s2, v2, h6, h⟩ := bcl_i h
    refine r_callS hκ (n' := 3) (index := 175) (w_X12_in Γ0 l0 h6) (lw_S q3156 q3157 q146 q3158) (by decide +kernel) rfl (by decide) rfl (Nat.le_of_ble_eq_true rfl) dX12_point_17 ?_
    refine r_if_eq hκ (tgt := 39) (by decide) dX12_point_20 (fun h7 => ?_) (fun h7 => ?_)
    · replace h := (bte_i h).1 h7
      exact r_sub [0] rfl (w_X12_point_r hκ hi hf 0 _ _ h)
    · replace h := (bte_i h).2 h7
      refine r_iload_n hκ 3 rfl rfl dX12_point_23 ?_
      refine r_i2l hκ dX12_point_24 ?_
      refine r_lconst hκ (x := 0) (by decide) dX12_point_25 ?_
      refine r_aload_n hκ 0 rfl rfl dX12_point_26 ?_
      obtain ⟨h8, h⟩ := bck_i h
      refine r_get hκ (t := 10) (k := 4) (r := 230) h8 rfl in_X12 (by decide) rfl q3055 (Or.inl rfl) dX12_point_27 ?_
      refine r_iload_n hκ 1 rfl rfl dX12_point_30 ?_
      obtain ⟨⟨h9, h10⟩, h⟩ := bck_i h
      refine r_iald hκ h9 h10 dX12_point_31 ?_
      refine r_i2l hκ dX12_point_32 ?_
      obtain ⟨s3, v3, h11, h⟩ := bcl_i h
      refine r_callS hκ (n' := 3) (index := 175) (w_X12_in Γ0 l0 h11) (lw_S q3156 q3157 q146 q3158) (by decide +kernel) rfl (by decide) rfl (Nat.le_of_ble_eq_true rfl) dX12_point_33 ?_
      refine r_if_ne hκ (tgt := 46) (by decide) dX12_point_36 (fun h12 => ?_) (fun h12 => ?_)
      · replace h := (bte_i h).2 h12
        refine r_aload_n hκ 0 rfl rfl dX12_point_46 ?_
        obtain ⟨h13, h⟩ := bck_i h
        refine r_get hκ (t := 10) (k := 5) (r := 234) h13 rfl in_X12 (by decide) rfl q3056 (Or.inl rfl) dX12_point_47 ?_
        refine r_bipush hκ (by decide) dX12_point_50 ?_
        refine r_iload_n hκ 1 rfl rfl dX12_point_52 ?_
        refine r_imul hκ dX12_point_53 ?_
        refine r_bipush hκ (by decide) dX12_point_54 ?_
        refine r_iadd hκ dX12_point_56 ?_
        refine r_iload_n hκ 2 rfl rfl dX12_point_57 ?_
        obtain ⟨⟨h14, h15⟩, h⟩ := bck_i h
        refine r_iast hκ h14 h15 dX12_point_58 (fun s4 es4 => ?_)
        replace h := bst_i h s4 es4
        refine r_aload_n hκ 0 rfl rfl dX12_point_59 ?_
        obtain ⟨h16, h⟩ := bck_i h
        refine r_get hκ (t := 10) (k := 5) (r := 234) h16 rfl in_X12 (by decide) rfl q3056 (Or.inl rfl) dX12_point_60 ?_
        refine r_bipush hκ (by decide) dX12_point_63 ?_
        refine r_iload_n hκ 1 rfl rfl dX12_point_65 ?_
        refine r_imul hκ dX12_point_66 ?_
        refine r_bipush hκ (by decide) dX12_point_67 ?_
        refine r_iadd hκ dX12_point_69 ?_
        refine r_iload_n hκ 3 rfl rfl dX12_point_70 ?_
        obtain ⟨⟨h17, h18⟩, h⟩ := bck_i h
        refine r_iast hκ h17 h18 dX12_point_71 (fun s5 es5 => ?_)
        replace h := bst_i h s5 es5
        refine r_iconst hκ dX12_point_72 ?_
        exact r_iretH hκ hf h (nar_int _) dX12_point_73
      · replace h := (bte_i h).1 h12
        exact r_sub [0] rfl (w_X12_point_r hκ hi hf 0 _ _ h)
/-- EditsMeetModel.cursor(II)I -/
def F_X12_cursor_r (b : Nat) (x0 : Int) (s0 : bS) : Option (bS × Int) :=
  match b with
  | 0 =>
    bck (bg s0 0 x0 0 = 11) <|
    bcl (F_X12_refused s0 x0 (-2)) fun s4 v4 =>
    some (s4, v4)
  | _ => none
def F_X12_cursor (s0 : bS) (a0 a1 a2 : Int) : Option (bS × Int) :=
  bcl (F_X12_isClient s0 a1) fun s1 v1 =>
  bte (i32 v1 = 0)
  (F_X12_cursor_r 0 a0 s1)
  (bcl (F_X12_in s1 (b_i2l a2) 0 1) fun s2 v2 =>
  bte (i32 v2 = 0)
  (F_X12_cursor_r 0 a0 s2)
  (bck (bg s2 0 a0 0 = 11) <|
  bcl (F_X12_st s2 a0 a1 (6 + a2)) fun s3 v3 =>
  some (s3, v3)))
set_option maxHeartbeats 4000000 in
set_option maxRecDepth 100000 in
set_option synthInstance.maxHeartbeats 4000000 in
theorem w_X12_cursor_r {Γ0 : bG} {l0 : Launch} {κ : bK} {st' : bS} {v : Int} (hκ : bOk κ Γ0 l0 cX12_cursor RX12 3 2 45) (hi : bIn κ yX12_cursor) (hf : bFin κ (some .int) st' (some (0, v))) (b : Nat) (x0 : Int) (s0 : bS) (h : F_X12_cursor_r b x0 s0 = some (st', v)) : match (generalizing := false) b with | 0 => bJ κ s0 29 [(0, (2, x0))] [] | _ => True := by
  unfold F_X12_cursor_r at h
  match b, h with
  | 0, h =>
      refine r_aload_n hκ 0 rfl rfl dX12_cursor_29 ?_
      refine r_bipush hκ (by decide) dX12_cursor_30 ?_
      obtain ⟨h7, h⟩ := bck_i h
      obtain ⟨s4, v4, h8, h⟩ := bcl_i h
      refine r_callV hκ (n' := 1) (index := 183) (w_X12_refused Γ0 l0 h8) (lw_V q3159 q3161 qs73 q146 q3162) (by decide +kernel) (t := 10) h7 rfl rfl (by decide) rfl (Nat.le_of_ble_eq_true rfl) dX12_cursor_32 ?_
      exact r_iretH hκ hf h (nar_int _) dX12_cursor_35
  | b + 1, h => trivial
set_option maxHeartbeats 4000000 in
set_option maxRecDepth 100000 in
theorem w_X12_cursor (Γ0 : bG) (l0 : Launch) {s0 st' : bS} {v a0 a1 a2 : Int} (h : F_X12_cursor s0 a0 a1 a2 = some (st', v)) : bCt Γ0 l0 yX12_cursor cX12_cursor 3 (some .int) 2 45 [(2, a0), (0, a1), (0, a2)] s0 st' (some (0, v)) := by
  refine b_ent (own := RX12) (by decide +kernel) rfl (Nat.le_of_ble_eq_true rfl) (L := [(0, (2, a0)), (1, (0, a1)), (2, (0, a2))]) rfl ?_
  intro κ hκ hi hf
  unfold F_X12_cursor at h
  refine r_iload_n hκ 1 rfl rfl dX12_cursor_0 ?_
  obtain ⟨s1, v1, h1, h⟩ := bcl_i h
  refine r_callS hκ (n' := 1) (index := 272) (w_X12_isClient Γ0 l0 h1) (lw_S q3324 q3325 q146 q3326) (by decide +kernel) rfl (by decide) rfl (Nat.le_of_ble_eq_true rfl) dX12_cursor_1 ?_
  refine r_if_eq hκ (tgt := 29) (by decide) dX12_cursor_4 (fun h2 => ?_) (fun h2 => ?_)
  · replace h := (bte_i h).1 h2
    exact r_sub [0] rfl (w_X12_cursor_r hκ hi hf 0 _ _ h)
  · replace h := (bte_i h).2 h2
    refine r_iload_n hκ 2 rfl rfl dX12_cursor_7 ?_
    refine r_i2l hκ dX12_cursor_8 ?_
    refine r_lconst hκ (x := 0) (by decide) dX12_cursor_9 ?_
    refine r_lconst hκ (x := 1) (by decide) dX12_cursor_10 ?_
    obtain ⟨s2, v2, h3, h⟩ := bcl_i h
    refine r_callS hκ (n' := 3) (index := 175) (w_X12_in Γ0 l0 h3) (lw_S q3156 q3157 q146 q3158) (by decide +kernel) rfl (by decide) rfl (Nat.le_of_ble_eq_true rfl) dX12_cursor_11 ?_
    refine r_if_eq hκ (tgt := 29) (by decide) dX12_cursor_14 (fun h4 => ?_) (fun h4 => ?_)
    · replace h := (bte_i h).1 h4
      exact r_sub [0] rfl (w_X12_cursor_r hκ hi hf 0 _ _ h)
    · replace h := (bte_i h).2 h4
      refine r_aload_n hκ 0 rfl rfl dX12_cursor_17 ?_
      refine r_iload_n hκ 1 rfl rfl dX12_cursor_18 ?_
      refine r_bipush hκ (by decide) dX12_cursor_19 ?_
      refine r_iload_n hκ 2 rfl rfl dX12_cursor_21 ?_
      refine r_iadd hκ dX12_cursor_22 ?_
      obtain ⟨h5, h⟩ := bck_i h
      obtain ⟨s3, v3, h6, h⟩ := bcl_i h
      refine r_callV hκ (n' := 2) (index := 135) (w_X12_st Γ0 l0 h6) (lw_V q3360 q3362 qs103 q146 q3363) (by decide +kernel) (t := 10) h5 rfl rfl (by decide) rfl (Nat.le_of_ble_eq_true rfl) dX12_cursor_23 ?_
      refine r_goto hκ (tgt := 35) (by decide) dX12_cursor_26 ?_
      exact r_iretH hκ hf h (nar_int _) dX12_cursor_35
/-- EditsMeetModel.clientOf(II)I -/
def F_X12_clientOf_r (b : Nat) (x0 : Int) (s0 : bS) : Option (bS × Int) :=
  match b with
  | 0 =>
    bck (bg s0 0 x0 0 = 11) <|
    bcl (F_X12_refused s0 x0 (-2)) fun s11 v11 =>
    some (s11, v11)
  | _ => none
def F_X12_clientOf (s0 : bS) (a0 a1 a2 : Int) : Option (bS × Int) :=
  bcl (F_X12_isClient s0 a1) fun s1 v1 =>
  bte (i32 v1 = 0)
  (F_X12_clientOf_r 0 a0 s1)
  (bcl (F_X12_in s1 (b_i2l a2) 0 6) fun s2 v2 =>
  bte (i32 v2 = 0)
  (F_X12_clientOf_r 0 a0 s2)
  (bte (b_t a2 = 0) (bck (bg s2 0 a0 0 = 11) <|
  bcl (F_X12_st s2 a0 a1 0) fun s3 v3 =>
  some (s3, v3)) (bte (b_t a2 = 1) (bck (bg s2 0 a0 0 = 11) <|
  bcl (F_X12_st s2 a0 a1 1) fun s4 v4 =>
  bte (i32 v4 ≤ 0)
  (some (s4, 0))
  (bck (bg s4 0 a0 0 = 11) <|
  bcl (F_X12_parts s4 a0 (16 + a1)) fun s5 v5 =>
  some (s5, v5))) (bte (b_t a2 = 2) (bck (bg s2 0 a0 0 = 11) <|
  bcl (F_X12_st s2 a0 a1 1) fun s6 v6 =>
  bte (i32 v6 = i32 2)
  (some (s6, 1))
  (some (s6, 0))) (bte (b_t a2 = 3) (bck (bg s2 0 a0 0 = 11) <|
  bcl (F_X12_st s2 a0 a1 3) fun s7 v7 =>
  bte (i32 v7 ≤ 0)
  (some (s7, 0))
  (bck (bg s7 0 a0 0 = 11) <|
  bcl (F_X12_parts s7 a0 (20 + a1)) fun s8 v8 =>
  some (s8, v8))) (bte (b_t a2 = 4 ∨ b_t a2 = 5) (bck (bg s2 0 a0 0 = 11) <|
  bcl (F_X12_st s2 a0 a1 a2) fun s9 v9 =>
  some (s9, v9)) (bck (bg s2 0 a0 0 = 11) <|
  bck (bg s2 0 (bg s2 242 a0 0) 0 = 1003 ∧ (0 : Int) ≤ 0 ∧ 0 < bg s2 4 (bg s2 242 a0 0) 0) <|
  bck (bg s2 0 a0 0 = 11) <|
  bcl (F_X12_st s2 a0 a1 0) fun s10 v10 =>
  some (s10, ((bg s2 20 (bg s2 242 a0 0) 0) - v10)))))))))
set_option maxHeartbeats 4000000 in
set_option maxRecDepth 100000 in
set_option synthInstance.maxHeartbeats 4000000 in
theorem w_X12_clientOf_r {Γ0 : bG} {l0 : Launch} {κ : bK} {st' : bS} {v : Int} (hκ : bOk κ Γ0 l0 cX12_clientOf RX12 3 3 64) (hi : bIn κ yX12_clientOf) (hf : bFin κ (some .int) st' (some (0, v))) (b : Nat) (x0 : Int) (s0 : bS) (h : F_X12_clientOf_r b x0 s0 = some (st', v)) : match (generalizing := false) b with | 0 => bJ κ s0 19 [(0, (2, x0))] [] | _ => True := by
  unfold F_X12_clientOf_r at h
  match b, h with
  | 0, h =>
      refine r_aload_n hκ 0 rfl rfl dX12_clientOf_19 ?_
      refine r_bipush hκ (by decide) dX12_clientOf_20 ?_
      obtain ⟨h32, h⟩ := bck_i h
      obtain ⟨s11, v11, h33, h⟩ := bcl_i h
      refine r_callV hκ (n' := 1) (index := 183) (w_X12_refused Γ0 l0 h33) (lw_V q3159 q3161 qs73 q146 q3162) (by decide +kernel) (t := 10) h32 rfl rfl (by decide) rfl (Nat.le_of_ble_eq_true rfl) dX12_clientOf_22 ?_
      exact r_iretH hκ hf h (nar_int _) dX12_clientOf_25
  | b + 1, h => trivial
set_option maxHeartbeats 4000000 in
set_option maxRecDepth 100000 in
theorem w_X12_clientOf (Γ0 : bG) (l0 : Launch) {s0 st' : bS} {v a0 a1 a2 : Int} (h : F_X12_clientOf s0 a0 a1 a2 = some (st', v)) : bCt Γ0 l0 yX12_clientOf cX12_clientOf 3 (some .int) 3 64 [(2, a0), (0, a1), (0, a2)] s0 st' (some (0, v)) := by
  refine b_ent (own := RX12) (by decide +kernel) rfl (Nat.le_of_ble_eq_true rfl) (L := [(0, (2, a0)), (1, (0, a1)), (2, (0, a2))]) rfl ?_
  intro κ hκ hi hf
  unfold F_X12_clientOf at h
  refine r_iload_n hκ 1 rfl rfl dX12_clientOf_0 ?_
  obtain ⟨s1, v1, h1, h⟩ := bcl_i h
  refine r_callS hκ (n' := 1) (index := 272) (w_X12_isClient Γ0 l0 h1) (lw_S q3324 q3325 q146 q3326) (by decide +kernel) rfl (by decide) rfl (Nat.le_of_ble_eq_true rfl) dX12_clientOf_1 ?_
  refine r_if_eq hκ (tgt := 19) (by decide) dX12_clientOf_4 (fun h2 => ?_) (fun h2 => ?_)
  · replace h := (bte_i h).1 h2
    exact r_sub [0] rfl (w_X12_clientOf_r hκ hi hf 0 _ _ h)
  · replace h := (bte_i h).2 h2
    refine r_iload_n hκ 2 rfl rfl dX12_clientOf_7 ?_
    refine r_i2l hκ dX12_clientOf_8 ?_
    refine r_lconst hκ (x := 0) (by decide) dX12_clientOf_9 ?_
    refine r_ldcl hκ (x := 6) q3462 (by decide) dX12_clientOf_10 ?_
    obtain ⟨s2, v2, h3, h⟩ := bcl_i h
    refine r_callS hκ (n' := 3) (index := 175) (w_X12_in Γ0 l0 h3) (lw_S q3156 q3157 q146 q3158) (by decide +kernel) rfl (by decide) rfl (Nat.le_of_ble_eq_true rfl) dX12_clientOf_13 ?_
    refine r_if_ne hκ (tgt := 26) (by decide) dX12_clientOf_16 (fun h4 => ?_) (fun h4 => ?_)
    · replace h := (bte_i h).2 h4
      refine r_iload_n hκ 2 rfl rfl dX12_clientOf_26 ?_
      by_cases h5 : b_t a2 = 0
      · replace h := (bte_i h).1 h5
        refine r_tswIn hκ (kk := 0) (tgt := 64) h5 (by decide) (by decide) rfl (by decide) dX12_clientOf_27 ?_
        refine r_aload_n hκ 0 rfl rfl dX12_clientOf_64 ?_
        refine r_iload_n hκ 1 rfl rfl dX12_clientOf_65 ?_
        refine r_iconst hκ dX12_clientOf_66 ?_
        obtain ⟨h6, h⟩ := bck_i h
        obtain ⟨s3, v3, h7, h⟩ := bcl_i h
        refine r_callV hκ (n' := 2) (index := 135) (w_X12_st Γ0 l0 h7) (lw_V q3360 q3362 qs103 q146 q3363) (by decide +kernel) (t := 10) h6 rfl rfl (by decide) rfl (Nat.le_of_ble_eq_true rfl) dX12_clientOf_67 ?_
        exact r_iretH hκ hf h (nar_int _) dX12_clientOf_70
      replace h := (bte_i h).2 h5
      by_cases h8 : b_t a2 = 1
      · replace h := (bte_i h).1 h8
        refine r_tswIn hκ (kk := 1) (tgt := 71) h8 (by decide) (by decide) rfl (by decide) dX12_clientOf_27 ?_
        refine r_aload_n hκ 0 rfl rfl dX12_clientOf_71 ?_
        refine r_iload_n hκ 1 rfl rfl dX12_clientOf_72 ?_
        refine r_iconst hκ dX12_clientOf_73 ?_
        obtain ⟨h9, h⟩ := bck_i h
        obtain ⟨s4, v4, h10, h⟩ := bcl_i h
        refine r_callV hκ (n' := 2) (index := 135) (w_X12_st Γ0 l0 h10) (lw_V q3360 q3362 qs103 q146 q3363) (by decide +kernel) (t := 10) h9 rfl rfl (by decide) rfl (Nat.le_of_ble_eq_true rfl) dX12_clientOf_74 ?_
        refine r_if_le hκ (tgt := 91) (by decide) dX12_clientOf_77 (fun h11 => ?_) (fun h11 => ?_)
        · replace h := (bte_i h).1 h11
          refine r_iconst hκ dX12_clientOf_91 ?_
          exact r_iretH hκ hf h (nar_int _) dX12_clientOf_92
        · replace h := (bte_i h).2 h11
          refine r_aload_n hκ 0 rfl rfl dX12_clientOf_80 ?_
          refine r_bipush hκ (by decide) dX12_clientOf_81 ?_
          refine r_iload_n hκ 1 rfl rfl dX12_clientOf_83 ?_
          refine r_iadd hκ dX12_clientOf_84 ?_
          obtain ⟨h12, h⟩ := bck_i h
          obtain ⟨s5, v5, h13, h⟩ := bcl_i h
          refine r_callV hκ (n' := 1) (index := 221) (w_X12_parts Γ0 l0 h13) (lw_V q3218 q3220 qs81 q146 q3221) (by decide +kernel) (t := 10) h12 rfl rfl (by decide) rfl (Nat.le_of_ble_eq_true rfl) dX12_clientOf_85 ?_
          refine r_goto hκ (tgt := 92) (by decide) dX12_clientOf_88 ?_
          exact r_iretH hκ hf h (nar_int _) dX12_clientOf_92
      replace h := (bte_i h).2 h8
      by_cases h14 : b_t a2 = 2
      · replace h := (bte_i h).1 h14
        refine r_tswIn hκ (kk := 2) (tgt := 93) h14 (by decide) (by decide) rfl (by decide) dX12_clientOf_27 ?_
        refine r_aload_n hκ 0 rfl rfl dX12_clientOf_93 ?_
        refine r_iload_n hκ 1 rfl rfl dX12_clientOf_94 ?_
        refine r_iconst hκ dX12_clientOf_95 ?_
        obtain ⟨h15, h⟩ := bck_i h
        obtain ⟨s6, v6, h16, h⟩ := bcl_i h
        refine r_callV hκ (n' := 2) (index := 135) (w_X12_st Γ0 l0 h16) (lw_V q3360 q3362 qs103 q146 q3363) (by decide +kernel) (t := 10) h15 rfl rfl (by decide) rfl (Nat.le_of_ble_eq_true rfl) dX12_clientOf_96 ?_
        refine r_iconst hκ dX12_clientOf_99 ?_
        refine r_icmp_ne hκ (tgt := 107) (by decide) dX12_clientOf_100 (fun h17 => ?_) (fun h17 => ?_)
        · replace h := (bte_i h).2 h17
          refine r_iconst hκ dX12_clientOf_107 ?_
          exact r_iretH hκ hf h (nar_int _) dX12_clientOf_108
        · replace h := (bte_i h).1 h17
          refine r_iconst hκ dX12_clientOf_103 ?_
          refine r_goto hκ (tgt := 108) (by decide) dX12_clientOf_104 ?_
          exact r_iretH hκ hf h (nar_int _) dX12_clientOf_108
      replace h := (bte_i h).2 h14
      by_cases h18 : b_t a2 = 3
      · replace h := (bte_i h).1 h18
        refine r_tswIn hκ (kk := 3) (tgt := 109) h18 (by decide) (by decide) rfl (by decide) dX12_clientOf_27 ?_
        refine r_aload_n hκ 0 rfl rfl dX12_clientOf_109 ?_
        refine r_iload_n hκ 1 rfl rfl dX12_clientOf_110 ?_
        refine r_iconst hκ dX12_clientOf_111 ?_
        obtain ⟨h19, h⟩ := bck_i h
        obtain ⟨s7, v7, h20, h⟩ := bcl_i h
        refine r_callV hκ (n' := 2) (index := 135) (w_X12_st Γ0 l0 h20) (lw_V q3360 q3362 qs103 q146 q3363) (by decide +kernel) (t := 10) h19 rfl rfl (by decide) rfl (Nat.le_of_ble_eq_true rfl) dX12_clientOf_112 ?_
        refine r_if_le hκ (tgt := 129) (by decide) dX12_clientOf_115 (fun h21 => ?_) (fun h21 => ?_)
        · replace h := (bte_i h).1 h21
          refine r_iconst hκ dX12_clientOf_129 ?_
          exact r_iretH hκ hf h (nar_int _) dX12_clientOf_130
        · replace h := (bte_i h).2 h21
          refine r_aload_n hκ 0 rfl rfl dX12_clientOf_118 ?_
          refine r_bipush hκ (by decide) dX12_clientOf_119 ?_
          refine r_iload_n hκ 1 rfl rfl dX12_clientOf_121 ?_
          refine r_iadd hκ dX12_clientOf_122 ?_
          obtain ⟨h22, h⟩ := bck_i h
          obtain ⟨s8, v8, h23, h⟩ := bcl_i h
          refine r_callV hκ (n' := 1) (index := 221) (w_X12_parts Γ0 l0 h23) (lw_V q3218 q3220 qs81 q146 q3221) (by decide +kernel) (t := 10) h22 rfl rfl (by decide) rfl (Nat.le_of_ble_eq_true rfl) dX12_clientOf_123 ?_
          refine r_goto hκ (tgt := 130) (by decide) dX12_clientOf_126 ?_
          exact r_iretH hκ hf h (nar_int _) dX12_clientOf_130
      replace h := (bte_i h).2 h18
      by_cases h24 : b_t a2 = 4 ∨ b_t a2 = 5
      · replace h := (bte_i h).1 h24
        refine r_seq (A := bJ κ s2 131 [(0, (2, a0)), (1, (0, a1)), (2, (0, a2))] []) ?_ (fun k0 => Or.elim h24 (fun h24 => r_tswIn hκ (kk := 4) (tgt := 131) h24 (by decide) (by decide) rfl (by decide) dX12_clientOf_27 k0) (fun h24 => r_tswIn hκ (kk := 5) (tgt := 131) h24 (by decide) (by decide) rfl (by decide) dX12_clientOf_27 k0))
        refine r_aload_n hκ 0 rfl rfl dX12_clientOf_131 ?_
        refine r_iload_n hκ 1 rfl rfl dX12_clientOf_132 ?_
        refine r_iload_n hκ 2 rfl rfl dX12_clientOf_133 ?_
        obtain ⟨h25, h⟩ := bck_i h
        obtain ⟨s9, v9, h26, h⟩ := bcl_i h
        refine r_callV hκ (n' := 2) (index := 135) (w_X12_st Γ0 l0 h26) (lw_V q3360 q3362 qs103 q146 q3363) (by decide +kernel) (t := 10) h25 rfl rfl (by decide) rfl (Nat.le_of_ble_eq_true rfl) dX12_clientOf_134 ?_
        exact r_iretH hκ hf h (nar_int _) dX12_clientOf_137
      replace h := (bte_i h).2 h24
      refine r_tswOut hκ (tgt := 138) (by omega) (by decide) dX12_clientOf_27 ?_
      refine r_aload_n hκ 0 rfl rfl dX12_clientOf_138 ?_
      obtain ⟨h27, h⟩ := bck_i h
      refine r_get hκ (t := 10) (k := 7) (r := 242) h27 rfl in_X12 (by decide) rfl q3058 (Or.inl rfl) dX12_clientOf_139 ?_
      refine r_iconst hκ dX12_clientOf_142 ?_
      obtain ⟨⟨h28, h29⟩, h⟩ := bck_i h
      refine r_iald hκ h28 h29 dX12_clientOf_143 ?_
      refine r_aload_n hκ 0 rfl rfl dX12_clientOf_144 ?_
      refine r_iload_n hκ 1 rfl rfl dX12_clientOf_145 ?_
      refine r_iconst hκ dX12_clientOf_146 ?_
      obtain ⟨h30, h⟩ := bck_i h
      obtain ⟨s10, v10, h31, h⟩ := bcl_i h
      refine r_callV hκ (n' := 2) (index := 135) (w_X12_st Γ0 l0 h31) (lw_V q3360 q3362 qs103 q146 q3363) (by decide +kernel) (t := 10) h30 rfl rfl (by decide) rfl (Nat.le_of_ble_eq_true rfl) dX12_clientOf_147 ?_
      refine r_isub hκ dX12_clientOf_150 ?_
      exact r_iretH hκ hf h (nar_int _) dX12_clientOf_151
    · replace h := (bte_i h).1 h4
      exact r_sub [0] rfl (w_X12_clientOf_r hκ hi hf 0 _ _ h)
/-- EditsMeetModel.takes(III)I -/
def F_X12_takes_r (b : Nat) (x0 x1 x2 x3 x4 : Int) (s0 : bS) : Option (bS × Int) :=
  match b with
  | 0 =>
    bck (bg s0 0 x0 0 = 11) <|
    bcl (F_X12_refused s0 x0 (-2)) fun s7 v7 =>
    some (s7, v7)
  | 1 =>
    bte (i32 x4 = 0)
    (bck (bg s0 0 x0 0 = 11) <|
    bcl (F_X12_refused s0 x0 (-5)) fun s8 v8 =>
    some (s8, v8))
    (bte (i32 x3 = 0)
    (F_X12_takes_r 3 x0 x1 (16 + x2) 0 0 s0)
    (bte (i32 x3 = i32 1)
    (F_X12_takes_r 3 x0 x1 (20 + x2) 0 0 s0)
    (bte (i32 x3 = i32 2)
    (F_X12_takes_r 2 x0 x1 x2 x4 24 s0)
    (F_X12_takes_r 2 x0 x1 x2 x4 104 s0))))
  | 2 =>
    F_X12_takes_r 3 x0 x1 (((x4 + (20 * x2)) + x3) - 1) 0 0 s0
  | 3 =>
    bck (bg s0 0 x0 0 = 11) <|
    bcl (F_X12_takesRow s0 x0 0 x2) fun s9 v9 =>
    bck (bg s9 0 x0 0 = 11) <|
    bcl (F_X12_comes s9 x0 x1 0) fun s10 v10 =>
    some (s10, v10)
  | _ => none
partial_fixpoint
def F_X12_takes (s0 : bS) (a0 a1 a2 a3 : Int) : Option (bS × Int) :=
  bcl (F_X12_isEdit s0 a1) fun s1 v1 =>
  bte (i32 v1 = 0)
  (F_X12_takes_r 0 a0 0 0 0 0 s1)
  (bcl (F_X12_isClient s1 a2) fun s2 v2 =>
  bte (i32 v2 = 0)
  (F_X12_takes_r 0 a0 0 0 0 0 s2)
  (bcl (F_X12_in s2 (b_i2l a3) 0 3) fun s3 v3 =>
  bte (i32 v3 = 0)
  (F_X12_takes_r 0 a0 0 0 0 0 s3)
  (bte (i32 a3 = 0)
  (bck (bg s3 0 a0 0 = 11) <|
  bcl (F_X12_st s3 a0 a2 1) fun s6 v6 =>
  F_X12_takes_r 1 a0 a1 a2 a3 v6 s6)
  (bte (i32 a3 = i32 1)
  (bck (bg s3 0 a0 0 = 11) <|
  bcl (F_X12_st s3 a0 a2 3) fun s5 v5 =>
  F_X12_takes_r 1 a0 a1 a2 a3 v5 s5)
  (bck (bg s3 0 a0 0 = 11) <|
  bcl (F_X12_st s3 a0 a2 (2 + a3)) fun s4 v4 =>
  F_X12_takes_r 1 a0 a1 a2 a3 v4 s4)))))
set_option maxHeartbeats 4000000 in
set_option maxRecDepth 100000 in
set_option synthInstance.maxHeartbeats 4000000 in
theorem w_X12_takes_r {Γ0 : bG} {l0 : Launch} {κ : bK} {st' : bS} {v : Int} (hκ : bOk κ Γ0 l0 cX12_takes RX12 6 4 86) (hi : bIn κ yX12_takes) (hf : bFin κ (some .int) st' (some (0, v))) (b : Nat) (x0 x1 x2 x3 x4 : Int) (s0 : bS) (h : F_X12_takes_r b x0 x1 x2 x3 x4 s0 = some (st', v)) : match (generalizing := false) b with | 0 => bJ κ s0 26 [(0, (2, x0))] [] | 1 => bJ κ s0 68 [(0, (2, x0)), (1, (0, x1)), (2, (0, x2)), (3, (0, x3))] [(0, x4)] | 2 => bJ κ s0 117 [(0, (2, x0)), (1, (0, x1)), (2, (0, x2)), (4, (0, x3))] [(0, x4)] | 3 => bJ κ s0 127 [(0, (2, x0)), (1, (0, x1))] [(0, x2)] | _ => True := by
  refine F_X12_takes_r.partial_correctness x0 x1 s0 (fun b x2 x3 x4 r => r = (st', v) → match (generalizing := false) b with | 0 => bJ κ s0 26 [(0, (2, x0))] [] | 1 => bJ κ s0 68 [(0, (2, x0)), (1, (0, x1)), (2, (0, x2)), (3, (0, x3))] [(0, x4)] | 2 => bJ κ s0 117 [(0, (2, x0)), (1, (0, x1)), (2, (0, x2)), (4, (0, x3))] [(0, x4)] | 3 => bJ κ s0 127 [(0, (2, x0)), (1, (0, x1))] [(0, x2)] | _ => True) ?_ b x2 x3 x4 _ h rfl
  intro f' ih b x2 x3 x4 r h hr
  subst hr
  match b, h with
  | 0, h =>
      refine r_aload_n hκ 0 rfl rfl dX12_takes_26 ?_
      refine r_bipush hκ (by decide) dX12_takes_27 ?_
      obtain ⟨h15, h⟩ := bck_i h
      obtain ⟨s7, v7, h16, h⟩ := bcl_i h
      refine r_callV hκ (n' := 1) (index := 183) (w_X12_refused Γ0 l0 h16) (lw_V q3159 q3161 qs73 q146 q3162) (by decide +kernel) (t := 10) h15 rfl rfl (by decide) rfl (Nat.le_of_ble_eq_true rfl) dX12_takes_29 ?_
      exact r_iretH hκ hf h (nar_int _) dX12_takes_32
  | 1, h =>
      refine r_istore hκ (L2 := [(4, (0, x4)), (0, (2, x0)), (1, (0, x1)), (2, (0, x2)), (3, (0, x3))]) (by decide) rfl dX12_takes_68 ?_
      refine r_iload hκ 0 rfl dX12_takes_70 ?_
      refine r_if_ne hκ (tgt := 82) (by decide) dX12_takes_72 (fun h17 => ?_) (fun h17 => ?_)
      · replace h := (bte_i h).2 h17
        refine r_iload_n hκ 4 rfl rfl dX12_takes_82 ?_
        refine r_if_ne hκ (tgt := 93) (by decide) dX12_takes_83 (fun h18 => ?_) (fun h18 => ?_)
        · replace h := (bte_i h).2 h18
          refine r_iload_n hκ 4 rfl rfl dX12_takes_93 ?_
          refine r_iconst hκ dX12_takes_94 ?_
          refine r_icmp_ne hκ (tgt := 105) (by decide) dX12_takes_95 (fun h19 => ?_) (fun h19 => ?_)
          · replace h := (bte_i h).2 h19
            refine r_iload_n hκ 4 rfl rfl dX12_takes_105 ?_
            refine r_iconst hκ dX12_takes_106 ?_
            refine r_icmp_ne hκ (tgt := 115) (by decide) dX12_takes_107 (fun h20 => ?_) (fun h20 => ?_)
            · replace h := (bte_i h).2 h20
              refine r_bipush hκ (by decide) dX12_takes_115 ?_
              exact r_sub [1, 2, 3, 0] rfl (ih 2 _ _ _ _ h rfl)
            · replace h := (bte_i h).1 h20
              refine r_bipush hκ (by decide) dX12_takes_110 ?_
              refine r_goto hκ (tgt := 117) (by decide) dX12_takes_112 ?_
              exact r_sub [1, 2, 3, 0] rfl (ih 2 _ _ _ _ h rfl)
          · replace h := (bte_i h).1 h19
            refine r_bipush hκ (by decide) dX12_takes_98 ?_
            refine r_iload_n hκ 3 rfl rfl dX12_takes_100 ?_
            refine r_iadd hκ dX12_takes_101 ?_
            refine r_goto hκ (tgt := 127) (by decide) dX12_takes_102 ?_
            exact r_sub [1, 2] rfl (ih 3 _ _ _ _ h rfl)
        · replace h := (bte_i h).1 h18
          refine r_bipush hκ (by decide) dX12_takes_86 ?_
          refine r_iload_n hκ 3 rfl rfl dX12_takes_88 ?_
          refine r_iadd hκ dX12_takes_89 ?_
          refine r_goto hκ (tgt := 127) (by decide) dX12_takes_90 ?_
          exact r_sub [1, 2] rfl (ih 3 _ _ _ _ h rfl)
      · replace h := (bte_i h).1 h17
        refine r_aload_n hκ 1 rfl rfl dX12_takes_75 ?_
        refine r_bipush hκ (by decide) dX12_takes_76 ?_
        obtain ⟨h21, h⟩ := bck_i h
        obtain ⟨s8, v8, h22, h⟩ := bcl_i h
        refine r_callV hκ (n' := 1) (index := 183) (w_X12_refused Γ0 l0 h22) (lw_V q3159 q3161 qs73 q146 q3162) (by decide +kernel) (t := 10) h21 rfl rfl (by decide) rfl (Nat.le_of_ble_eq_true rfl) dX12_takes_78 ?_
        exact r_iretH hκ hf h (nar_int _) dX12_takes_81
  | 2, h =>
      refine r_bipush hκ (by decide) dX12_takes_117 ?_
      refine r_iload_n hκ 2 rfl rfl dX12_takes_119 ?_
      refine r_imul hκ dX12_takes_120 ?_
      refine r_iadd hκ dX12_takes_121 ?_
      refine r_iload hκ 3 rfl dX12_takes_122 ?_
      refine r_iadd hκ dX12_takes_124 ?_
      refine r_iconst hκ dX12_takes_125 ?_
      refine r_isub hκ dX12_takes_126 ?_
      exact r_sub [0, 1] rfl (ih 3 _ _ _ _ h rfl)
  | 3, h =>
      refine r_istore hκ (L2 := [(5, (0, x2)), (0, (2, x0)), (1, (0, x1))]) (by decide) rfl dX12_takes_127 ?_
      refine r_aload_n hκ 1 rfl rfl dX12_takes_129 ?_
      refine r_iconst hκ dX12_takes_130 ?_
      refine r_iload hκ 0 rfl dX12_takes_131 ?_
      obtain ⟨h23, h⟩ := bck_i h
      obtain ⟨s9, v9, h24, h⟩ := bcl_i h
      refine r_callV hκ (n' := 2) (index := 97) (w_X12_takesRow Γ0 l0 h24) (lw_V q3285 q3287 qs90 q146 q3288) (by decide +kernel) (t := 10) h23 rfl rfl (by decide) rfl (Nat.le_of_ble_eq_true rfl) dX12_takes_133 ?_
      refine r_aload_n hκ 1 rfl rfl dX12_takes_136 ?_
      refine r_iload_n hκ 2 rfl rfl dX12_takes_137 ?_
      refine r_iconst hκ dX12_takes_138 ?_
      obtain ⟨h25, h⟩ := bck_i h
      obtain ⟨s10, v10, h26, h⟩ := bcl_i h
      refine r_callV hκ (n' := 2) (index := 218) (w_X12_comes Γ0 l0 h26) (lw_V q3207 q3209 qs79 q146 q3210) (by decide +kernel) (t := 10) h25 rfl rfl (by decide) rfl (Nat.le_of_ble_eq_true rfl) dX12_takes_139 ?_
      exact r_iretH hκ hf h (nar_int _) dX12_takes_142
  | b + 4, h => trivial
set_option maxHeartbeats 4000000 in
set_option maxRecDepth 100000 in
theorem w_X12_takes (Γ0 : bG) (l0 : Launch) {s0 st' : bS} {v a0 a1 a2 a3 : Int} (h : F_X12_takes s0 a0 a1 a2 a3 = some (st', v)) : bCt Γ0 l0 yX12_takes cX12_takes 6 (some .int) 4 86 [(2, a0), (0, a1), (0, a2), (0, a3)] s0 st' (some (0, v)) := by
  refine b_ent (own := RX12) (by decide +kernel) rfl (Nat.le_of_ble_eq_true rfl) (L := [(0, (2, a0)), (1, (0, a1)), (2, (0, a2)), (3, (0, a3))]) rfl ?_
  intro κ hκ hi hf
  unfold F_X12_takes at h
  refine r_iload_n hκ 1 rfl rfl dX12_takes_0 ?_
  obtain ⟨s1, v1, h1, h⟩ := bcl_i h
  refine r_callS hκ (n' := 1) (index := 211) (w_X12_isEdit Γ0 l0 h1) (lw_S q3171 q3172 q146 q3173) (by decide +kernel) rfl (by decide) rfl (Nat.le_of_ble_eq_true rfl) dX12_takes_1 ?_
  refine r_if_eq hκ (tgt := 26) (by decide) dX12_takes_4 (fun h2 => ?_) (fun h2 => ?_)
  · replace h := (bte_i h).1 h2
    exact r_sub [0] rfl (w_X12_takes_r hκ hi hf 0 _ _ _ _ _ _ h)
  · replace h := (bte_i h).2 h2
    refine r_iload_n hκ 2 rfl rfl dX12_takes_7 ?_
    obtain ⟨s2, v2, h3, h⟩ := bcl_i h
    refine r_callS hκ (n' := 1) (index := 272) (w_X12_isClient Γ0 l0 h3) (lw_S q3324 q3325 q146 q3326) (by decide +kernel) rfl (by decide) rfl (Nat.le_of_ble_eq_true rfl) dX12_takes_8 ?_
    refine r_if_eq hκ (tgt := 26) (by decide) dX12_takes_11 (fun h4 => ?_) (fun h4 => ?_)
    · replace h := (bte_i h).1 h4
      exact r_sub [0] rfl (w_X12_takes_r hκ hi hf 0 _ _ _ _ _ _ h)
    · replace h := (bte_i h).2 h4
      refine r_iload_n hκ 3 rfl rfl dX12_takes_14 ?_
      refine r_i2l hκ dX12_takes_15 ?_
      refine r_lconst hκ (x := 0) (by decide) dX12_takes_16 ?_
      refine r_ldcl hκ (x := 3) q3253 (by decide) dX12_takes_17 ?_
      obtain ⟨s3, v3, h5, h⟩ := bcl_i h
      refine r_callS hκ (n' := 3) (index := 175) (w_X12_in Γ0 l0 h5) (lw_S q3156 q3157 q146 q3158) (by decide +kernel) rfl (by decide) rfl (Nat.le_of_ble_eq_true rfl) dX12_takes_20 ?_
      refine r_if_ne hκ (tgt := 33) (by decide) dX12_takes_23 (fun h6 => ?_) (fun h6 => ?_)
      · replace h := (bte_i h).2 h6
        refine r_iload_n hκ 3 rfl rfl dX12_takes_33 ?_
        refine r_if_ne hκ (tgt := 46) (by decide) dX12_takes_34 (fun h7 => ?_) (fun h7 => ?_)
        · replace h := (bte_i h).2 h7
          refine r_iload_n hκ 3 rfl rfl dX12_takes_46 ?_
          refine r_iconst hκ dX12_takes_47 ?_
          refine r_icmp_ne hκ (tgt := 60) (by decide) dX12_takes_48 (fun h8 => ?_) (fun h8 => ?_)
          · replace h := (bte_i h).2 h8
            refine r_aload_n hκ 0 rfl rfl dX12_takes_60 ?_
            refine r_iload_n hκ 2 rfl rfl dX12_takes_61 ?_
            refine r_iconst hκ dX12_takes_62 ?_
            refine r_iload_n hκ 3 rfl rfl dX12_takes_63 ?_
            refine r_iadd hκ dX12_takes_64 ?_
            obtain ⟨h9, h⟩ := bck_i h
            obtain ⟨s4, v4, h10, h⟩ := bcl_i h
            refine r_callV hκ (n' := 2) (index := 135) (w_X12_st Γ0 l0 h10) (lw_V q3360 q3362 qs103 q146 q3363) (by decide +kernel) (t := 10) h9 rfl rfl (by decide) rfl (Nat.le_of_ble_eq_true rfl) dX12_takes_65 ?_
            exact r_sub [0, 1, 2, 3] rfl (w_X12_takes_r hκ hi hf 1 _ _ _ _ _ _ h)
          · replace h := (bte_i h).1 h8
            refine r_aload_n hκ 0 rfl rfl dX12_takes_51 ?_
            refine r_iload_n hκ 2 rfl rfl dX12_takes_52 ?_
            refine r_iconst hκ dX12_takes_53 ?_
            obtain ⟨h11, h⟩ := bck_i h
            obtain ⟨s5, v5, h12, h⟩ := bcl_i h
            refine r_callV hκ (n' := 2) (index := 135) (w_X12_st Γ0 l0 h12) (lw_V q3360 q3362 qs103 q146 q3363) (by decide +kernel) (t := 10) h11 rfl rfl (by decide) rfl (Nat.le_of_ble_eq_true rfl) dX12_takes_54 ?_
            refine r_goto hκ (tgt := 68) (by decide) dX12_takes_57 ?_
            exact r_sub [0, 1, 2, 3] rfl (w_X12_takes_r hκ hi hf 1 _ _ _ _ _ _ h)
        · replace h := (bte_i h).1 h7
          refine r_aload_n hκ 0 rfl rfl dX12_takes_37 ?_
          refine r_iload_n hκ 2 rfl rfl dX12_takes_38 ?_
          refine r_iconst hκ dX12_takes_39 ?_
          obtain ⟨h13, h⟩ := bck_i h
          obtain ⟨s6, v6, h14, h⟩ := bcl_i h
          refine r_callV hκ (n' := 2) (index := 135) (w_X12_st Γ0 l0 h14) (lw_V q3360 q3362 qs103 q146 q3363) (by decide +kernel) (t := 10) h13 rfl rfl (by decide) rfl (Nat.le_of_ble_eq_true rfl) dX12_takes_40 ?_
          refine r_goto hκ (tgt := 68) (by decide) dX12_takes_43 ?_
          exact r_sub [0, 1, 2, 3] rfl (w_X12_takes_r hκ hi hf 1 _ _ _ _ _ _ h)
      · replace h := (bte_i h).1 h6
        exact r_sub [0] rfl (w_X12_takes_r hκ hi hf 0 _ _ _ _ _ _ h)
/-- EditsMeetModel.revision(II)I -/
def F_X12_revision_r (b : Nat) (x0 : Int) (s0 : bS) : Option (bS × Int) :=
  match b with
  | 0 =>
    bck (bg s0 0 x0 0 = 11) <|
    bcl (F_X12_refused s0 x0 (-2)) fun s5 v5 =>
    some (s5, v5)
  | _ => none
def F_X12_revision (s0 : bS) (a0 a1 a2 : Int) : Option (bS × Int) :=
  bcl (F_X12_isEdit s0 a1) fun s1 v1 =>
  bte (i32 v1 = 0)
  (F_X12_revision_r 0 a0 s1)
  (bck (bg s1 0 a0 0 = 11) <|
  bck (bg s1 0 (bg s1 242 a0 0) 0 = 1003 ∧ (0 : Int) ≤ 0 ∧ 0 < bg s1 4 (bg s1 242 a0 0) 0) <|
  bcl (F_X12_in s1 (b_i2l a2) 1 (b_i2l (bg s1 20 (bg s1 242 a0 0) 0))) fun s2 v2 =>
  bte (i32 v2 = 0)
  (F_X12_revision_r 0 a0 s2)
  (bck (bg s2 0 a0 0 = 11) <|
  bcl (F_X12_takesRow s2 a0 0 (184 + a2)) fun s3 v3 =>
  bck (bg s3 0 a0 0 = 11) <|
  bcl (F_X12_comes s3 a0 a1 0) fun s4 v4 =>
  bck (bg s4 0 a0 0 = 11) <|
  bck (bg s4 0 (bg s4 238 a0 0) 0 = 1003 ∧ (0 : Int) ≤ a2 ∧ a2 < bg s4 4 (bg s4 238 a0 0) 0) <|
  some (s4, (bg s4 20 (bg s4 238 a0 0) a2))))
set_option maxHeartbeats 4000000 in
set_option maxRecDepth 100000 in
set_option synthInstance.maxHeartbeats 4000000 in
theorem w_X12_revision_r {Γ0 : bG} {l0 : Launch} {κ : bK} {st' : bS} {v : Int} (hκ : bOk κ Γ0 l0 cX12_revision RX12 4 4 86) (hi : bIn κ yX12_revision) (hf : bFin κ (some .int) st' (some (0, v))) (b : Nat) (x0 : Int) (s0 : bS) (h : F_X12_revision_r b x0 s0 = some (st', v)) : match (generalizing := false) b with | 0 => bJ κ s0 23 [(0, (2, x0))] [] | _ => True := by
  unfold F_X12_revision_r at h
  match b, h with
  | 0, h =>
      refine r_aload_n hκ 0 rfl rfl dX12_revision_23 ?_
      refine r_bipush hκ (by decide) dX12_revision_24 ?_
      obtain ⟨h15, h⟩ := bck_i h
      obtain ⟨s5, v5, h16, h⟩ := bcl_i h
      refine r_callV hκ (n' := 1) (index := 183) (w_X12_refused Γ0 l0 h16) (lw_V q3159 q3161 qs73 q146 q3162) (by decide +kernel) (t := 10) h15 rfl rfl (by decide) rfl (Nat.le_of_ble_eq_true rfl) dX12_revision_26 ?_
      exact r_iretH hκ hf h (nar_int _) dX12_revision_29
  | b + 1, h => trivial
set_option maxHeartbeats 4000000 in
set_option maxRecDepth 100000 in
theorem w_X12_revision (Γ0 : bG) (l0 : Launch) {s0 st' : bS} {v a0 a1 a2 : Int} (h : F_X12_revision s0 a0 a1 a2 = some (st', v)) : bCt Γ0 l0 yX12_revision cX12_revision 4 (some .int) 4 86 [(2, a0), (0, a1), (0, a2)] s0 st' (some (0, v)) := by
  refine b_ent (own := RX12) (by decide +kernel) rfl (Nat.le_of_ble_eq_true rfl) (L := [(0, (2, a0)), (1, (0, a1)), (2, (0, a2))]) rfl ?_
  intro κ hκ hi hf
  unfold F_X12_revision at h
  refine r_iload_n hκ 1 rfl rfl dX12_revision_0 ?_
  obtain ⟨s1, v1, h1, h⟩ := bcl_i h
  refine r_callS hκ (n' := 1) (index := 211) (w_X12_isEdit Γ0 l0 h1) (lw_S q3171 q3172 q146 q3173) (by decide +kernel) rfl (by decide) rfl (Nat.le_of_ble_eq_true rfl) dX12_revision_1 ?_
  refine r_if_eq hκ (tgt := 23) (by decide) dX12_revision_4 (fun h2 => ?_) (fun h2 => ?_)
  · replace h := (bte_i h).1 h2
    exact r_sub [0] rfl (w_X12_revision_r hκ hi hf 0 _ _ h)
  · replace h := (bte_i h).2 h2
    refine r_iload_n hκ 2 rfl rfl dX12_revision_7 ?_
    refine r_i2l hκ dX12_revision_8 ?_
    refine r_lconst hκ (x := 1) (by decide) dX12_revision_9 ?_
    refine r_aload_n hκ 0 rfl rfl dX12_revision_10 ?_
    obtain ⟨h3, h⟩ := bck_i h
    refine r_get hκ (t := 10) (k := 7) (r := 242) h3 rfl in_X12 (by decide) rfl q3058 (Or.inl rfl) dX12_revision_11 ?_
    refine r_iconst hκ dX12_revision_14 ?_
    obtain ⟨⟨h4, h5⟩, h⟩ := bck_i h
    refine r_iald hκ h4 h5 dX12_revision_15 ?_
    refine r_i2l hκ dX12_revision_16 ?_
    obtain ⟨s2, v2, h6, h⟩ := bcl_i h
    refine r_callS hκ (n' := 3) (index := 175) (w_X12_in Γ0 l0 h6) (lw_S q3156 q3157 q146 q3158) (by decide +kernel) rfl (by decide) rfl (Nat.le_of_ble_eq_true rfl) dX12_revision_17 ?_
    refine r_if_ne hκ (tgt := 30) (by decide) dX12_revision_20 (fun h7 => ?_) (fun h7 => ?_)
    · replace h := (bte_i h).2 h7
      refine r_aload_n hκ 0 rfl rfl dX12_revision_30 ?_
      refine r_iconst hκ dX12_revision_31 ?_
      refine r_sipush hκ (by decide) dX12_revision_32 ?_
      refine r_iload_n hκ 2 rfl rfl dX12_revision_35 ?_
      refine r_iadd hκ dX12_revision_36 ?_
      obtain ⟨h8, h⟩ := bck_i h
      obtain ⟨s3, v3, h9, h⟩ := bcl_i h
      refine r_callV hκ (n' := 2) (index := 97) (w_X12_takesRow Γ0 l0 h9) (lw_V q3285 q3287 qs90 q146 q3288) (by decide +kernel) (t := 10) h8 rfl rfl (by decide) rfl (Nat.le_of_ble_eq_true rfl) dX12_revision_37 ?_
      refine r_aload_n hκ 0 rfl rfl dX12_revision_40 ?_
      refine r_iload_n hκ 1 rfl rfl dX12_revision_41 ?_
      refine r_iconst hκ dX12_revision_42 ?_
      obtain ⟨h10, h⟩ := bck_i h
      obtain ⟨s4, v4, h11, h⟩ := bcl_i h
      refine r_callV hκ (n' := 2) (index := 218) (w_X12_comes Γ0 l0 h11) (lw_V q3207 q3209 qs79 q146 q3210) (by decide +kernel) (t := 10) h10 rfl rfl (by decide) rfl (Nat.le_of_ble_eq_true rfl) dX12_revision_43 ?_
      refine r_istore_n hκ (L2 := [(3, (0, v4)), (0, (2, a0)), (1, (0, a1)), (2, (0, a2))]) (by decide) rfl rfl dX12_revision_46 ?_
      refine r_aload_n hκ 1 rfl rfl dX12_revision_47 ?_
      obtain ⟨h12, h⟩ := bck_i h
      refine r_get hκ (t := 10) (k := 6) (r := 238) h12 rfl in_X12 (by decide) rfl q3057 (Or.inl rfl) dX12_revision_48 ?_
      refine r_iload_n hκ 3 rfl rfl dX12_revision_51 ?_
      obtain ⟨⟨h13, h14⟩, h⟩ := bck_i h
      refine r_iald hκ h13 h14 dX12_revision_52 ?_
      exact r_iretH hκ hf h (nar_int _) dX12_revision_53
    · replace h := (bte_i h).1 h7
      exact r_sub [0] rfl (w_X12_revision_r hκ hi hf 0 _ _ h)
/-- EditsMeetModel.isText(I)Z -/
def F_X12_isText (s0 : bS) (a0 : Int) : Option (bS × Int) :=
  bcl (F_X12_in s0 (b_i2l a0) 0 4) fun s1 v1 =>
  bck (v1 = 0 ∨ v1 = 1) <|
  some (s1, v1)
set_option maxHeartbeats 4000000 in
set_option maxRecDepth 100000 in
theorem w_X12_isText (Γ0 : bG) (l0 : Launch) {s0 st' : bS} {v a0 : Int} (h : F_X12_isText s0 a0 = some (st', v)) : bCt Γ0 l0 yX12_isText cX12_isText 1 (some .boolean) 1 25 [(0, a0)] s0 st' (some (0, v)) := by
  refine b_ent (own := RX12) (by decide +kernel) rfl (Nat.le_of_ble_eq_true rfl) (L := [(0, (0, a0))]) rfl ?_
  intro κ hκ hi hf
  unfold F_X12_isText at h
  refine r_iload_n hκ 0 rfl rfl dX12_isText_0 ?_
  refine r_i2l hκ dX12_isText_1 ?_
  refine r_lconst hκ (x := 0) (by decide) dX12_isText_2 ?_
  refine r_ldcl hκ (x := 4) q3478 (by decide) dX12_isText_3 ?_
  obtain ⟨s1, v1, h1, h⟩ := bcl_i h
  refine r_callS hκ (n' := 3) (index := 175) (w_X12_in Γ0 l0 h1) (lw_S q3156 q3157 q146 q3158) (by decide +kernel) rfl (by decide) rfl (Nat.le_of_ble_eq_true rfl) dX12_isText_6 ?_
  obtain ⟨h2, h⟩ := bck_i h
  exact r_iretH hκ hf h (nar_bool h2) dX12_isText_9
/-- EditsMeetModel.length(I)I -/
def F_X12_length (s0 : bS) (a0 a1 : Int) : Option (bS × Int) :=
  bcl (F_X12_isText s0 a1) fun s1 v1 =>
  bte (i32 v1 = 0)
  (bck (bg s1 0 a0 0 = 11) <|
  bcl (F_X12_refused s1 a0 (-2)) fun s2 v2 =>
  some (s2, v2))
  (bck (bg s1 0 a0 0 = 11) <|
  bck (bg s1 0 (bg s1 230 a0 0) 0 = 1003 ∧ (0 : Int) ≤ a1 ∧ a1 < bg s1 4 (bg s1 230 a0 0) 0) <|
  some (s1, (bg s1 20 (bg s1 230 a0 0) a1)))
set_option maxHeartbeats 4000000 in
set_option maxRecDepth 100000 in
theorem w_X12_length (Γ0 : bG) (l0 : Launch) {s0 st' : bS} {v a0 a1 : Int} (h : F_X12_length s0 a0 a1 = some (st', v)) : bCt Γ0 l0 yX12_length cX12_length 2 (some .int) 2 45 [(2, a0), (0, a1)] s0 st' (some (0, v)) := by
  refine b_ent (own := RX12) (by decide +kernel) rfl (Nat.le_of_ble_eq_true rfl) (L := [(0, (2, a0)), (1, (0, a1))]) rfl ?_
  intro κ hκ hi hf
  unfold F_X12_length at h
  refine r_iload_n hκ 1 rfl rfl dX12_length_0 ?_
  obtain ⟨s1, v1, h1, h⟩ := bcl_i h
  refine r_callS hκ (n' := 1) (index := 319) (w_X12_isText Γ0 l0 h1) (lw_S q3475 q3476 q146 q3477) (by decide +kernel) rfl (by decide) rfl (Nat.le_of_ble_eq_true rfl) dX12_length_1 ?_
  refine r_if_eq hκ (tgt := 16) (by decide) dX12_length_4 (fun h2 => ?_) (fun h2 => ?_)
  · replace h := (bte_i h).1 h2
    refine r_aload_n hκ 0 rfl rfl dX12_length_16 ?_
    refine r_bipush hκ (by decide) dX12_length_17 ?_
    obtain ⟨h3, h⟩ := bck_i h
    obtain ⟨s2, v2, h4, h⟩ := bcl_i h
    refine r_callV hκ (n' := 1) (index := 183) (w_X12_refused Γ0 l0 h4) (lw_V q3159 q3161 qs73 q146 q3162) (by decide +kernel) (t := 10) h3 rfl rfl (by decide) rfl (Nat.le_of_ble_eq_true rfl) dX12_length_19 ?_
    exact r_iretH hκ hf h (nar_int _) dX12_length_22
  · replace h := (bte_i h).2 h2
    refine r_aload_n hκ 0 rfl rfl dX12_length_7 ?_
    obtain ⟨h5, h⟩ := bck_i h
    refine r_get hκ (t := 10) (k := 4) (r := 230) h5 rfl in_X12 (by decide) rfl q3055 (Or.inl rfl) dX12_length_8 ?_
    refine r_iload_n hκ 1 rfl rfl dX12_length_11 ?_
    obtain ⟨⟨h6, h7⟩, h⟩ := bck_i h
    refine r_iald hκ h6 h7 dX12_length_12 ?_
    refine r_goto hκ (tgt := 22) (by decide) dX12_length_13 ?_
    exact r_iretH hκ hf h (nar_int _) dX12_length_22
/-- EditsMeetModel.text(III)I -/
def F_X12_text_r (b : Nat) (x0 : Int) (s0 : bS) : Option (bS × Int) :=
  match b with
  | 0 =>
    bck (bg s0 0 x0 0 = 11) <|
    bcl (F_X12_refused s0 x0 (-2)) fun s4 v4 =>
    some (s4, v4)
  | _ => none
def F_X12_text (s0 : bS) (a0 a1 a2 a3 : Int) : Option (bS × Int) :=
  bcl (F_X12_isText s0 a1) fun s1 v1 =>
  bte (i32 v1 = 0)
  (F_X12_text_r 0 a0 s1)
  (bck (bg s1 0 a0 0 = 11) <|
  bck (bg s1 0 (bg s1 230 a0 0) 0 = 1003 ∧ (0 : Int) ≤ a1 ∧ a1 < bg s1 4 (bg s1 230 a0 0) 0) <|
  bcl (F_X12_in s1 (b_i2l a2) 0 (b_i2l ((bg s1 20 (bg s1 230 a0 0) a1) - 1))) fun s2 v2 =>
  bte (i32 v2 = 0)
  (F_X12_text_r 0 a0 s2)
  (bcl (F_X12_in s2 (b_i2l a3) 0 1) fun s3 v3 =>
  bte (i32 v3 = 0)
  (F_X12_text_r 0 a0 s3)
  (bck (bg s3 0 a0 0 = 11) <|
  bck (bg s3 0 (bg s3 226 a0 0) 0 = 1010 ∧ (0 : Int) ≤ a1 ∧ a1 < bg s3 4 (bg s3 226 a0 0) 0) <|
  bck (bg s3 0 (bg s3 10 (bg s3 226 a0 0) a1) 0 = 1003 ∧ (0 : Int) ≤ a2 ∧ a2 < bg s3 4 (bg s3 10 (bg s3 226 a0 0) a1) 0) <|
  bvl ((bg s3 20 (bg s3 10 (bg s3 226 a0 0) a1) a2)) fun t1 =>
  bte (i32 a3 = 0)
  (some (s3, (b_iand t1 255)))
  (some (s3, (b_iand (b_ishr t1 8) 15))))))
set_option maxHeartbeats 4000000 in
set_option maxRecDepth 100000 in
set_option synthInstance.maxHeartbeats 4000000 in
theorem w_X12_text_r {Γ0 : bG} {l0 : Launch} {κ : bK} {st' : bS} {v : Int} (hκ : bOk κ Γ0 l0 cX12_text RX12 5 2 45) (hi : bIn κ yX12_text) (hf : bFin κ (some .int) st' (some (0, v))) (b : Nat) (x0 : Int) (s0 : bS) (h : F_X12_text_r b x0 s0 = some (st', v)) : match (generalizing := false) b with | 0 => bJ κ s0 35 [(0, (2, x0))] [] | _ => True := by
  unfold F_X12_text_r at h
  match b, h with
  | 0, h =>
      refine r_aload_n hκ 0 rfl rfl dX12_text_35 ?_
      refine r_bipush hκ (by decide) dX12_text_36 ?_
      obtain ⟨h16, h⟩ := bck_i h
      obtain ⟨s4, v4, h17, h⟩ := bcl_i h
      refine r_callV hκ (n' := 1) (index := 183) (w_X12_refused Γ0 l0 h17) (lw_V q3159 q3161 qs73 q146 q3162) (by decide +kernel) (t := 10) h16 rfl rfl (by decide) rfl (Nat.le_of_ble_eq_true rfl) dX12_text_38 ?_
      exact r_iretH hκ hf h (nar_int _) dX12_text_41
  | b + 1, h => trivial
set_option maxHeartbeats 4000000 in
set_option maxRecDepth 100000 in
theorem w_X12_text (Γ0 : bG) (l0 : Launch) {s0 st' : bS} {v a0 a1 a2 a3 : Int} (h : F_X12_text s0 a0 a1 a2 a3 = some (st', v)) : bCt Γ0 l0 yX12_text cX12_text 5 (some .int) 2 45 [(2, a0), (0, a1), (0, a2), (0, a3)] s0 st' (some (0, v)) := by
  refine b_ent (own := RX12) (by decide +kernel) rfl (Nat.le_of_ble_eq_true rfl) (L := [(0, (2, a0)), (1, (0, a1)), (2, (0, a2)), (3, (0, a3))]) rfl ?_
  intro κ hκ hi hf
  unfold F_X12_text at h
  refine r_iload_n hκ 1 rfl rfl dX12_text_0 ?_
  obtain ⟨s1, v1, h1, h⟩ := bcl_i h
  refine r_callS hκ (n' := 1) (index := 319) (w_X12_isText Γ0 l0 h1) (lw_S q3475 q3476 q146 q3477) (by decide +kernel) rfl (by decide) rfl (Nat.le_of_ble_eq_true rfl) dX12_text_1 ?_
  refine r_if_eq hκ (tgt := 35) (by decide) dX12_text_4 (fun h2 => ?_) (fun h2 => ?_)
  · replace h := (bte_i h).1 h2
    exact r_sub [0] rfl (w_X12_text_r hκ hi hf 0 _ _ h)
  · replace h := (bte_i h).2 h2
    refine r_iload_n hκ 2 rfl rfl dX12_text_7 ?_
    refine r_i2l hκ dX12_text_8 ?_
    refine r_lconst hκ (x := 0) (by decide) dX12_text_9 ?_
    refine r_aload_n hκ 0 rfl rfl dX12_text_10 ?_
    obtain ⟨h3, h⟩ := bck_i h
    refine r_get hκ (t := 10) (k := 4) (r := 230) h3 rfl in_X12 (by decide) rfl q3055 (Or.inl rfl) dX12_text_11 ?_
    refine r_iload_n hκ 1 rfl rfl dX12_text_14 ?_
    obtain ⟨⟨h4, h5⟩, h⟩ := bck_i h
    refine r_iald hκ h4 h5 dX12_text_15 ?_
    refine r_iconst hκ dX12_text_16 ?_
    refine r_isub hκ dX12_text_17 ?_
    refine r_i2l hκ dX12_text_18 ?_
    obtain ⟨s2, v2, h6, h⟩ := bcl_i h
    refine r_callS hκ (n' := 3) (index := 175) (w_X12_in Γ0 l0 h6) (lw_S q3156 q3157 q146 q3158) (by decide +kernel) rfl (by decide) rfl (Nat.le_of_ble_eq_true rfl) dX12_text_19 ?_
    refine r_if_eq hκ (tgt := 35) (by decide) dX12_text_22 (fun h7 => ?_) (fun h7 => ?_)
    · replace h := (bte_i h).1 h7
      exact r_sub [0] rfl (w_X12_text_r hκ hi hf 0 _ _ h)
    · replace h := (bte_i h).2 h7
      refine r_iload_n hκ 3 rfl rfl dX12_text_25 ?_
      refine r_i2l hκ dX12_text_26 ?_
      refine r_lconst hκ (x := 0) (by decide) dX12_text_27 ?_
      refine r_lconst hκ (x := 1) (by decide) dX12_text_28 ?_
      obtain ⟨s3, v3, h8, h⟩ := bcl_i h
      refine r_callS hκ (n' := 3) (index := 175) (w_X12_in Γ0 l0 h8) (lw_S q3156 q3157 q146 q3158) (by decide +kernel) rfl (by decide) rfl (Nat.le_of_ble_eq_true rfl) dX12_text_29 ?_
      refine r_if_ne hκ (tgt := 42) (by decide) dX12_text_32 (fun h9 => ?_) (fun h9 => ?_)
      · replace h := (bte_i h).2 h9
        refine r_aload_n hκ 0 rfl rfl dX12_text_42 ?_
        obtain ⟨h10, h⟩ := bck_i h
        refine r_get hκ (t := 10) (k := 3) (r := 226) h10 rfl in_X12 (by decide) rfl q3054 (Or.inl rfl) dX12_text_43 ?_
        refine r_iload_n hκ 1 rfl rfl dX12_text_46 ?_
        obtain ⟨⟨h11, h12⟩, h⟩ := bck_i h
        refine r_aald hκ (t := 10) (by decide) h11 h12 dX12_text_47 ?_
        refine r_iload_n hκ 2 rfl rfl dX12_text_48 ?_
        obtain ⟨⟨h13, h14⟩, h⟩ := bck_i h
        refine r_iald hκ h13 h14 dX12_text_49 ?_
        refine r_nm (fun t1 et1 => ?_)
        replace h := bvl_i h t1 et1
        refine r_istore hκ (L2 := [(4, (0, t1)), (0, (2, a0)), (1, (0, a1)), (2, (0, a2)), (3, (0, a3))]) (by decide) rfl dX12_text_50 ?_
        refine r_iload_n hκ 4 rfl rfl dX12_text_52 ?_
        refine r_if_ne hκ (tgt := 65) (by decide) dX12_text_53 (fun h15 => ?_) (fun h15 => ?_)
        · replace h := (bte_i h).2 h15
          refine r_iload hκ 0 rfl dX12_text_65 ?_
          refine r_bipush hκ (by decide) dX12_text_67 ?_
          refine r_ishr hκ dX12_text_69 ?_
          refine r_bipush hκ (by decide) dX12_text_70 ?_
          refine r_iand hκ dX12_text_72 ?_
          exact r_iretH hκ hf h (nar_int _) dX12_text_73
        · replace h := (bte_i h).1 h15
          refine r_iload hκ 0 rfl dX12_text_56 ?_
          refine r_sipush hκ (by decide) dX12_text_58 ?_
          refine r_iand hκ dX12_text_61 ?_
          refine r_goto hκ (tgt := 73) (by decide) dX12_text_62 ?_
          exact r_iretH hκ hf h (nar_int _) dX12_text_73
      · replace h := (bte_i h).1 h9
        exact r_sub [0] rfl (w_X12_text_r hκ hi hf 0 _ _ h)
/-- EditsMeetModel.firstApart(II)I -/
def F_X12_firstApart_r (b : Nat) (x0 x1 x2 x3 : Int) (s0 : bS) : Option (bS × Int) :=
  match b with
  | 0 =>
    bck (bg s0 0 x0 0 = 11) <|
    bck (bg s0 0 (bg s0 230 x0 0) 0 = 1003 ∧ (0 : Int) ≤ x1 ∧ x1 < bg s0 4 (bg s0 230 x0 0) 0) <|
    bck (bg s0 0 x0 0 = 11) <|
    bck (bg s0 0 (bg s0 230 x0 0) 0 = 1003 ∧ (0 : Int) ≤ x2 ∧ x2 < bg s0 4 (bg s0 230 x0 0) 0) <|
    bte (i32 (b_max (bg s0 20 (bg s0 230 x0 0) x1) (bg s0 20 (bg s0 230 x0 0) x2)) ≤ i32 x3)
    (some (s0, (-1)))
    (bck (bg s0 0 x0 0 = 11) <|
    bck (bg s0 0 (bg s0 230 x0 0) 0 = 1003 ∧ (0 : Int) ≤ x1 ∧ x1 < bg s0 4 (bg s0 230 x0 0) 0) <|
    bte (i32 (bg s0 20 (bg s0 230 x0 0) x1) ≤ i32 x3)
    (some (s0, x3))
    (bck (bg s0 0 x0 0 = 11) <|
    bck (bg s0 0 (bg s0 230 x0 0) 0 = 1003 ∧ (0 : Int) ≤ x2 ∧ x2 < bg s0 4 (bg s0 230 x0 0) 0) <|
    bte (i32 (bg s0 20 (bg s0 230 x0 0) x2) ≤ i32 x3)
    (some (s0, x3))
    (bck (bg s0 0 x0 0 = 11) <|
    bck (bg s0 0 (bg s0 226 x0 0) 0 = 1010 ∧ (0 : Int) ≤ x1 ∧ x1 < bg s0 4 (bg s0 226 x0 0) 0) <|
    bck (bg s0 0 (bg s0 10 (bg s0 226 x0 0) x1) 0 = 1003 ∧ (0 : Int) ≤ x3 ∧ x3 < bg s0 4 (bg s0 10 (bg s0 226 x0 0) x1) 0) <|
    bck (bg s0 0 x0 0 = 11) <|
    bck (bg s0 0 (bg s0 226 x0 0) 0 = 1010 ∧ (0 : Int) ≤ x2 ∧ x2 < bg s0 4 (bg s0 226 x0 0) 0) <|
    bck (bg s0 0 (bg s0 10 (bg s0 226 x0 0) x2) 0 = 1003 ∧ (0 : Int) ≤ x3 ∧ x3 < bg s0 4 (bg s0 10 (bg s0 226 x0 0) x2) 0) <|
    bte (i32 (bg s0 20 (bg s0 10 (bg s0 226 x0 0) x1) x3) = i32 (bg s0 20 (bg s0 10 (bg s0 226 x0 0) x2) x3))
    (F_X12_firstApart_r 0 x0 x1 x2 (x3 + 1) s0)
    (some (s0, x3)))))
  | _ => none
partial_fixpoint
def F_X12_firstApart (s0 : bS) (a0 a1 a2 : Int) : Option (bS × Int) :=
  F_X12_firstApart_r 0 a0 a1 a2 0 s0
set_option maxHeartbeats 4000000 in
set_option maxRecDepth 100000 in
set_option synthInstance.maxHeartbeats 4000000 in
theorem w_X12_firstApart_r {Γ0 : bG} {l0 : Launch} {κ : bK} {st' : bS} {v : Int} (hκ : bOk κ Γ0 l0 cX12_firstApart RX12 4 1 21) (hi : bIn κ yX12_firstApart) (hf : bFin κ (some .int) st' (some (0, v))) (b : Nat) (x0 x1 x2 x3 : Int) (s0 : bS) (h : F_X12_firstApart_r b x0 x1 x2 x3 s0 = some (st', v)) : match (generalizing := false) b with | 0 => bJ κ s0 2 [(0, (2, x0)), (1, (0, x1)), (2, (0, x2)), (3, (0, x3))] [] | _ => True := by
  refine F_X12_firstApart_r.partial_correctness x0 x1 x2 s0 (fun b x3 r => r = (st', v) → match (generalizing := false) b with | 0 => bJ κ s0 2 [(0, (2, x0)), (1, (0, x1)), (2, (0, x2)), (3, (0, x3))] [] | _ => True) ?_ b x3 _ h rfl
  intro f' ih b x3 r h hr
  subst hr
  match b, h with
  | 0, h =>
      refine r_iload_n hκ 3 rfl rfl dX12_firstApart_2 ?_
      refine r_aload_n hκ 0 rfl rfl dX12_firstApart_3 ?_
      obtain ⟨h1, h⟩ := bck_i h
      refine r_get hκ (t := 10) (k := 4) (r := 230) h1 rfl in_X12 (by decide) rfl q3055 (Or.inl rfl) dX12_firstApart_4 ?_
      refine r_iload_n hκ 1 rfl rfl dX12_firstApart_7 ?_
      obtain ⟨⟨h2, h3⟩, h⟩ := bck_i h
      refine r_iald hκ h2 h3 dX12_firstApart_8 ?_
      refine r_aload_n hκ 0 rfl rfl dX12_firstApart_9 ?_
      obtain ⟨h4, h⟩ := bck_i h
      refine r_get hκ (t := 10) (k := 4) (r := 230) h4 rfl in_X12 (by decide) rfl q3055 (Or.inl rfl) dX12_firstApart_10 ?_
      refine r_iload_n hκ 2 rfl rfl dX12_firstApart_13 ?_
      obtain ⟨⟨h5, h6⟩, h⟩ := bck_i h
      refine r_iald hκ h5 h6 dX12_firstApart_14 ?_
      refine r_mmax hκ q3335 q1037 q161 q1038 (by decide) (Nat.le_of_ble_eq_true rfl) dX12_firstApart_15 ?_
      refine r_icmp_ge hκ (tgt := 68) (by decide) dX12_firstApart_18 (fun h7 => ?_) (fun h7 => ?_)
      · replace h := (bte_i h).1 h7
        refine r_iconst hκ dX12_firstApart_68 ?_
        exact r_iretH hκ hf h (nar_int _) dX12_firstApart_69
      · replace h := (bte_i h).2 h7
        refine r_iload_n hκ 3 rfl rfl dX12_firstApart_21 ?_
        refine r_aload_n hκ 0 rfl rfl dX12_firstApart_22 ?_
        obtain ⟨h8, h⟩ := bck_i h
        refine r_get hκ (t := 10) (k := 4) (r := 230) h8 rfl in_X12 (by decide) rfl q3055 (Or.inl rfl) dX12_firstApart_23 ?_
        refine r_iload_n hκ 1 rfl rfl dX12_firstApart_26 ?_
        obtain ⟨⟨h9, h10⟩, h⟩ := bck_i h
        refine r_iald hκ h9 h10 dX12_firstApart_27 ?_
        refine r_icmp_ge hκ (tgt := 60) (by decide) dX12_firstApart_28 (fun h11 => ?_) (fun h11 => ?_)
        · replace h := (bte_i h).1 h11
          refine r_iload_n hκ 3 rfl rfl dX12_firstApart_60 ?_
          exact r_iretH hκ hf h (nar_int _) dX12_firstApart_61
        · replace h := (bte_i h).2 h11
          refine r_iload_n hκ 3 rfl rfl dX12_firstApart_31 ?_
          refine r_aload_n hκ 0 rfl rfl dX12_firstApart_32 ?_
          obtain ⟨h12, h⟩ := bck_i h
          refine r_get hκ (t := 10) (k := 4) (r := 230) h12 rfl in_X12 (by decide) rfl q3055 (Or.inl rfl) dX12_firstApart_33 ?_
          refine r_iload_n hκ 2 rfl rfl dX12_firstApart_36 ?_
          obtain ⟨⟨h13, h14⟩, h⟩ := bck_i h
          refine r_iald hκ h13 h14 dX12_firstApart_37 ?_
          refine r_icmp_ge hκ (tgt := 60) (by decide) dX12_firstApart_38 (fun h15 => ?_) (fun h15 => ?_)
          · replace h := (bte_i h).1 h15
            refine r_iload_n hκ 3 rfl rfl dX12_firstApart_60 ?_
            exact r_iretH hκ hf h (nar_int _) dX12_firstApart_61
          · replace h := (bte_i h).2 h15
            refine r_aload_n hκ 0 rfl rfl dX12_firstApart_41 ?_
            obtain ⟨h16, h⟩ := bck_i h
            refine r_get hκ (t := 10) (k := 3) (r := 226) h16 rfl in_X12 (by decide) rfl q3054 (Or.inl rfl) dX12_firstApart_42 ?_
            refine r_iload_n hκ 1 rfl rfl dX12_firstApart_45 ?_
            obtain ⟨⟨h17, h18⟩, h⟩ := bck_i h
            refine r_aald hκ (t := 10) (by decide) h17 h18 dX12_firstApart_46 ?_
            refine r_iload_n hκ 3 rfl rfl dX12_firstApart_47 ?_
            obtain ⟨⟨h19, h20⟩, h⟩ := bck_i h
            refine r_iald hκ h19 h20 dX12_firstApart_48 ?_
            refine r_aload_n hκ 0 rfl rfl dX12_firstApart_49 ?_
            obtain ⟨h21, h⟩ := bck_i h
            refine r_get hκ (t := 10) (k := 3) (r := 226) h21 rfl in_X12 (by decide) rfl q3054 (Or.inl rfl) dX12_firstApart_50 ?_
            refine r_iload_n hκ 2 rfl rfl dX12_firstApart_53 ?_
            obtain ⟨⟨h22, h23⟩, h⟩ := bck_i h
            refine r_aald hκ (t := 10) (by decide) h22 h23 dX12_firstApart_54 ?_
            refine r_iload_n hκ 3 rfl rfl dX12_firstApart_55 ?_
            obtain ⟨⟨h24, h25⟩, h⟩ := bck_i h
            refine r_iald hκ h24 h25 dX12_firstApart_56 ?_
            refine r_icmp_eq hκ (tgt := 62) (by decide) dX12_firstApart_57 (fun h26 => ?_) (fun h26 => ?_)
            · replace h := (bte_i h).1 h26
              refine r_iinc hκ (L2 := [(3, (0, (x3 + 1))), (0, (2, x0)), (1, (0, x1)), (2, (0, x2))]) 3 rfl (by decide) rfl dX12_firstApart_62 ?_
              refine r_goto hκ (tgt := 2) (by decide) dX12_firstApart_65 ?_
              exact r_sub [1, 2, 3, 0] rfl (ih 0 _ _ h rfl)
            · replace h := (bte_i h).2 h26
              refine r_iload_n hκ 3 rfl rfl dX12_firstApart_60 ?_
              exact r_iretH hκ hf h (nar_int _) dX12_firstApart_61
  | b + 1, h => trivial
set_option maxHeartbeats 4000000 in
set_option maxRecDepth 100000 in
theorem w_X12_firstApart (Γ0 : bG) (l0 : Launch) {s0 st' : bS} {v a0 a1 a2 : Int} (h : F_X12_firstApart s0 a0 a1 a2 = some (st', v)) : bCt Γ0 l0 yX12_firstApart cX12_firstApart 4 (some .int) 1 21 [(2, a0), (0, a1), (0, a2)] s0 st' (some (0, v)) := by
  refine b_ent (own := RX12) (by decide +kernel) rfl (Nat.le_of_ble_eq_true rfl) (L := [(0, (2, a0)), (1, (0, a1)), (2, (0, a2))]) rfl ?_
  intro κ hκ hi hf
  unfold F_X12_firstApart at h
  refine r_iconst hκ dX12_firstApart_0 ?_
  refine r_istore_n hκ (L2 := [(3, (0, 0)), (0, (2, a0)), (1, (0, a1)), (2, (0, a2))]) (by decide) rfl rfl dX12_firstApart_1 ?_
  exact r_sub [1, 2, 3, 0] rfl (w_X12_firstApart_r hκ hi hf 0 _ _ _ _ _ h)
/-- EditsMeetModel.apart(II)I -/
def F_X12_apart_r (b : Nat) (x0 : Int) (s0 : bS) : Option (bS × Int) :=
  match b with
  | 0 =>
    bck (bg s0 0 x0 0 = 11) <|
    bcl (F_X12_refused s0 x0 (-2)) fun s4 v4 =>
    some (s4, v4)
  | _ => none
def F_X12_apart (s0 : bS) (a0 a1 a2 : Int) : Option (bS × Int) :=
  bcl (F_X12_isText s0 a1) fun s1 v1 =>
  bte (i32 v1 = 0)
  (F_X12_apart_r 0 a0 s1)
  (bcl (F_X12_isText s1 a2) fun s2 v2 =>
  bte (i32 v2 = 0)
  (F_X12_apart_r 0 a0 s2)
  (bck (bg s2 0 a0 0 = 11) <|
  bcl (F_X12_firstApart s2 a0 a1 a2) fun s3 v3 =>
  some (s3, v3)))
set_option maxHeartbeats 4000000 in
set_option maxRecDepth 100000 in
set_option synthInstance.maxHeartbeats 4000000 in
theorem w_X12_apart_r {Γ0 : bG} {l0 : Launch} {κ : bK} {st' : bS} {v : Int} (hκ : bOk κ Γ0 l0 cX12_apart RX12 3 2 45) (hi : bIn κ yX12_apart) (hf : bFin κ (some .int) st' (some (0, v))) (b : Nat) (x0 : Int) (s0 : bS) (h : F_X12_apart_r b x0 s0 = some (st', v)) : match (generalizing := false) b with | 0 => bJ κ s0 23 [(0, (2, x0))] [] | _ => True := by
  unfold F_X12_apart_r at h
  match b, h with
  | 0, h =>
      refine r_aload_n hκ 0 rfl rfl dX12_apart_23 ?_
      refine r_bipush hκ (by decide) dX12_apart_24 ?_
      obtain ⟨h7, h⟩ := bck_i h
      obtain ⟨s4, v4, h8, h⟩ := bcl_i h
      refine r_callV hκ (n' := 1) (index := 183) (w_X12_refused Γ0 l0 h8) (lw_V q3159 q3161 qs73 q146 q3162) (by decide +kernel) (t := 10) h7 rfl rfl (by decide) rfl (Nat.le_of_ble_eq_true rfl) dX12_apart_26 ?_
      exact r_iretH hκ hf h (nar_int _) dX12_apart_29
  | b + 1, h => trivial
set_option maxHeartbeats 4000000 in
set_option maxRecDepth 100000 in
theorem w_X12_apart (Γ0 : bG) (l0 : Launch) {s0 st' : bS} {v a0 a1 a2 : Int} (h : F_X12_apart s0 a0 a1 a2 = some (st', v)) : bCt Γ0 l0 yX12_apart cX12_apart 3 (some .int) 2 45 [(2, a0), (0, a1), (0, a2)] s0 st' (some (0, v)) := by
  refine b_ent (own := RX12) (by decide +kernel) rfl (Nat.le_of_ble_eq_true rfl) (L := [(0, (2, a0)), (1, (0, a1)), (2, (0, a2))]) rfl ?_
  intro κ hκ hi hf
  unfold F_X12_apart at h
  refine r_iload_n hκ 1 rfl rfl dX12_apart_0 ?_
  obtain ⟨s1, v1, h1, h⟩ := bcl_i h
  refine r_callS hκ (n' := 1) (index := 319) (w_X12_isText Γ0 l0 h1) (lw_S q3475 q3476 q146 q3477) (by decide +kernel) rfl (by decide) rfl (Nat.le_of_ble_eq_true rfl) dX12_apart_1 ?_
  refine r_if_eq hκ (tgt := 23) (by decide) dX12_apart_4 (fun h2 => ?_) (fun h2 => ?_)
  · replace h := (bte_i h).1 h2
    exact r_sub [0] rfl (w_X12_apart_r hκ hi hf 0 _ _ h)
  · replace h := (bte_i h).2 h2
    refine r_iload_n hκ 2 rfl rfl dX12_apart_7 ?_
    obtain ⟨s2, v2, h3, h⟩ := bcl_i h
    refine r_callS hκ (n' := 1) (index := 319) (w_X12_isText Γ0 l0 h3) (lw_S q3475 q3476 q146 q3477) (by decide +kernel) rfl (by decide) rfl (Nat.le_of_ble_eq_true rfl) dX12_apart_8 ?_
    refine r_if_eq hκ (tgt := 23) (by decide) dX12_apart_11 (fun h4 => ?_) (fun h4 => ?_)
    · replace h := (bte_i h).1 h4
      exact r_sub [0] rfl (w_X12_apart_r hκ hi hf 0 _ _ h)
    · replace h := (bte_i h).2 h4
      refine r_aload_n hκ 0 rfl rfl dX12_apart_14 ?_
      refine r_iload_n hκ 1 rfl rfl dX12_apart_15 ?_
      refine r_iload_n hκ 2 rfl rfl dX12_apart_16 ?_
      obtain ⟨h5, h⟩ := bck_i h
      obtain ⟨s3, v3, h6, h⟩ := bcl_i h
      refine r_callV hκ (n' := 2) (index := 322) (w_X12_firstApart Γ0 l0 h6) (lw_V q3487 q3489 qs117 q146 q3490) (by decide +kernel) (t := 10) h5 rfl rfl (by decide) rfl (Nat.le_of_ble_eq_true rfl) dX12_apart_17 ?_
      refine r_goto hκ (tgt := 29) (by decide) dX12_apart_20 ?_
      exact r_iretH hκ hf h (nar_int _) dX12_apart_29
/-- EditsMeetModel.marked(II)I -/
def F_X12_marked_r (b : Nat) (x0 x1 x2 x3 x4 x5 : Int) (s0 : bS) : Option (bS × Int) :=
  match b with
  | 0 =>
    bck (bg s0 0 x0 0 = 11) <|
    bcl (F_X12_refused s0 x0 (-2)) fun s3 v3 =>
    some (s3, v3)
  | 1 =>
    bck (bg s0 0 x0 0 = 11) <|
    bck (bg s0 0 (bg s0 230 x0 0) 0 = 1003 ∧ (0 : Int) ≤ x1 ∧ x1 < bg s0 4 (bg s0 230 x0 0) 0) <|
    bte (i32 (bg s0 20 (bg s0 230 x0 0) x1) ≤ i32 x4)
    (some (s0, x3))
    (bck (bg s0 0 x0 0 = 11) <|
    bck (bg s0 0 (bg s0 226 x0 0) 0 = 1010 ∧ (0 : Int) ≤ x1 ∧ x1 < bg s0 4 (bg s0 226 x0 0) 0) <|
    bck (bg s0 0 (bg s0 10 (bg s0 226 x0 0) x1) 0 = 1003 ∧ (0 : Int) ≤ x4 ∧ x4 < bg s0 4 (bg s0 10 (bg s0 226 x0 0) x1) 0) <|
    bvl ((b_iand (b_ishr (bg s0 20 (bg s0 10 (bg s0 226 x0 0) x1) x4) 8) 15)) fun t1 =>
    bte (i32 x2 = i32 4)
    (bte (i32 t1 = 0)
    (F_X12_marked_r 2 x0 x1 x2 x3 x4 1 s0)
    (F_X12_marked_r 2 x0 x1 x2 x3 x4 0 s0))
    (bte (i32 (b_iand (b_ishr t1 x2) 1) = i32 1)
    (F_X12_marked_r 2 x0 x1 x2 x3 x4 1 s0)
    (F_X12_marked_r 2 x0 x1 x2 x3 x4 0 s0)))
  | 2 =>
    bte (i32 x5 = 0)
    (F_X12_marked_r 3 x0 x1 x2 x4 0 x3 s0)
    (bck (bg s0 0 x0 0 = 11) <|
    bck (bg s0 0 (bg s0 226 x0 0) 0 = 1010 ∧ (0 : Int) ≤ x1 ∧ x1 < bg s0 4 (bg s0 226 x0 0) 0) <|
    bck (bg s0 0 (bg s0 10 (bg s0 226 x0 0) x1) 0 = 1003 ∧ (0 : Int) ≤ x4 ∧ x4 < bg s0 4 (bg s0 10 (bg s0 226 x0 0) x1) 0) <|
    F_X12_marked_r 3 x0 x1 x2 x4 (b_ishl 1 (b_iand (bg s0 20 (bg s0 10 (bg s0 226 x0 0) x1) x4) 255)) x3 s0)
  | 3 =>
    F_X12_marked_r 1 x0 x1 x2 (b_ior x5 x4) (x3 + 1) 0 s0
  | _ => none
partial_fixpoint
def F_X12_marked (s0 : bS) (a0 a1 a2 : Int) : Option (bS × Int) :=
  bcl (F_X12_isText s0 a1) fun s1 v1 =>
  bte (i32 v1 = 0)
  (F_X12_marked_r 0 a0 0 0 0 0 0 s1)
  (bcl (F_X12_in s1 (b_i2l a2) 0 4) fun s2 v2 =>
  bte (i32 v2 = 0)
  (F_X12_marked_r 0 a0 0 0 0 0 0 s2)
  (F_X12_marked_r 1 a0 a1 a2 0 0 0 s2))
set_option maxHeartbeats 4000000 in
set_option maxRecDepth 100000 in
set_option synthInstance.maxHeartbeats 4000000 in
theorem w_X12_marked_r {Γ0 : bG} {l0 : Launch} {κ : bK} {st' : bS} {v : Int} (hκ : bOk κ Γ0 l0 cX12_marked RX12 7 2 45) (hi : bIn κ yX12_marked) (hf : bFin κ (some .int) st' (some (0, v))) (b : Nat) (x0 x1 x2 x3 x4 x5 : Int) (s0 : bS) (h : F_X12_marked_r b x0 x1 x2 x3 x4 x5 s0 = some (st', v)) : match (generalizing := false) b with | 0 => bJ κ s0 19 [(0, (2, x0))] [] | 1 => bJ κ s0 31 [(0, (2, x0)), (1, (0, x1)), (2, (0, x2)), (3, (0, x3)), (4, (0, x4))] [] | 2 => bJ κ s0 92 [(0, (2, x0)), (1, (0, x1)), (2, (0, x2)), (3, (0, x3)), (4, (0, x4))] [(0, x5)] | 3 => bJ κ s0 119 [(0, (2, x0)), (1, (0, x1)), (2, (0, x2)), (4, (0, x3))] [(0, x4), (0, x5)] | _ => True := by
  refine F_X12_marked_r.partial_correctness x0 x1 x2 s0 (fun b x3 x4 x5 r => r = (st', v) → match (generalizing := false) b with | 0 => bJ κ s0 19 [(0, (2, x0))] [] | 1 => bJ κ s0 31 [(0, (2, x0)), (1, (0, x1)), (2, (0, x2)), (3, (0, x3)), (4, (0, x4))] [] | 2 => bJ κ s0 92 [(0, (2, x0)), (1, (0, x1)), (2, (0, x2)), (3, (0, x3)), (4, (0, x4))] [(0, x5)] | 3 => bJ κ s0 119 [(0, (2, x0)), (1, (0, x1)), (2, (0, x2)), (4, (0, x3))] [(0, x4), (0, x5)] | _ => True) ?_ b x3 x4 x5 _ h rfl
  intro f' ih b x3 x4 x5 r h hr
  subst hr
  match b, h with
  | 0, h =>
      refine r_aload_n hκ 0 rfl rfl dX12_marked_19 ?_
      refine r_bipush hκ (by decide) dX12_marked_20 ?_
      obtain ⟨h5, h⟩ := bck_i h
      obtain ⟨s3, v3, h6, h⟩ := bcl_i h
      refine r_callV hκ (n' := 1) (index := 183) (w_X12_refused Γ0 l0 h6) (lw_V q3159 q3161 qs73 q146 q3162) (by decide +kernel) (t := 10) h5 rfl rfl (by decide) rfl (Nat.le_of_ble_eq_true rfl) dX12_marked_22 ?_
      exact r_iretH hκ hf h (nar_int _) dX12_marked_25
  | 1, h =>
      refine r_iload hκ 4 rfl dX12_marked_31 ?_
      refine r_aload_n hκ 0 rfl rfl dX12_marked_33 ?_
      obtain ⟨h7, h⟩ := bck_i h
      refine r_get hκ (t := 10) (k := 4) (r := 230) h7 rfl in_X12 (by decide) rfl q3055 (Or.inl rfl) dX12_marked_34 ?_
      refine r_iload_n hκ 1 rfl rfl dX12_marked_37 ?_
      obtain ⟨⟨h8, h9⟩, h⟩ := bck_i h
      refine r_iald hκ h8 h9 dX12_marked_38 ?_
      refine r_icmp_ge hκ (tgt := 127) (by decide) dX12_marked_39 (fun h10 => ?_) (fun h10 => ?_)
      · replace h := (bte_i h).1 h10
        refine r_iload_n hκ 3 rfl rfl dX12_marked_127 ?_
        exact r_iretH hκ hf h (nar_int _) dX12_marked_128
      · replace h := (bte_i h).2 h10
        refine r_aload_n hκ 0 rfl rfl dX12_marked_42 ?_
        obtain ⟨h11, h⟩ := bck_i h
        refine r_get hκ (t := 10) (k := 3) (r := 226) h11 rfl in_X12 (by decide) rfl q3054 (Or.inl rfl) dX12_marked_43 ?_
        refine r_iload_n hκ 1 rfl rfl dX12_marked_46 ?_
        obtain ⟨⟨h12, h13⟩, h⟩ := bck_i h
        refine r_aald hκ (t := 10) (by decide) h12 h13 dX12_marked_47 ?_
        refine r_iload hκ 4 rfl dX12_marked_48 ?_
        obtain ⟨⟨h14, h15⟩, h⟩ := bck_i h
        refine r_iald hκ h14 h15 dX12_marked_50 ?_
        refine r_bipush hκ (by decide) dX12_marked_51 ?_
        refine r_ishr hκ dX12_marked_53 ?_
        refine r_bipush hκ (by decide) dX12_marked_54 ?_
        refine r_iand hκ dX12_marked_56 ?_
        refine r_nm (fun t1 et1 => ?_)
        replace h := bvl_i h t1 et1
        refine r_istore hκ (L2 := [(5, (0, t1)), (0, (2, x0)), (1, (0, x1)), (2, (0, x2)), (3, (0, x3)), (4, (0, x4))]) (by decide) rfl dX12_marked_57 ?_
        refine r_iload_n hκ 3 rfl rfl dX12_marked_59 ?_
        refine r_iconst hκ dX12_marked_60 ?_
        refine r_icmp_ne hκ (tgt := 77) (by decide) dX12_marked_61 (fun h16 => ?_) (fun h16 => ?_)
        · replace h := (bte_i h).2 h16
          refine r_iload hκ 0 rfl dX12_marked_77 ?_
          refine r_iload_n hκ 3 rfl rfl dX12_marked_79 ?_
          refine r_ishr hκ dX12_marked_80 ?_
          refine r_iconst hκ dX12_marked_81 ?_
          refine r_iand hκ dX12_marked_82 ?_
          refine r_iconst hκ dX12_marked_83 ?_
          refine r_icmp_ne hκ (tgt := 91) (by decide) dX12_marked_84 (fun h17 => ?_) (fun h17 => ?_)
          · replace h := (bte_i h).2 h17
            refine r_iconst hκ dX12_marked_91 ?_
            exact r_sub [1, 2, 3, 4, 5] rfl (ih 2 _ _ _ _ h rfl)
          · replace h := (bte_i h).1 h17
            refine r_iconst hκ dX12_marked_87 ?_
            refine r_goto hκ (tgt := 92) (by decide) dX12_marked_88 ?_
            exact r_sub [1, 2, 3, 4, 5] rfl (ih 2 _ _ _ _ h rfl)
        · replace h := (bte_i h).1 h16
          refine r_iload hκ 0 rfl dX12_marked_64 ?_
          refine r_if_ne hκ (tgt := 73) (by decide) dX12_marked_66 (fun h18 => ?_) (fun h18 => ?_)
          · replace h := (bte_i h).2 h18
            refine r_iconst hκ dX12_marked_73 ?_
            refine r_goto hκ (tgt := 92) (by decide) dX12_marked_74 ?_
            exact r_sub [1, 2, 3, 4, 5] rfl (ih 2 _ _ _ _ h rfl)
          · replace h := (bte_i h).1 h18
            refine r_iconst hκ dX12_marked_69 ?_
            refine r_goto hκ (tgt := 92) (by decide) dX12_marked_70 ?_
            exact r_sub [1, 2, 3, 4, 5] rfl (ih 2 _ _ _ _ h rfl)
  | 2, h =>
      refine r_istore hκ (L2 := [(6, (0, x5)), (0, (2, x0)), (1, (0, x1)), (2, (0, x2)), (3, (0, x3)), (4, (0, x4))]) (by decide) rfl dX12_marked_92 ?_
      refine r_iload_n hκ 4 rfl rfl dX12_marked_94 ?_
      refine r_iload hκ 0 rfl dX12_marked_95 ?_
      refine r_if_eq hκ (tgt := 118) (by decide) dX12_marked_97 (fun h19 => ?_) (fun h19 => ?_)
      · replace h := (bte_i h).1 h19
        refine r_iconst hκ dX12_marked_118 ?_
        exact r_sub [1, 2, 3, 5] rfl (ih 3 _ _ _ _ h rfl)
      · replace h := (bte_i h).2 h19
        refine r_iconst hκ dX12_marked_100 ?_
        refine r_aload_n hκ 1 rfl rfl dX12_marked_101 ?_
        obtain ⟨h20, h⟩ := bck_i h
        refine r_get hκ (t := 10) (k := 3) (r := 226) h20 rfl in_X12 (by decide) rfl q3054 (Or.inl rfl) dX12_marked_102 ?_
        refine r_iload_n hκ 2 rfl rfl dX12_marked_105 ?_
        obtain ⟨⟨h21, h22⟩, h⟩ := bck_i h
        refine r_aald hκ (t := 10) (by decide) h21 h22 dX12_marked_106 ?_
        refine r_iload hκ 5 rfl dX12_marked_107 ?_
        obtain ⟨⟨h23, h24⟩, h⟩ := bck_i h
        refine r_iald hκ h23 h24 dX12_marked_109 ?_
        refine r_sipush hκ (by decide) dX12_marked_110 ?_
        refine r_iand hκ dX12_marked_113 ?_
        refine r_ishl hκ dX12_marked_114 ?_
        refine r_goto hκ (tgt := 119) (by decide) dX12_marked_115 ?_
        exact r_sub [1, 2, 3, 5] rfl (ih 3 _ _ _ _ h rfl)
  | 3, h =>
      refine r_ior hκ dX12_marked_119 ?_
      refine r_istore_n hκ (L2 := [(3, (0, (b_ior x5 x4))), (0, (2, x0)), (1, (0, x1)), (2, (0, x2)), (4, (0, x3))]) (by decide) rfl rfl dX12_marked_120 ?_
      refine r_iinc hκ (L2 := [(4, (0, (x3 + 1))), (3, (0, (b_ior x5 x4))), (0, (2, x0)), (1, (0, x1)), (2, (0, x2))]) 4 rfl (by decide) rfl dX12_marked_121 ?_
      refine r_goto hκ (tgt := 31) (by decide) dX12_marked_124 ?_
      exact r_sub [2, 3, 4, 1, 0] rfl (ih 1 _ _ _ _ h rfl)
  | b + 4, h => trivial
set_option maxHeartbeats 4000000 in
set_option maxRecDepth 100000 in
theorem w_X12_marked (Γ0 : bG) (l0 : Launch) {s0 st' : bS} {v a0 a1 a2 : Int} (h : F_X12_marked s0 a0 a1 a2 = some (st', v)) : bCt Γ0 l0 yX12_marked cX12_marked 7 (some .int) 2 45 [(2, a0), (0, a1), (0, a2)] s0 st' (some (0, v)) := by
  refine b_ent (own := RX12) (by decide +kernel) rfl (Nat.le_of_ble_eq_true rfl) (L := [(0, (2, a0)), (1, (0, a1)), (2, (0, a2))]) rfl ?_
  intro κ hκ hi hf
  unfold F_X12_marked at h
  refine r_iload_n hκ 1 rfl rfl dX12_marked_0 ?_
  obtain ⟨s1, v1, h1, h⟩ := bcl_i h
  refine r_callS hκ (n' := 1) (index := 319) (w_X12_isText Γ0 l0 h1) (lw_S q3475 q3476 q146 q3477) (by decide +kernel) rfl (by decide) rfl (Nat.le_of_ble_eq_true rfl) dX12_marked_1 ?_
  refine r_if_eq hκ (tgt := 19) (by decide) dX12_marked_4 (fun h2 => ?_) (fun h2 => ?_)
  · replace h := (bte_i h).1 h2
    exact r_sub [0] rfl (w_X12_marked_r hκ hi hf 0 _ _ _ _ _ _ _ h)
  · replace h := (bte_i h).2 h2
    refine r_iload_n hκ 2 rfl rfl dX12_marked_7 ?_
    refine r_i2l hκ dX12_marked_8 ?_
    refine r_lconst hκ (x := 0) (by decide) dX12_marked_9 ?_
    refine r_ldcl hκ (x := 4) q3478 (by decide) dX12_marked_10 ?_
    obtain ⟨s2, v2, h3, h⟩ := bcl_i h
    refine r_callS hκ (n' := 3) (index := 175) (w_X12_in Γ0 l0 h3) (lw_S q3156 q3157 q146 q3158) (by decide +kernel) rfl (by decide) rfl (Nat.le_of_ble_eq_true rfl) dX12_marked_13 ?_
    refine r_if_ne hκ (tgt := 26) (by decide) dX12_marked_16 (fun h4 => ?_) (fun h4 => ?_)
    · replace h := (bte_i h).2 h4
      refine r_iconst hκ dX12_marked_26 ?_
      refine r_istore_n hκ (L2 := [(3, (0, 0)), (0, (2, a0)), (1, (0, a1)), (2, (0, a2))]) (by decide) rfl rfl dX12_marked_27 ?_
      refine r_iconst hκ dX12_marked_28 ?_
      refine r_istore hκ (L2 := [(4, (0, 0)), (3, (0, 0)), (0, (2, a0)), (1, (0, a1)), (2, (0, a2))]) (by decide) rfl dX12_marked_29 ?_
      exact r_sub [2, 3, 4, 1, 0] rfl (w_X12_marked_r hκ hi hf 1 _ _ _ _ _ _ _ h)
    · replace h := (bte_i h).1 h4
      exact r_sub [0] rfl (w_X12_marked_r hκ hi hf 0 _ _ _ _ _ _ _ h)
/-- EditsMeetModel.isShelf(I)Z -/
def F_X12_isShelf (s0 : bS) (a0 : Int) : Option (bS × Int) :=
  bcl (F_X12_in s0 (b_i2l a0) 0 7) fun s1 v1 =>
  bck (v1 = 0 ∨ v1 = 1) <|
  some (s1, v1)
set_option maxHeartbeats 4000000 in
set_option maxRecDepth 100000 in
theorem w_X12_isShelf (Γ0 : bG) (l0 : Launch) {s0 st' : bS} {v a0 : Int} (h : F_X12_isShelf s0 a0 = some (st', v)) : bCt Γ0 l0 yX12_isShelf cX12_isShelf 1 (some .boolean) 1 25 [(0, a0)] s0 st' (some (0, v)) := by
  refine b_ent (own := RX12) (by decide +kernel) rfl (Nat.le_of_ble_eq_true rfl) (L := [(0, (0, a0))]) rfl ?_
  intro κ hκ hi hf
  unfold F_X12_isShelf at h
  refine r_iload_n hκ 0 rfl rfl dX12_isShelf_0 ?_
  refine r_i2l hκ dX12_isShelf_1 ?_
  refine r_lconst hκ (x := 0) (by decide) dX12_isShelf_2 ?_
  refine r_ldcl hκ (x := 7) q3502 (by decide) dX12_isShelf_3 ?_
  obtain ⟨s1, v1, h1, h⟩ := bcl_i h
  refine r_callS hκ (n' := 3) (index := 175) (w_X12_in Γ0 l0 h1) (lw_S q3156 q3157 q146 q3158) (by decide +kernel) rfl (by decide) rfl (Nat.le_of_ble_eq_true rfl) dX12_isShelf_6 ?_
  obtain ⟨h2, h⟩ := bck_i h
  exact r_iretH hκ hf h (nar_bool h2) dX12_isShelf_9
/-- EditsMeetModel.row(III)I -/
def F_X12_row_r (b : Nat) (x0 x1 x2 : Int) (s0 : bS) : Option (bS × Int) :=
  match b with
  | 0 =>
    bck (bg s0 0 x0 0 = 11) <|
    bcl (F_X12_refused s0 x0 (-2)) fun s6 v4 =>
    some (s6, v4)
  | 1 =>
    bte (i32 40 ≤ i32 x2)
    (some (s0, 1))
    (bck (bg s0 0 x0 0 = 11) <|
    bck (bg s0 0 (bg s0 298 x0 0) 0 = 1005 ∧ (0 : Int) ≤ ((40 * x1) + x2) ∧ ((40 * x1) + x2) < bg s0 4 (bg s0 298 x0 0) 0) <|
    bst (bw s0 9 (bg s0 298 x0 0) ((40 * x1) + x2) 0) fun s7 =>
    F_X12_row_r 1 x0 x1 (x2 + 1) s7)
  | _ => none
partial_fixpoint
def F_X12_row (s0 : bS) (a0 a1 a2 a3 : Int) : Option (bS × Int) :=
  bcl (F_X12_isShelf s0 a1) fun s1 v1 =>
  bte (i32 v1 = 0)
  (F_X12_row_r 0 a0 0 0 s1)
  (bcl (F_X12_in s1 (b_i2l a2) 0 4) fun s2 v2 =>
  bte (i32 v2 = 0)
  (F_X12_row_r 0 a0 0 0 s2)
  (bcl (F_X12_in s2 (b_i2l a3) 0 40) fun s3 v3 =>
  bte (i32 v3 = 0)
  (F_X12_row_r 0 a0 0 0 s3)
  (bck (bg s3 0 a0 0 = 11) <|
  bck (bg s3 0 (bg s3 290 a0 0) 0 = 1003 ∧ (0 : Int) ≤ a1 ∧ a1 < bg s3 4 (bg s3 290 a0 0) 0) <|
  bst (bw s3 20 (bg s3 290 a0 0) a1 a2) fun s4 =>
  bck (bg s4 0 a0 0 = 11) <|
  bck (bg s4 0 (bg s4 294 a0 0) 0 = 1003 ∧ (0 : Int) ≤ a1 ∧ a1 < bg s4 4 (bg s4 294 a0 0) 0) <|
  bst (bw s4 20 (bg s4 294 a0 0) a1 a3) fun s5 =>
  F_X12_row_r 1 a0 a1 0 s5)))
set_option maxHeartbeats 4000000 in
set_option maxRecDepth 100000 in
set_option synthInstance.maxHeartbeats 4000000 in
theorem w_X12_row_r {Γ0 : bG} {l0 : Launch} {κ : bK} {st' : bS} {v : Int} (hκ : bOk κ Γ0 l0 cX12_row RX12 5 2 45) (hi : bIn κ yX12_row) (hf : bFin κ (some .int) st' (some (0, v))) (b : Nat) (x0 x1 x2 : Int) (s0 : bS) (h : F_X12_row_r b x0 x1 x2 s0 = some (st', v)) : match (generalizing := false) b with | 0 => bJ κ s0 31 [(0, (2, x0))] [] | 1 => bJ κ s0 55 [(0, (2, x0)), (1, (0, x1)), (4, (0, x2))] [] | _ => True := by
  refine F_X12_row_r.partial_correctness x0 x1 (fun b x2 s0 r => r = (st', v) → match (generalizing := false) b with | 0 => bJ κ s0 31 [(0, (2, x0))] [] | 1 => bJ κ s0 55 [(0, (2, x0)), (1, (0, x1)), (4, (0, x2))] [] | _ => True) ?_ b x2 s0 _ h rfl
  intro f' ih b x2 s0 r h hr
  subst hr
  match b, h with
  | 0, h =>
      refine r_aload_n hκ 0 rfl rfl dX12_row_31 ?_
      refine r_bipush hκ (by decide) dX12_row_32 ?_
      obtain ⟨h13, h⟩ := bck_i h
      obtain ⟨s6, v4, h14, h⟩ := bcl_i h
      refine r_callV hκ (n' := 1) (index := 183) (w_X12_refused Γ0 l0 h14) (lw_V q3159 q3161 qs73 q146 q3162) (by decide +kernel) (t := 10) h13 rfl rfl (by decide) rfl (Nat.le_of_ble_eq_true rfl) dX12_row_34 ?_
      exact r_iretH hκ hf h (nar_int _) dX12_row_37
  | 1, h =>
      refine r_iload hκ 2 rfl dX12_row_55 ?_
      refine r_bipush hκ (by decide) dX12_row_57 ?_
      refine r_icmp_ge hκ (tgt := 81) (by decide) dX12_row_59 (fun h15 => ?_) (fun h15 => ?_)
      · replace h := (bte_i h).1 h15
        refine r_iconst hκ dX12_row_81 ?_
        exact r_iretH hκ hf h (nar_int _) dX12_row_82
      · replace h := (bte_i h).2 h15
        refine r_aload_n hκ 0 rfl rfl dX12_row_62 ?_
        obtain ⟨h16, h⟩ := bck_i h
        refine r_get hκ (t := 10) (k := 21) (r := 298) h16 rfl in_X12 (by decide) rfl q3072 (Or.inl rfl) dX12_row_63 ?_
        refine r_bipush hκ (by decide) dX12_row_66 ?_
        refine r_iload_n hκ 1 rfl rfl dX12_row_68 ?_
        refine r_imul hκ dX12_row_69 ?_
        refine r_iload hκ 2 rfl dX12_row_70 ?_
        refine r_iadd hκ dX12_row_72 ?_
        refine r_lconst hκ (x := 0) (by decide) dX12_row_73 ?_
        obtain ⟨⟨h17, h18⟩, h⟩ := bck_i h
        refine r_last hκ h17 h18 dX12_row_74 (fun s7 es7 => ?_)
        replace h := bst_i h s7 es7
        refine r_iinc hκ (L2 := [(4, (0, (x2 + 1))), (0, (2, x0)), (1, (0, x1))]) 2 rfl (by decide) rfl dX12_row_75 ?_
        refine r_goto hκ (tgt := 55) (by decide) dX12_row_78 ?_
        exact r_sub [1, 2, 0] rfl (ih 1 _ _ _ h rfl)
  | b + 2, h => trivial
set_option maxHeartbeats 4000000 in
set_option maxRecDepth 100000 in
theorem w_X12_row (Γ0 : bG) (l0 : Launch) {s0 st' : bS} {v a0 a1 a2 a3 : Int} (h : F_X12_row s0 a0 a1 a2 a3 = some (st', v)) : bCt Γ0 l0 yX12_row cX12_row 5 (some .int) 2 45 [(2, a0), (0, a1), (0, a2), (0, a3)] s0 st' (some (0, v)) := by
  refine b_ent (own := RX12) (by decide +kernel) rfl (Nat.le_of_ble_eq_true rfl) (L := [(0, (2, a0)), (1, (0, a1)), (2, (0, a2)), (3, (0, a3))]) rfl ?_
  intro κ hκ hi hf
  unfold F_X12_row at h
  refine r_iload_n hκ 1 rfl rfl dX12_row_0 ?_
  obtain ⟨s1, v1, h1, h⟩ := bcl_i h
  refine r_callS hκ (n' := 1) (index := 327) (w_X12_isShelf Γ0 l0 h1) (lw_S q3499 q3500 q146 q3501) (by decide +kernel) rfl (by decide) rfl (Nat.le_of_ble_eq_true rfl) dX12_row_1 ?_
  refine r_if_eq hκ (tgt := 31) (by decide) dX12_row_4 (fun h2 => ?_) (fun h2 => ?_)
  · replace h := (bte_i h).1 h2
    exact r_sub [0] rfl (w_X12_row_r hκ hi hf 0 _ _ _ _ h)
  · replace h := (bte_i h).2 h2
    refine r_iload_n hκ 2 rfl rfl dX12_row_7 ?_
    refine r_i2l hκ dX12_row_8 ?_
    refine r_lconst hκ (x := 0) (by decide) dX12_row_9 ?_
    refine r_ldcl hκ (x := 4) q3478 (by decide) dX12_row_10 ?_
    obtain ⟨s2, v2, h3, h⟩ := bcl_i h
    refine r_callS hκ (n' := 3) (index := 175) (w_X12_in Γ0 l0 h3) (lw_S q3156 q3157 q146 q3158) (by decide +kernel) rfl (by decide) rfl (Nat.le_of_ble_eq_true rfl) dX12_row_13 ?_
    refine r_if_eq hκ (tgt := 31) (by decide) dX12_row_16 (fun h4 => ?_) (fun h4 => ?_)
    · replace h := (bte_i h).1 h4
      exact r_sub [0] rfl (w_X12_row_r hκ hi hf 0 _ _ _ _ h)
    · replace h := (bte_i h).2 h4
      refine r_iload_n hκ 3 rfl rfl dX12_row_19 ?_
      refine r_i2l hκ dX12_row_20 ?_
      refine r_lconst hκ (x := 0) (by decide) dX12_row_21 ?_
      refine r_ldcl hκ (x := 40) q3503 (by decide) dX12_row_22 ?_
      obtain ⟨s3, v3, h5, h⟩ := bcl_i h
      refine r_callS hκ (n' := 3) (index := 175) (w_X12_in Γ0 l0 h5) (lw_S q3156 q3157 q146 q3158) (by decide +kernel) rfl (by decide) rfl (Nat.le_of_ble_eq_true rfl) dX12_row_25 ?_
      refine r_if_ne hκ (tgt := 38) (by decide) dX12_row_28 (fun h6 => ?_) (fun h6 => ?_)
      · replace h := (bte_i h).2 h6
        refine r_aload_n hκ 0 rfl rfl dX12_row_38 ?_
        obtain ⟨h7, h⟩ := bck_i h
        refine r_get hκ (t := 10) (k := 19) (r := 290) h7 rfl in_X12 (by decide) rfl q3070 (Or.inl rfl) dX12_row_39 ?_
        refine r_iload_n hκ 1 rfl rfl dX12_row_42 ?_
        refine r_iload_n hκ 2 rfl rfl dX12_row_43 ?_
        obtain ⟨⟨h8, h9⟩, h⟩ := bck_i h
        refine r_iast hκ h8 h9 dX12_row_44 (fun s4 es4 => ?_)
        replace h := bst_i h s4 es4
        refine r_aload_n hκ 0 rfl rfl dX12_row_45 ?_
        obtain ⟨h10, h⟩ := bck_i h
        refine r_get hκ (t := 10) (k := 20) (r := 294) h10 rfl in_X12 (by decide) rfl q3071 (Or.inl rfl) dX12_row_46 ?_
        refine r_iload_n hκ 1 rfl rfl dX12_row_49 ?_
        refine r_iload_n hκ 3 rfl rfl dX12_row_50 ?_
        obtain ⟨⟨h11, h12⟩, h⟩ := bck_i h
        refine r_iast hκ h11 h12 dX12_row_51 (fun s5 es5 => ?_)
        replace h := bst_i h s5 es5
        refine r_iconst hκ dX12_row_52 ?_
        refine r_istore hκ (L2 := [(4, (0, 0)), (0, (2, a0)), (1, (0, a1)), (2, (0, a2)), (3, (0, a3))]) (by decide) rfl dX12_row_53 ?_
        exact r_sub [1, 2, 0] rfl (w_X12_row_r hκ hi hf 1 _ _ _ _ h)
      · replace h := (bte_i h).1 h6
        exact r_sub [0] rfl (w_X12_row_r hκ hi hf 0 _ _ _ _ h)
/-- EditsMeetModel.lowest(IJ)J -/
def F_X12_lowest (s0 : bS) (a0 a1 : Int) : Option (bS × Int) :=
  bte (b_t a0 = 0) (some (s0, (b_i2l (b_i2b (b_l2i a1))))) (bte (b_t a0 = 1) (some (s0, (b_i2l (b_i2s (b_l2i a1))))) (bte (b_t a0 = 2) (some (s0, (b_i2l (b_l2i a1)))) (bte (b_t a0 = 3) (some (s0, a1)) (bte (i32 (b_lcmp a1 0) = 0)
  (some (s0, 0))
  (some (s0, 1))))))
set_option maxHeartbeats 4000000 in
set_option maxRecDepth 100000 in
theorem w_X12_lowest (Γ0 : bG) (l0 : Launch) {s0 st' : bS} {v a0 a1 : Int} (h : F_X12_lowest s0 a0 a1 = some (st', v)) : bCt Γ0 l0 yX12_lowest cX12_lowest 3 (some .long) 0 0 [(0, a0), (1, a1)] s0 st' (some (1, v)) := by
  refine b_ent (own := RX12) (by decide +kernel) rfl (Nat.le_of_ble_eq_true rfl) (L := [(0, (0, a0)), (1, (1, a1))]) rfl ?_
  intro κ hκ hi hf
  unfold F_X12_lowest at h
  refine r_iload_n hκ 0 rfl rfl dX12_lowest_0 ?_
  by_cases h1 : b_t a0 = 0
  · replace h := (bte_i h).1 h1
    refine r_tswIn hκ (kk := 0) (tgt := 32) h1 (by decide) (by decide) rfl (by decide) dX12_lowest_1 ?_
    refine r_lload_n hκ 1 rfl rfl dX12_lowest_32 ?_
    refine r_l2i hκ dX12_lowest_33 ?_
    refine r_i2b hκ dX12_lowest_34 ?_
    refine r_i2l hκ dX12_lowest_35 ?_
    exact r_lretH hκ hf h dX12_lowest_36
  replace h := (bte_i h).2 h1
  by_cases h2 : b_t a0 = 1
  · replace h := (bte_i h).1 h2
    refine r_tswIn hκ (kk := 1) (tgt := 37) h2 (by decide) (by decide) rfl (by decide) dX12_lowest_1 ?_
    refine r_lload_n hκ 1 rfl rfl dX12_lowest_37 ?_
    refine r_l2i hκ dX12_lowest_38 ?_
    refine r_i2s hκ dX12_lowest_39 ?_
    refine r_i2l hκ dX12_lowest_40 ?_
    exact r_lretH hκ hf h dX12_lowest_41
  replace h := (bte_i h).2 h2
  by_cases h3 : b_t a0 = 2
  · replace h := (bte_i h).1 h3
    refine r_tswIn hκ (kk := 2) (tgt := 42) h3 (by decide) (by decide) rfl (by decide) dX12_lowest_1 ?_
    refine r_lload_n hκ 1 rfl rfl dX12_lowest_42 ?_
    refine r_l2i hκ dX12_lowest_43 ?_
    refine r_i2l hκ dX12_lowest_44 ?_
    exact r_lretH hκ hf h dX12_lowest_45
  replace h := (bte_i h).2 h3
  by_cases h4 : b_t a0 = 3
  · replace h := (bte_i h).1 h4
    refine r_tswIn hκ (kk := 3) (tgt := 46) h4 (by decide) (by decide) rfl (by decide) dX12_lowest_1 ?_
    refine r_lload_n hκ 1 rfl rfl dX12_lowest_46 ?_
    exact r_lretH hκ hf h dX12_lowest_47
  replace h := (bte_i h).2 h4
  refine r_tswOut hκ (tgt := 48) (by omega) (by decide) dX12_lowest_1 ?_
  refine r_lload_n hκ 1 rfl rfl dX12_lowest_48 ?_
  refine r_lconst hκ (x := 0) (by decide) dX12_lowest_49 ?_
  refine r_lcmp hκ dX12_lowest_50 ?_
  refine r_if_ne hκ (tgt := 58) (by decide) dX12_lowest_51 (fun h5 => ?_) (fun h5 => ?_)
  · replace h := (bte_i h).2 h5
    refine r_lconst hκ (x := 1) (by decide) dX12_lowest_58 ?_
    exact r_lretH hκ hf h dX12_lowest_59
  · replace h := (bte_i h).1 h5
    refine r_lconst hκ (x := 0) (by decide) dX12_lowest_54 ?_
    refine r_goto hκ (tgt := 59) (by decide) dX12_lowest_55 ?_
    exact r_lretH hκ hf h dX12_lowest_59
/-- EditsMeetModel.set(IIJ)I -/
def F_X12_set (s0 : bS) (a0 a1 a2 a3 : Int) : Option (bS × Int) :=
  bcl (F_X12_isShelf s0 a1) fun s1 v1 =>
  bte (i32 v1 = 0)
  (bck (bg s1 0 a0 0 = 11) <|
  bcl (F_X12_refused s1 a0 (-2)) fun s8 v7 =>
  some (s8, v7))
  (bck (bg s1 0 a0 0 = 11) <|
  bck (bg s1 0 (bg s1 290 a0 0) 0 = 1003 ∧ (0 : Int) ≤ a1 ∧ a1 < bg s1 4 (bg s1 290 a0 0) 0) <|
  bte (i32 (bg s1 20 (bg s1 290 a0 0) a1) ≤ i32 4)
  (bck (bg s1 0 a0 0 = 11) <|
  bck (bg s1 0 (bg s1 290 a0 0) 0 = 1003 ∧ (0 : Int) ≤ a1 ∧ a1 < bg s1 4 (bg s1 290 a0 0) 0) <|
  bte (0 ≤ i32 (bg s1 20 (bg s1 290 a0 0) a1))
  (bck (bg s1 0 a0 0 = 11) <|
  bck (bg s1 0 (bg s1 294 a0 0) 0 = 1003 ∧ (0 : Int) ≤ a1 ∧ a1 < bg s1 4 (bg s1 294 a0 0) 0) <|
  bcl (F_X12_in s1 (b_i2l a2) 0 (b_i2l ((bg s1 20 (bg s1 294 a0 0) a1) - 1))) fun s2 v2 =>
  bte (i32 v2 = 0)
  (bck (bg s2 0 a0 0 = 11) <|
  bcl (F_X12_refused s2 a0 (-2)) fun s5 v4 =>
  some (s5, v4))
  (bck (bg s2 0 a0 0 = 11) <|
  bck (bg s2 0 a0 0 = 11) <|
  bck (bg s2 0 (bg s2 290 a0 0) 0 = 1003 ∧ (0 : Int) ≤ a1 ∧ a1 < bg s2 4 (bg s2 290 a0 0) 0) <|
  bcl (F_X12_lowest s2 (bg s2 20 (bg s2 290 a0 0) a1) a3) fun s3 v3 =>
  bck (bg s3 0 (bg s2 298 a0 0) 0 = 1005 ∧ (0 : Int) ≤ ((40 * a1) + a2) ∧ ((40 * a1) + a2) < bg s3 4 (bg s2 298 a0 0) 0) <|
  bst (bw s3 9 (bg s2 298 a0 0) ((40 * a1) + a2) v3) fun s4 =>
  some (s4, 1)))
  (bck (bg s1 0 a0 0 = 11) <|
  bcl (F_X12_refused s1 a0 (-4)) fun s6 v5 =>
  some (s6, v5)))
  (bck (bg s1 0 a0 0 = 11) <|
  bcl (F_X12_refused s1 a0 (-3)) fun s7 v6 =>
  some (s7, v6)))
set_option maxHeartbeats 4000000 in
set_option maxRecDepth 100000 in
theorem w_X12_set (Γ0 : bG) (l0 : Launch) {s0 st' : bS} {v a0 a1 a2 a3 : Int} (h : F_X12_set s0 a0 a1 a2 a3 = some (st', v)) : bCt Γ0 l0 yX12_set cX12_set 5 (some .int) 2 45 [(2, a0), (0, a1), (0, a2), (1, a3)] s0 st' (some (0, v)) := by
  refine b_ent (own := RX12) (by decide +kernel) rfl (Nat.le_of_ble_eq_true rfl) (L := [(0, (2, a0)), (1, (0, a1)), (2, (0, a2)), (3, (1, a3))]) rfl ?_
  intro κ hκ hi hf
  unfold F_X12_set at h
  refine r_iload_n hκ 1 rfl rfl dX12_set_0 ?_
  obtain ⟨s1, v1, h1, h⟩ := bcl_i h
  refine r_callS hκ (n' := 1) (index := 327) (w_X12_isShelf Γ0 l0 h1) (lw_S q3499 q3500 q146 q3501) (by decide +kernel) rfl (by decide) rfl (Nat.le_of_ble_eq_true rfl) dX12_set_1 ?_
  refine r_if_ne hκ (tgt := 14) (by decide) dX12_set_4 (fun h2 => ?_) (fun h2 => ?_)
  · replace h := (bte_i h).2 h2
    refine r_aload_n hκ 0 rfl rfl dX12_set_14 ?_
    obtain ⟨h3, h⟩ := bck_i h
    refine r_get hκ (t := 10) (k := 19) (r := 290) h3 rfl in_X12 (by decide) rfl q3070 (Or.inl rfl) dX12_set_15 ?_
    refine r_iload_n hκ 1 rfl rfl dX12_set_18 ?_
    obtain ⟨⟨h4, h5⟩, h⟩ := bck_i h
    refine r_iald hκ h4 h5 dX12_set_19 ?_
    refine r_iconst hκ dX12_set_20 ?_
    refine r_icmp_le hκ (tgt := 31) (by decide) dX12_set_21 (fun h6 => ?_) (fun h6 => ?_)
    · replace h := (bte_i h).1 h6
      refine r_aload_n hκ 0 rfl rfl dX12_set_31 ?_
      obtain ⟨h7, h⟩ := bck_i h
      refine r_get hκ (t := 10) (k := 19) (r := 290) h7 rfl in_X12 (by decide) rfl q3070 (Or.inl rfl) dX12_set_32 ?_
      refine r_iload_n hκ 1 rfl rfl dX12_set_35 ?_
      obtain ⟨⟨h8, h9⟩, h⟩ := bck_i h
      refine r_iald hκ h8 h9 dX12_set_36 ?_
      refine r_if_ge hκ (tgt := 47) (by decide) dX12_set_37 (fun h10 => ?_) (fun h10 => ?_)
      · replace h := (bte_i h).1 h10
        refine r_iload_n hκ 2 rfl rfl dX12_set_47 ?_
        refine r_i2l hκ dX12_set_48 ?_
        refine r_lconst hκ (x := 0) (by decide) dX12_set_49 ?_
        refine r_aload_n hκ 0 rfl rfl dX12_set_50 ?_
        obtain ⟨h11, h⟩ := bck_i h
        refine r_get hκ (t := 10) (k := 20) (r := 294) h11 rfl in_X12 (by decide) rfl q3071 (Or.inl rfl) dX12_set_51 ?_
        refine r_iload_n hκ 1 rfl rfl dX12_set_54 ?_
        obtain ⟨⟨h12, h13⟩, h⟩ := bck_i h
        refine r_iald hκ h12 h13 dX12_set_55 ?_
        refine r_iconst hκ dX12_set_56 ?_
        refine r_isub hκ dX12_set_57 ?_
        refine r_i2l hκ dX12_set_58 ?_
        obtain ⟨s2, v2, h14, h⟩ := bcl_i h
        refine r_callS hκ (n' := 3) (index := 175) (w_X12_in Γ0 l0 h14) (lw_S q3156 q3157 q146 q3158) (by decide +kernel) rfl (by decide) rfl (Nat.le_of_ble_eq_true rfl) dX12_set_59 ?_
        refine r_if_ne hκ (tgt := 72) (by decide) dX12_set_62 (fun h15 => ?_) (fun h15 => ?_)
        · replace h := (bte_i h).2 h15
          refine r_aload_n hκ 0 rfl rfl dX12_set_72 ?_
          obtain ⟨h16, h⟩ := bck_i h
          refine r_get hκ (t := 10) (k := 21) (r := 298) h16 rfl in_X12 (by decide) rfl q3072 (Or.inl rfl) dX12_set_73 ?_
          refine r_bipush hκ (by decide) dX12_set_76 ?_
          refine r_iload_n hκ 1 rfl rfl dX12_set_78 ?_
          refine r_imul hκ dX12_set_79 ?_
          refine r_iload_n hκ 2 rfl rfl dX12_set_80 ?_
          refine r_iadd hκ dX12_set_81 ?_
          refine r_aload_n hκ 0 rfl rfl dX12_set_82 ?_
          obtain ⟨h17, h⟩ := bck_i h
          refine r_get hκ (t := 10) (k := 19) (r := 290) h17 rfl in_X12 (by decide) rfl q3070 (Or.inl rfl) dX12_set_83 ?_
          refine r_iload_n hκ 1 rfl rfl dX12_set_86 ?_
          obtain ⟨⟨h18, h19⟩, h⟩ := bck_i h
          refine r_iald hκ h18 h19 dX12_set_87 ?_
          refine r_lload_n hκ 3 rfl rfl dX12_set_88 ?_
          obtain ⟨s3, v3, h20, h⟩ := bcl_i h
          refine r_callS hκ (n' := 2) (index := 332) (w_X12_lowest Γ0 l0 h20) (lw_S q3508 q3509 q146 q3510) (by decide +kernel) rfl (by decide) rfl (Nat.le_of_ble_eq_true rfl) dX12_set_89 ?_
          obtain ⟨⟨h21, h22⟩, h⟩ := bck_i h
          refine r_last hκ h21 h22 dX12_set_92 (fun s4 es4 => ?_)
          replace h := bst_i h s4 es4
          refine r_iconst hκ dX12_set_93 ?_
          exact r_iretH hκ hf h (nar_int _) dX12_set_94
        · replace h := (bte_i h).1 h15
          refine r_aload_n hκ 0 rfl rfl dX12_set_65 ?_
          refine r_bipush hκ (by decide) dX12_set_66 ?_
          obtain ⟨h23, h⟩ := bck_i h
          obtain ⟨s5, v4, h24, h⟩ := bcl_i h
          refine r_callV hκ (n' := 1) (index := 183) (w_X12_refused Γ0 l0 h24) (lw_V q3159 q3161 qs73 q146 q3162) (by decide +kernel) (t := 10) h23 rfl rfl (by decide) rfl (Nat.le_of_ble_eq_true rfl) dX12_set_68 ?_
          exact r_iretH hκ hf h (nar_int _) dX12_set_71
      · replace h := (bte_i h).2 h10
        refine r_aload_n hκ 0 rfl rfl dX12_set_40 ?_
        refine r_bipush hκ (by decide) dX12_set_41 ?_
        obtain ⟨h25, h⟩ := bck_i h
        obtain ⟨s6, v5, h26, h⟩ := bcl_i h
        refine r_callV hκ (n' := 1) (index := 183) (w_X12_refused Γ0 l0 h26) (lw_V q3159 q3161 qs73 q146 q3162) (by decide +kernel) (t := 10) h25 rfl rfl (by decide) rfl (Nat.le_of_ble_eq_true rfl) dX12_set_43 ?_
        exact r_iretH hκ hf h (nar_int _) dX12_set_46
    · replace h := (bte_i h).2 h6
      refine r_aload_n hκ 0 rfl rfl dX12_set_24 ?_
      refine r_bipush hκ (by decide) dX12_set_25 ?_
      obtain ⟨h27, h⟩ := bck_i h
      obtain ⟨s7, v6, h28, h⟩ := bcl_i h
      refine r_callV hκ (n' := 1) (index := 183) (w_X12_refused Γ0 l0 h28) (lw_V q3159 q3161 qs73 q146 q3162) (by decide +kernel) (t := 10) h27 rfl rfl (by decide) rfl (Nat.le_of_ble_eq_true rfl) dX12_set_27 ?_
      exact r_iretH hκ hf h (nar_int _) dX12_set_30
  · replace h := (bte_i h).1 h2
    refine r_aload_n hκ 0 rfl rfl dX12_set_7 ?_
    refine r_bipush hκ (by decide) dX12_set_8 ?_
    obtain ⟨h29, h⟩ := bck_i h
    obtain ⟨s8, v7, h30, h⟩ := bcl_i h
    refine r_callV hκ (n' := 1) (index := 183) (w_X12_refused Γ0 l0 h30) (lw_V q3159 q3161 qs73 q146 q3162) (by decide +kernel) (t := 10) h29 rfl rfl (by decide) rfl (Nat.le_of_ble_eq_true rfl) dX12_set_10 ?_
    exact r_iretH hκ hf h (nar_int _) dX12_set_13
/-- EditsMeetModel.copy(IIIII)I -/
def F_X12_copy_r (b : Nat) (xs : Int × Int × Int × Int × Int × Int × Int × Int) (s0 : bS) : Option (bS × Int) :=
  match b, xs with
  | 0, (x0, _, _, _, _, _, _, _) =>
    bck (bg s0 0 x0 0 = 11) <|
    bcl (F_X12_refused s0 x0 (-2)) fun s3 v3 =>
    some (s3, v3)
  | 1, (x0, _, _, _, _, _, _, _) =>
    bck (bg s0 0 x0 0 = 11) <|
    bcl (F_X12_refused s0 x0 (-3)) fun s4 v4 =>
    some (s4, v4)
  | 2, (x0, x1, x2, x3, x4, x5, _, _) =>
    bck (bg s0 0 x0 0 = 11) <|
    bck (bg s0 0 (bg s0 290 x0 0) 0 = 1003 ∧ (0 : Int) ≤ x1 ∧ x1 < bg s0 4 (bg s0 290 x0 0) 0) <|
    bte (i32 (bg s0 20 (bg s0 290 x0 0) x1) < 0)
    (F_X12_copy_r 3 (x0, 0, 0, 0, 0, 0, 0, 0) s0)
    (bck (bg s0 0 x0 0 = 11) <|
    bck (bg s0 0 (bg s0 290 x0 0) 0 = 1003 ∧ (0 : Int) ≤ x2 ∧ x2 < bg s0 4 (bg s0 290 x0 0) 0) <|
    bte (0 ≤ i32 (bg s0 20 (bg s0 290 x0 0) x2))
    (bte (i32 x3 < 0)
    (F_X12_copy_r 4 (x0, 0, 0, 0, 0, 0, 0, 0) s0)
    (bte (i32 x4 < 0)
    (F_X12_copy_r 4 (x0, 0, 0, 0, 0, 0, 0, 0) s0)
    (bte (i32 x5 < 0)
    (F_X12_copy_r 4 (x0, 0, 0, 0, 0, 0, 0, 0) s0)
    (bck (bg s0 0 x0 0 = 11) <|
    bck (bg s0 0 (bg s0 294 x0 0) 0 = 1003 ∧ (0 : Int) ≤ x1 ∧ x1 < bg s0 4 (bg s0 294 x0 0) 0) <|
    bte (i32 (bg s0 20 (bg s0 294 x0 0) x1) < i32 x3)
    (F_X12_copy_r 4 (x0, 0, 0, 0, 0, 0, 0, 0) s0)
    (bck (bg s0 0 x0 0 = 11) <|
    bck (bg s0 0 (bg s0 294 x0 0) 0 = 1003 ∧ (0 : Int) ≤ x2 ∧ x2 < bg s0 4 (bg s0 294 x0 0) 0) <|
    bte (i32 (bg s0 20 (bg s0 294 x0 0) x2) < i32 x4)
    (F_X12_copy_r 4 (x0, 0, 0, 0, 0, 0, 0, 0) s0)
    (bck (bg s0 0 x0 0 = 11) <|
    bck (bg s0 0 (bg s0 294 x0 0) 0 = 1003 ∧ (0 : Int) ≤ x1 ∧ x1 < bg s0 4 (bg s0 294 x0 0) 0) <|
    bte (i32 ((bg s0 20 (bg s0 294 x0 0) x1) - x3) < i32 x5)
    (F_X12_copy_r 4 (x0, 0, 0, 0, 0, 0, 0, 0) s0)
    (bck (bg s0 0 x0 0 = 11) <|
    bck (bg s0 0 (bg s0 294 x0 0) 0 = 1003 ∧ (0 : Int) ≤ x2 ∧ x2 < bg s0 4 (bg s0 294 x0 0) 0) <|
    bte (i32 x5 ≤ i32 ((bg s0 20 (bg s0 294 x0 0) x2) - x4))
    (F_X12_copy_r 5 (x0, x1, x2, x3, x4, x5, 0, 0) s0)
    (F_X12_copy_r 4 (x0, 0, 0, 0, 0, 0, 0, 0) s0))))))))
    (F_X12_copy_r 3 (x0, 0, 0, 0, 0, 0, 0, 0) s0))
  | 3, (x0, _, _, _, _, _, _, _) =>
    bck (bg s0 0 x0 0 = 11) <|
    bcl (F_X12_refused s0 x0 (-4)) fun s5 v5 =>
    some (s5, v5)
  | 4, (x0, _, _, _, _, _, _, _) =>
    bck (bg s0 0 x0 0 = 11) <|
    bcl (F_X12_refused s0 x0 (-2)) fun s6 v6 =>
    some (s6, v6)
  | 5, (x0, x1, x2, x3, x4, x5, x6, _) =>
    bte (i32 x5 ≤ i32 x6)
    (some (s0, x5))
    (bte (i32 x4 ≤ i32 x3)
    (F_X12_copy_r 6 (x0, x1, x2, x3, x4, x5, x6, x6) s0)
    (F_X12_copy_r 6 (x0, x1, x2, x3, x4, x5, x6, ((x5 - 1) - x6)) s0))
  | 6, (x0, x1, x2, x3, x4, x5, x6, x7) =>
    bck (bg s0 0 x0 0 = 11) <|
    bck (bg s0 0 x0 0 = 11) <|
    bck (bg s0 0 (bg s0 298 x0 0) 0 = 1005 ∧ (0 : Int) ≤ (((40 * x1) + x3) + x7) ∧ (((40 * x1) + x3) + x7) < bg s0 4 (bg s0 298 x0 0) 0) <|
    bck (bg s0 0 (bg s0 298 x0 0) 0 = 1005 ∧ (0 : Int) ≤ (((40 * x2) + x4) + x7) ∧ (((40 * x2) + x4) + x7) < bg s0 4 (bg s0 298 x0 0) 0) <|
    bst (bw s0 9 (bg s0 298 x0 0) (((40 * x2) + x4) + x7) (bg s0 9 (bg s0 298 x0 0) (((40 * x1) + x3) + x7))) fun s7 =>
    F_X12_copy_r 5 (x0, x1, x2, x3, x4, x5, (x6 + 1), 0) s7
  | _, _ => none
partial_fixpoint
def F_X12_copy (s0 : bS) (a0 a1 a2 a3 a4 a5 : Int) : Option (bS × Int) :=
  bcl (F_X12_isShelf s0 a1) fun s1 v1 =>
  bte (i32 v1 = 0)
  (F_X12_copy_r 0 (a0, 0, 0, 0, 0, 0, 0, 0) s1)
  (bcl (F_X12_isShelf s1 a2) fun s2 v2 =>
  bte (i32 v2 = 0)
  (F_X12_copy_r 0 (a0, 0, 0, 0, 0, 0, 0, 0) s2)
  (bck (bg s2 0 a0 0 = 11) <|
  bck (bg s2 0 (bg s2 290 a0 0) 0 = 1003 ∧ (0 : Int) ≤ a1 ∧ a1 < bg s2 4 (bg s2 290 a0 0) 0) <|
  bte (i32 4 < i32 (bg s2 20 (bg s2 290 a0 0) a1))
  (F_X12_copy_r 1 (a0, 0, 0, 0, 0, 0, 0, 0) s2)
  (bck (bg s2 0 a0 0 = 11) <|
  bck (bg s2 0 (bg s2 290 a0 0) 0 = 1003 ∧ (0 : Int) ≤ a2 ∧ a2 < bg s2 4 (bg s2 290 a0 0) 0) <|
  bte (i32 4 < i32 (bg s2 20 (bg s2 290 a0 0) a2))
  (F_X12_copy_r 1 (a0, 0, 0, 0, 0, 0, 0, 0) s2)
  (bck (bg s2 0 a0 0 = 11) <|
  bck (bg s2 0 (bg s2 290 a0 0) 0 = 1003 ∧ (0 : Int) ≤ a1 ∧ a1 < bg s2 4 (bg s2 290 a0 0) 0) <|
  bte (i32 (bg s2 20 (bg s2 290 a0 0) a1) < 0)
  (F_X12_copy_r 2 (a0, a1, a2, a3, a4, a5, 0, 0) s2)
  (bck (bg s2 0 a0 0 = 11) <|
  bck (bg s2 0 (bg s2 290 a0 0) 0 = 1003 ∧ (0 : Int) ≤ a2 ∧ a2 < bg s2 4 (bg s2 290 a0 0) 0) <|
  bte (i32 (bg s2 20 (bg s2 290 a0 0) a2) < 0)
  (F_X12_copy_r 2 (a0, a1, a2, a3, a4, a5, 0, 0) s2)
  (bck (bg s2 0 a0 0 = 11) <|
  bck (bg s2 0 (bg s2 290 a0 0) 0 = 1003 ∧ (0 : Int) ≤ a1 ∧ a1 < bg s2 4 (bg s2 290 a0 0) 0) <|
  bck (bg s2 0 a0 0 = 11) <|
  bck (bg s2 0 (bg s2 290 a0 0) 0 = 1003 ∧ (0 : Int) ≤ a2 ∧ a2 < bg s2 4 (bg s2 290 a0 0) 0) <|
  bte (i32 (bg s2 20 (bg s2 290 a0 0) a1) = i32 (bg s2 20 (bg s2 290 a0 0) a2))
  (F_X12_copy_r 2 (a0, a1, a2, a3, a4, a5, 0, 0) s2)
  (F_X12_copy_r 1 (a0, 0, 0, 0, 0, 0, 0, 0) s2)))))))
set_option maxHeartbeats 4000000 in
set_option maxRecDepth 100000 in
set_option synthInstance.maxHeartbeats 4000000 in
theorem w_X12_copy_r {Γ0 : bG} {l0 : Launch} {κ : bK} {st' : bS} {v : Int} (hκ : bOk κ Γ0 l0 cX12_copy RX12 8 2 45) (hi : bIn κ yX12_copy) (hf : bFin κ (some .int) st' (some (0, v))) (b : Nat) (x0 x1 x2 x3 x4 x5 x6 x7 : Int) (s0 : bS) (h : F_X12_copy_r b (x0, x1, x2, x3, x4, x5, x6, x7) s0 = some (st', v)) : match (generalizing := false) b with | 0 => bJ κ s0 14 [(0, (2, x0))] [] | 1 => bJ κ s0 74 [(0, (2, x0))] [] | 2 => bJ κ s0 81 [(0, (2, x0)), (1, (0, x1)), (2, (0, x2)), (3, (0, x3)), (4, (0, x4)), (5, (0, x5))] [] | 3 => bJ κ s0 99 [(0, (2, x0))] [] | 4 => bJ κ s0 168 [(0, (2, x0))] [] | 5 => bJ κ s0 178 [(0, (2, x0)), (1, (0, x1)), (2, (0, x2)), (3, (0, x3)), (4, (0, x4)), (5, (0, x5)), (6, (0, x6))] [] | 6 => bJ κ s0 203 [(0, (2, x0)), (1, (0, x1)), (2, (0, x2)), (3, (0, x3)), (4, (0, x4)), (5, (0, x5)), (6, (0, x6))] [(0, x7)] | _ => True := by
  refine F_X12_copy_r.partial_correctness (fun b xs s0 r => r = (st', v) → match (generalizing := false) b with | 0 => bJ κ s0 14 [(0, (2, xs.1))] [] | 1 => bJ κ s0 74 [(0, (2, xs.1))] [] | 2 => bJ κ s0 81 [(0, (2, xs.1)), (1, (0, xs.2.1)), (2, (0, xs.2.2.1)), (3, (0, xs.2.2.2.1)), (4, (0, xs.2.2.2.2.1)), (5, (0, xs.2.2.2.2.2.1))] [] | 3 => bJ κ s0 99 [(0, (2, xs.1))] [] | 4 => bJ κ s0 168 [(0, (2, xs.1))] [] | 5 => bJ κ s0 178 [(0, (2, xs.1)), (1, (0, xs.2.1)), (2, (0, xs.2.2.1)), (3, (0, xs.2.2.2.1)), (4, (0, xs.2.2.2.2.1)), (5, (0, xs.2.2.2.2.2.1)), (6, (0, xs.2.2.2.2.2.2.1))] [] | 6 => bJ κ s0 203 [(0, (2, xs.1)), (1, (0, xs.2.1)), (2, (0, xs.2.2.1)), (3, (0, xs.2.2.2.1)), (4, (0, xs.2.2.2.2.1)), (5, (0, xs.2.2.2.2.2.1)), (6, (0, xs.2.2.2.2.2.2.1))] [(0, xs.2.2.2.2.2.2.2)] | _ => True) ?_ b (x0, x1, x2, x3, x4, x5, x6, x7) s0 _ h rfl
  intro f' ih b xs s0 r h hr
  subst hr
  match b, xs, h with
  | 0, (x0, x1, x2, x3, x4, x5, x6, x7), h =>
      show bJ κ s0 14 [(0, (2, x0))] []
      refine r_aload_n hκ 0 rfl rfl dX12_copy_14 ?_
      refine r_bipush hκ (by decide) dX12_copy_15 ?_
      obtain ⟨h28, h⟩ := bck_i h
      obtain ⟨s3, v3, h29, h⟩ := bcl_i h
      refine r_callV hκ (n' := 1) (index := 183) (w_X12_refused Γ0 l0 h29) (lw_V q3159 q3161 qs73 q146 q3162) (by decide +kernel) (t := 10) h28 rfl rfl (by decide) rfl (Nat.le_of_ble_eq_true rfl) dX12_copy_17 ?_
      exact r_iretH hκ hf h (nar_int _) dX12_copy_20
  | 1, (x0, x1, x2, x3, x4, x5, x6, x7), h =>
      show bJ κ s0 74 [(0, (2, x0))] []
      refine r_aload_n hκ 0 rfl rfl dX12_copy_74 ?_
      refine r_bipush hκ (by decide) dX12_copy_75 ?_
      obtain ⟨h30, h⟩ := bck_i h
      obtain ⟨s4, v4, h31, h⟩ := bcl_i h
      refine r_callV hκ (n' := 1) (index := 183) (w_X12_refused Γ0 l0 h31) (lw_V q3159 q3161 qs73 q146 q3162) (by decide +kernel) (t := 10) h30 rfl rfl (by decide) rfl (Nat.le_of_ble_eq_true rfl) dX12_copy_77 ?_
      exact r_iretH hκ hf h (nar_int _) dX12_copy_80
  | 2, (x0, x1, x2, x3, x4, x5, x6, x7), h =>
      show bJ κ s0 81 [(0, (2, x0)), (1, (0, x1)), (2, (0, x2)), (3, (0, x3)), (4, (0, x4)), (5, (0, x5))] []
      refine r_aload_n hκ 0 rfl rfl dX12_copy_81 ?_
      obtain ⟨h32, h⟩ := bck_i h
      refine r_get hκ (t := 10) (k := 19) (r := 290) h32 rfl in_X12 (by decide) rfl q3070 (Or.inl rfl) dX12_copy_82 ?_
      refine r_iload_n hκ 1 rfl rfl dX12_copy_85 ?_
      obtain ⟨⟨h33, h34⟩, h⟩ := bck_i h
      refine r_iald hκ h33 h34 dX12_copy_86 ?_
      refine r_if_lt hκ (tgt := 99) (by decide) dX12_copy_87 (fun h35 => ?_) (fun h35 => ?_)
      · replace h := (bte_i h).1 h35
        exact r_sub [0] rfl (ih 3 _ _ _ h rfl)
      · replace h := (bte_i h).2 h35
        refine r_aload_n hκ 0 rfl rfl dX12_copy_90 ?_
        obtain ⟨h36, h⟩ := bck_i h
        refine r_get hκ (t := 10) (k := 19) (r := 290) h36 rfl in_X12 (by decide) rfl q3070 (Or.inl rfl) dX12_copy_91 ?_
        refine r_iload_n hκ 2 rfl rfl dX12_copy_94 ?_
        obtain ⟨⟨h37, h38⟩, h⟩ := bck_i h
        refine r_iald hκ h37 h38 dX12_copy_95 ?_
        refine r_if_ge hκ (tgt := 106) (by decide) dX12_copy_96 (fun h39 => ?_) (fun h39 => ?_)
        · replace h := (bte_i h).1 h39
          refine r_iload_n hκ 3 rfl rfl dX12_copy_106 ?_
          refine r_if_lt hκ (tgt := 168) (by decide) dX12_copy_107 (fun h40 => ?_) (fun h40 => ?_)
          · replace h := (bte_i h).1 h40
            exact r_sub [0] rfl (ih 4 _ _ _ h rfl)
          · replace h := (bte_i h).2 h40
            refine r_iload hκ 4 rfl dX12_copy_110 ?_
            refine r_if_lt hκ (tgt := 168) (by decide) dX12_copy_112 (fun h41 => ?_) (fun h41 => ?_)
            · replace h := (bte_i h).1 h41
              exact r_sub [0] rfl (ih 4 _ _ _ h rfl)
            · replace h := (bte_i h).2 h41
              refine r_iload hκ 5 rfl dX12_copy_115 ?_
              refine r_if_lt hκ (tgt := 168) (by decide) dX12_copy_117 (fun h42 => ?_) (fun h42 => ?_)
              · replace h := (bte_i h).1 h42
                exact r_sub [0] rfl (ih 4 _ _ _ h rfl)
              · replace h := (bte_i h).2 h42
                refine r_iload_n hκ 3 rfl rfl dX12_copy_120 ?_
                refine r_aload_n hκ 0 rfl rfl dX12_copy_121 ?_
                obtain ⟨h43, h⟩ := bck_i h
                refine r_get hκ (t := 10) (k := 20) (r := 294) h43 rfl in_X12 (by decide) rfl q3071 (Or.inl rfl) dX12_copy_122 ?_
                refine r_iload_n hκ 1 rfl rfl dX12_copy_125 ?_
                obtain ⟨⟨h44, h45⟩, h⟩ := bck_i h
                refine r_iald hκ h44 h45 dX12_copy_126 ?_
                refine r_icmp_gt hκ (tgt := 168) (by decide) dX12_copy_127 (fun h46 => ?_) (fun h46 => ?_)
                · replace h := (bte_i h).1 h46
                  exact r_sub [0] rfl (ih 4 _ _ _ h rfl)
                · replace h := (bte_i h).2 h46
                  refine r_iload hκ 4 rfl dX12_copy_130 ?_
                  refine r_aload_n hκ 0 rfl rfl dX12_copy_132 ?_
                  obtain ⟨h47, h⟩ := bck_i h
                  refine r_get hκ (t := 10) (k := 20) (r := 294) h47 rfl in_X12 (by decide) rfl q3071 (Or.inl rfl) dX12_copy_133 ?_
                  refine r_iload_n hκ 2 rfl rfl dX12_copy_136 ?_
                  obtain ⟨⟨h48, h49⟩, h⟩ := bck_i h
                  refine r_iald hκ h48 h49 dX12_copy_137 ?_
                  refine r_icmp_gt hκ (tgt := 168) (by decide) dX12_copy_138 (fun h50 => ?_) (fun h50 => ?_)
                  · replace h := (bte_i h).1 h50
                    exact r_sub [0] rfl (ih 4 _ _ _ h rfl)
                  · replace h := (bte_i h).2 h50
                    refine r_iload hκ 5 rfl dX12_copy_141 ?_
                    refine r_aload_n hκ 0 rfl rfl dX12_copy_143 ?_
                    obtain ⟨h51, h⟩ := bck_i h
                    refine r_get hκ (t := 10) (k := 20) (r := 294) h51 rfl in_X12 (by decide) rfl q3071 (Or.inl rfl) dX12_copy_144 ?_
                    refine r_iload_n hκ 1 rfl rfl dX12_copy_147 ?_
                    obtain ⟨⟨h52, h53⟩, h⟩ := bck_i h
                    refine r_iald hκ h52 h53 dX12_copy_148 ?_
                    refine r_iload_n hκ 3 rfl rfl dX12_copy_149 ?_
                    refine r_isub hκ dX12_copy_150 ?_
                    refine r_icmp_gt hκ (tgt := 168) (by decide) dX12_copy_151 (fun h54 => ?_) (fun h54 => ?_)
                    · replace h := (bte_i h).1 h54
                      exact r_sub [0] rfl (ih 4 _ _ _ h rfl)
                    · replace h := (bte_i h).2 h54
                      refine r_iload hκ 5 rfl dX12_copy_154 ?_
                      refine r_aload_n hκ 0 rfl rfl dX12_copy_156 ?_
                      obtain ⟨h55, h⟩ := bck_i h
                      refine r_get hκ (t := 10) (k := 20) (r := 294) h55 rfl in_X12 (by decide) rfl q3071 (Or.inl rfl) dX12_copy_157 ?_
                      refine r_iload_n hκ 2 rfl rfl dX12_copy_160 ?_
                      obtain ⟨⟨h56, h57⟩, h⟩ := bck_i h
                      refine r_iald hκ h56 h57 dX12_copy_161 ?_
                      refine r_iload hκ 4 rfl dX12_copy_162 ?_
                      refine r_isub hκ dX12_copy_164 ?_
                      refine r_icmp_le hκ (tgt := 175) (by decide) dX12_copy_165 (fun h58 => ?_) (fun h58 => ?_)
                      · replace h := (bte_i h).1 h58
                        refine r_iconst hκ dX12_copy_175 ?_
                        refine r_istore hκ (L2 := [(6, (0, 0)), (0, (2, x0)), (1, (0, x1)), (2, (0, x2)), (3, (0, x3)), (4, (0, x4)), (5, (0, x5))]) (by decide) rfl dX12_copy_176 ?_
                        exact r_sub [1, 2, 3, 4, 5, 6, 0] rfl (ih 5 _ _ _ h rfl)
                      · replace h := (bte_i h).2 h58
                        exact r_sub [0] rfl (ih 4 _ _ _ h rfl)
        · replace h := (bte_i h).2 h39
          exact r_sub [0] rfl (ih 3 _ _ _ h rfl)
  | 3, (x0, x1, x2, x3, x4, x5, x6, x7), h =>
      show bJ κ s0 99 [(0, (2, x0))] []
      refine r_aload_n hκ 0 rfl rfl dX12_copy_99 ?_
      refine r_bipush hκ (by decide) dX12_copy_100 ?_
      obtain ⟨h59, h⟩ := bck_i h
      obtain ⟨s5, v5, h60, h⟩ := bcl_i h
      refine r_callV hκ (n' := 1) (index := 183) (w_X12_refused Γ0 l0 h60) (lw_V q3159 q3161 qs73 q146 q3162) (by decide +kernel) (t := 10) h59 rfl rfl (by decide) rfl (Nat.le_of_ble_eq_true rfl) dX12_copy_102 ?_
      exact r_iretH hκ hf h (nar_int _) dX12_copy_105
  | 4, (x0, x1, x2, x3, x4, x5, x6, x7), h =>
      show bJ κ s0 168 [(0, (2, x0))] []
      refine r_aload_n hκ 0 rfl rfl dX12_copy_168 ?_
      refine r_bipush hκ (by decide) dX12_copy_169 ?_
      obtain ⟨h61, h⟩ := bck_i h
      obtain ⟨s6, v6, h62, h⟩ := bcl_i h
      refine r_callV hκ (n' := 1) (index := 183) (w_X12_refused Γ0 l0 h62) (lw_V q3159 q3161 qs73 q146 q3162) (by decide +kernel) (t := 10) h61 rfl rfl (by decide) rfl (Nat.le_of_ble_eq_true rfl) dX12_copy_171 ?_
      exact r_iretH hκ hf h (nar_int _) dX12_copy_174
  | 5, (x0, x1, x2, x3, x4, x5, x6, x7), h =>
      show bJ κ s0 178 [(0, (2, x0)), (1, (0, x1)), (2, (0, x2)), (3, (0, x3)), (4, (0, x4)), (5, (0, x5)), (6, (0, x6))] []
      refine r_iload hκ 6 rfl dX12_copy_178 ?_
      refine r_iload hκ 5 rfl dX12_copy_180 ?_
      refine r_icmp_ge hκ (tgt := 240) (by decide) dX12_copy_182 (fun h63 => ?_) (fun h63 => ?_)
      · replace h := (bte_i h).1 h63
        refine r_iload hκ 5 rfl dX12_copy_240 ?_
        exact r_iretH hκ hf h (nar_int _) dX12_copy_242
      · replace h := (bte_i h).2 h63
        refine r_iload_n hκ 3 rfl rfl dX12_copy_185 ?_
        refine r_iload hκ 4 rfl dX12_copy_186 ?_
        refine r_icmp_ge hκ (tgt := 201) (by decide) dX12_copy_188 (fun h64 => ?_) (fun h64 => ?_)
        · replace h := (bte_i h).1 h64
          refine r_iload hκ 6 rfl dX12_copy_201 ?_
          exact r_sub [0, 1, 2, 3, 4, 5, 6] rfl (ih 6 _ _ _ h rfl)
        · replace h := (bte_i h).2 h64
          refine r_iload hκ 5 rfl dX12_copy_191 ?_
          refine r_iconst hκ dX12_copy_193 ?_
          refine r_isub hκ dX12_copy_194 ?_
          refine r_iload hκ 6 rfl dX12_copy_195 ?_
          refine r_isub hκ dX12_copy_197 ?_
          refine r_goto hκ (tgt := 203) (by decide) dX12_copy_198 ?_
          exact r_sub [0, 1, 2, 3, 4, 5, 6] rfl (ih 6 _ _ _ h rfl)
  | 6, (x0, x1, x2, x3, x4, x5, x6, x7), h =>
      show bJ κ s0 203 [(0, (2, x0)), (1, (0, x1)), (2, (0, x2)), (3, (0, x3)), (4, (0, x4)), (5, (0, x5)), (6, (0, x6))] [(0, x7)]
      refine r_istore hκ (L2 := [(7, (0, x7)), (0, (2, x0)), (1, (0, x1)), (2, (0, x2)), (3, (0, x3)), (4, (0, x4)), (5, (0, x5)), (6, (0, x6))]) (by decide) rfl dX12_copy_203 ?_
      refine r_aload_n hκ 1 rfl rfl dX12_copy_205 ?_
      obtain ⟨h65, h⟩ := bck_i h
      refine r_get hκ (t := 10) (k := 21) (r := 298) h65 rfl in_X12 (by decide) rfl q3072 (Or.inl rfl) dX12_copy_206 ?_
      refine r_bipush hκ (by decide) dX12_copy_209 ?_
      refine r_iload_n hκ 3 rfl rfl dX12_copy_211 ?_
      refine r_imul hκ dX12_copy_212 ?_
      refine r_iload hκ 5 rfl dX12_copy_213 ?_
      refine r_iadd hκ dX12_copy_215 ?_
      refine r_iload hκ 0 rfl dX12_copy_216 ?_
      refine r_iadd hκ dX12_copy_218 ?_
      refine r_aload_n hκ 1 rfl rfl dX12_copy_219 ?_
      obtain ⟨h66, h⟩ := bck_i h
      refine r_get hκ (t := 10) (k := 21) (r := 298) h66 rfl in_X12 (by decide) rfl q3072 (Or.inl rfl) dX12_copy_220 ?_
      refine r_bipush hκ (by decide) dX12_copy_223 ?_
      refine r_iload_n hκ 2 rfl rfl dX12_copy_225 ?_
      refine r_imul hκ dX12_copy_226 ?_
      refine r_iload_n hκ 4 rfl rfl dX12_copy_227 ?_
      refine r_iadd hκ dX12_copy_228 ?_
      refine r_iload hκ 0 rfl dX12_copy_229 ?_
      refine r_iadd hκ dX12_copy_231 ?_
      obtain ⟨⟨h67, h68⟩, h⟩ := bck_i h
      refine r_lald hκ h67 h68 dX12_copy_232 ?_
      obtain ⟨⟨h69, h70⟩, h⟩ := bck_i h
      refine r_last hκ h69 h70 dX12_copy_233 (fun s7 es7 => ?_)
      replace h := bst_i h s7 es7
      refine r_iinc hκ (L2 := [(6, (0, (x6 + 1))), (7, (0, x7)), (0, (2, x0)), (1, (0, x1)), (2, (0, x2)), (3, (0, x3)), (4, (0, x4)), (5, (0, x5))]) 7 rfl (by decide) rfl dX12_copy_234 ?_
      refine r_goto hκ (tgt := 178) (by decide) dX12_copy_237 ?_
      exact r_sub [2, 3, 4, 5, 6, 7, 0] rfl (ih 5 _ _ _ h rfl)
  | b + 7, _, h => trivial
set_option maxHeartbeats 4000000 in
set_option maxRecDepth 100000 in
theorem w_X12_copy (Γ0 : bG) (l0 : Launch) {s0 st' : bS} {v a0 a1 a2 a3 a4 a5 : Int} (h : F_X12_copy s0 a0 a1 a2 a3 a4 a5 = some (st', v)) : bCt Γ0 l0 yX12_copy cX12_copy 8 (some .int) 2 45 [(2, a0), (0, a1), (0, a2), (0, a3), (0, a4), (0, a5)] s0 st' (some (0, v)) := by
  refine b_ent (own := RX12) (by decide +kernel) rfl (Nat.le_of_ble_eq_true rfl) (L := [(0, (2, a0)), (1, (0, a1)), (2, (0, a2)), (3, (0, a3)), (4, (0, a4)), (5, (0, a5))]) rfl ?_
  intro κ hκ hi hf
  unfold F_X12_copy at h
  refine r_iload_n hκ 1 rfl rfl dX12_copy_0 ?_
  obtain ⟨s1, v1, h1, h⟩ := bcl_i h
  refine r_callS hκ (n' := 1) (index := 327) (w_X12_isShelf Γ0 l0 h1) (lw_S q3499 q3500 q146 q3501) (by decide +kernel) rfl (by decide) rfl (Nat.le_of_ble_eq_true rfl) dX12_copy_1 ?_
  refine r_if_eq hκ (tgt := 14) (by decide) dX12_copy_4 (fun h2 => ?_) (fun h2 => ?_)
  · replace h := (bte_i h).1 h2
    exact r_sub [0] rfl (w_X12_copy_r hκ hi hf 0 _ _ _ _ _ _ _ _ _ h)
  · replace h := (bte_i h).2 h2
    refine r_iload_n hκ 2 rfl rfl dX12_copy_7 ?_
    obtain ⟨s2, v2, h3, h⟩ := bcl_i h
    refine r_callS hκ (n' := 1) (index := 327) (w_X12_isShelf Γ0 l0 h3) (lw_S q3499 q3500 q146 q3501) (by decide +kernel) rfl (by decide) rfl (Nat.le_of_ble_eq_true rfl) dX12_copy_8 ?_
    refine r_if_ne hκ (tgt := 21) (by decide) dX12_copy_11 (fun h4 => ?_) (fun h4 => ?_)
    · replace h := (bte_i h).2 h4
      refine r_aload_n hκ 0 rfl rfl dX12_copy_21 ?_
      obtain ⟨h5, h⟩ := bck_i h
      refine r_get hκ (t := 10) (k := 19) (r := 290) h5 rfl in_X12 (by decide) rfl q3070 (Or.inl rfl) dX12_copy_22 ?_
      refine r_iload_n hκ 1 rfl rfl dX12_copy_25 ?_
      obtain ⟨⟨h6, h7⟩, h⟩ := bck_i h
      refine r_iald hκ h6 h7 dX12_copy_26 ?_
      refine r_iconst hκ dX12_copy_27 ?_
      refine r_icmp_gt hκ (tgt := 74) (by decide) dX12_copy_28 (fun h8 => ?_) (fun h8 => ?_)
      · replace h := (bte_i h).1 h8
        exact r_sub [0] rfl (w_X12_copy_r hκ hi hf 1 _ _ _ _ _ _ _ _ _ h)
      · replace h := (bte_i h).2 h8
        refine r_aload_n hκ 0 rfl rfl dX12_copy_31 ?_
        obtain ⟨h9, h⟩ := bck_i h
        refine r_get hκ (t := 10) (k := 19) (r := 290) h9 rfl in_X12 (by decide) rfl q3070 (Or.inl rfl) dX12_copy_32 ?_
        refine r_iload_n hκ 2 rfl rfl dX12_copy_35 ?_
        obtain ⟨⟨h10, h11⟩, h⟩ := bck_i h
        refine r_iald hκ h10 h11 dX12_copy_36 ?_
        refine r_iconst hκ dX12_copy_37 ?_
        refine r_icmp_gt hκ (tgt := 74) (by decide) dX12_copy_38 (fun h12 => ?_) (fun h12 => ?_)
        · replace h := (bte_i h).1 h12
          exact r_sub [0] rfl (w_X12_copy_r hκ hi hf 1 _ _ _ _ _ _ _ _ _ h)
        · replace h := (bte_i h).2 h12
          refine r_aload_n hκ 0 rfl rfl dX12_copy_41 ?_
          obtain ⟨h13, h⟩ := bck_i h
          refine r_get hκ (t := 10) (k := 19) (r := 290) h13 rfl in_X12 (by decide) rfl q3070 (Or.inl rfl) dX12_copy_42 ?_
          refine r_iload_n hκ 1 rfl rfl dX12_copy_45 ?_
          obtain ⟨⟨h14, h15⟩, h⟩ := bck_i h
          refine r_iald hκ h14 h15 dX12_copy_46 ?_
          refine r_if_lt hκ (tgt := 81) (by decide) dX12_copy_47 (fun h16 => ?_) (fun h16 => ?_)
          · replace h := (bte_i h).1 h16
            exact r_sub [0, 1, 2, 3, 4, 5] rfl (w_X12_copy_r hκ hi hf 2 _ _ _ _ _ _ _ _ _ h)
          · replace h := (bte_i h).2 h16
            refine r_aload_n hκ 0 rfl rfl dX12_copy_50 ?_
            obtain ⟨h17, h⟩ := bck_i h
            refine r_get hκ (t := 10) (k := 19) (r := 290) h17 rfl in_X12 (by decide) rfl q3070 (Or.inl rfl) dX12_copy_51 ?_
            refine r_iload_n hκ 2 rfl rfl dX12_copy_54 ?_
            obtain ⟨⟨h18, h19⟩, h⟩ := bck_i h
            refine r_iald hκ h18 h19 dX12_copy_55 ?_
            refine r_if_lt hκ (tgt := 81) (by decide) dX12_copy_56 (fun h20 => ?_) (fun h20 => ?_)
            · replace h := (bte_i h).1 h20
              exact r_sub [0, 1, 2, 3, 4, 5] rfl (w_X12_copy_r hκ hi hf 2 _ _ _ _ _ _ _ _ _ h)
            · replace h := (bte_i h).2 h20
              refine r_aload_n hκ 0 rfl rfl dX12_copy_59 ?_
              obtain ⟨h21, h⟩ := bck_i h
              refine r_get hκ (t := 10) (k := 19) (r := 290) h21 rfl in_X12 (by decide) rfl q3070 (Or.inl rfl) dX12_copy_60 ?_
              refine r_iload_n hκ 1 rfl rfl dX12_copy_63 ?_
              obtain ⟨⟨h22, h23⟩, h⟩ := bck_i h
              refine r_iald hκ h22 h23 dX12_copy_64 ?_
              refine r_aload_n hκ 0 rfl rfl dX12_copy_65 ?_
              obtain ⟨h24, h⟩ := bck_i h
              refine r_get hκ (t := 10) (k := 19) (r := 290) h24 rfl in_X12 (by decide) rfl q3070 (Or.inl rfl) dX12_copy_66 ?_
              refine r_iload_n hκ 2 rfl rfl dX12_copy_69 ?_
              obtain ⟨⟨h25, h26⟩, h⟩ := bck_i h
              refine r_iald hκ h25 h26 dX12_copy_70 ?_
              refine r_icmp_eq hκ (tgt := 81) (by decide) dX12_copy_71 (fun h27 => ?_) (fun h27 => ?_)
              · replace h := (bte_i h).1 h27
                exact r_sub [0, 1, 2, 3, 4, 5] rfl (w_X12_copy_r hκ hi hf 2 _ _ _ _ _ _ _ _ _ h)
              · replace h := (bte_i h).2 h27
                exact r_sub [0] rfl (w_X12_copy_r hκ hi hf 1 _ _ _ _ _ _ _ _ _ h)
    · replace h := (bte_i h).1 h4
      exact r_sub [0] rfl (w_X12_copy_r hκ hi hf 0 _ _ _ _ _ _ _ _ _ h)
/-- EditsMeetModel.element(II)J -/
def F_X12_element (s0 : bS) (a0 a1 a2 : Int) : Option (bS × Int) :=
  bcl (F_X12_isShelf s0 a1) fun s1 v1 =>
  bte (i32 v1 = 0)
  (some (s1, 0))
  (bck (bg s1 0 a0 0 = 11) <|
  bck (bg s1 0 (bg s1 290 a0 0) 0 = 1003 ∧ (0 : Int) ≤ a1 ∧ a1 < bg s1 4 (bg s1 290 a0 0) 0) <|
  bcl (F_X12_in s1 (b_i2l (bg s1 20 (bg s1 290 a0 0) a1)) 0 4) fun s2 v2 =>
  bte (i32 v2 = 0)
  (some (s2, 0))
  (bck (bg s2 0 a0 0 = 11) <|
  bck (bg s2 0 (bg s2 294 a0 0) 0 = 1003 ∧ (0 : Int) ≤ a1 ∧ a1 < bg s2 4 (bg s2 294 a0 0) 0) <|
  bcl (F_X12_in s2 (b_i2l a2) 0 (b_i2l ((bg s2 20 (bg s2 294 a0 0) a1) - 1))) fun s3 v3 =>
  bte (i32 v3 = 0)
  (some (s3, 0))
  (bck (bg s3 0 a0 0 = 11) <|
  bck (bg s3 0 (bg s3 298 a0 0) 0 = 1005 ∧ (0 : Int) ≤ ((40 * a1) + a2) ∧ ((40 * a1) + a2) < bg s3 4 (bg s3 298 a0 0) 0) <|
  some (s3, (bg s3 9 (bg s3 298 a0 0) ((40 * a1) + a2))))))
set_option maxHeartbeats 4000000 in
set_option maxRecDepth 100000 in
theorem w_X12_element (Γ0 : bG) (l0 : Launch) {s0 st' : bS} {v a0 a1 a2 : Int} (h : F_X12_element s0 a0 a1 a2 = some (st', v)) : bCt Γ0 l0 yX12_element cX12_element 3 (some .long) 2 45 [(2, a0), (0, a1), (0, a2)] s0 st' (some (1, v)) := by
  refine b_ent (own := RX12) (by decide +kernel) rfl (Nat.le_of_ble_eq_true rfl) (L := [(0, (2, a0)), (1, (0, a1)), (2, (0, a2))]) rfl ?_
  intro κ hκ hi hf
  unfold F_X12_element at h
  refine r_iload_n hκ 1 rfl rfl dX12_element_0 ?_
  obtain ⟨s1, v1, h1, h⟩ := bcl_i h
  refine r_callS hκ (n' := 1) (index := 327) (w_X12_isShelf Γ0 l0 h1) (lw_S q3499 q3500 q146 q3501) (by decide +kernel) rfl (by decide) rfl (Nat.le_of_ble_eq_true rfl) dX12_element_1 ?_
  refine r_if_eq hκ (tgt := 56) (by decide) dX12_element_4 (fun h2 => ?_) (fun h2 => ?_)
  · replace h := (bte_i h).1 h2
    refine r_lconst hκ (x := 0) (by decide) dX12_element_56 ?_
    exact r_lretH hκ hf h dX12_element_57
  · replace h := (bte_i h).2 h2
    refine r_aload_n hκ 0 rfl rfl dX12_element_7 ?_
    obtain ⟨h3, h⟩ := bck_i h
    refine r_get hκ (t := 10) (k := 19) (r := 290) h3 rfl in_X12 (by decide) rfl q3070 (Or.inl rfl) dX12_element_8 ?_
    refine r_iload_n hκ 1 rfl rfl dX12_element_11 ?_
    obtain ⟨⟨h4, h5⟩, h⟩ := bck_i h
    refine r_iald hκ h4 h5 dX12_element_12 ?_
    refine r_i2l hκ dX12_element_13 ?_
    refine r_lconst hκ (x := 0) (by decide) dX12_element_14 ?_
    refine r_ldcl hκ (x := 4) q3478 (by decide) dX12_element_15 ?_
    obtain ⟨s2, v2, h6, h⟩ := bcl_i h
    refine r_callS hκ (n' := 3) (index := 175) (w_X12_in Γ0 l0 h6) (lw_S q3156 q3157 q146 q3158) (by decide +kernel) rfl (by decide) rfl (Nat.le_of_ble_eq_true rfl) dX12_element_18 ?_
    refine r_if_eq hκ (tgt := 56) (by decide) dX12_element_21 (fun h7 => ?_) (fun h7 => ?_)
    · replace h := (bte_i h).1 h7
      refine r_lconst hκ (x := 0) (by decide) dX12_element_56 ?_
      exact r_lretH hκ hf h dX12_element_57
    · replace h := (bte_i h).2 h7
      refine r_iload_n hκ 2 rfl rfl dX12_element_24 ?_
      refine r_i2l hκ dX12_element_25 ?_
      refine r_lconst hκ (x := 0) (by decide) dX12_element_26 ?_
      refine r_aload_n hκ 0 rfl rfl dX12_element_27 ?_
      obtain ⟨h8, h⟩ := bck_i h
      refine r_get hκ (t := 10) (k := 20) (r := 294) h8 rfl in_X12 (by decide) rfl q3071 (Or.inl rfl) dX12_element_28 ?_
      refine r_iload_n hκ 1 rfl rfl dX12_element_31 ?_
      obtain ⟨⟨h9, h10⟩, h⟩ := bck_i h
      refine r_iald hκ h9 h10 dX12_element_32 ?_
      refine r_iconst hκ dX12_element_33 ?_
      refine r_isub hκ dX12_element_34 ?_
      refine r_i2l hκ dX12_element_35 ?_
      obtain ⟨s3, v3, h11, h⟩ := bcl_i h
      refine r_callS hκ (n' := 3) (index := 175) (w_X12_in Γ0 l0 h11) (lw_S q3156 q3157 q146 q3158) (by decide +kernel) rfl (by decide) rfl (Nat.le_of_ble_eq_true rfl) dX12_element_36 ?_
      refine r_if_eq hκ (tgt := 56) (by decide) dX12_element_39 (fun h12 => ?_) (fun h12 => ?_)
      · replace h := (bte_i h).1 h12
        refine r_lconst hκ (x := 0) (by decide) dX12_element_56 ?_
        exact r_lretH hκ hf h dX12_element_57
      · replace h := (bte_i h).2 h12
        refine r_aload_n hκ 0 rfl rfl dX12_element_42 ?_
        obtain ⟨h13, h⟩ := bck_i h
        refine r_get hκ (t := 10) (k := 21) (r := 298) h13 rfl in_X12 (by decide) rfl q3072 (Or.inl rfl) dX12_element_43 ?_
        refine r_bipush hκ (by decide) dX12_element_46 ?_
        refine r_iload_n hκ 1 rfl rfl dX12_element_48 ?_
        refine r_imul hκ dX12_element_49 ?_
        refine r_iload_n hκ 2 rfl rfl dX12_element_50 ?_
        refine r_iadd hκ dX12_element_51 ?_
        obtain ⟨⟨h14, h15⟩, h⟩ := bck_i h
        refine r_lald hκ h14 h15 dX12_element_52 ?_
        refine r_goto hκ (tgt := 57) (by decide) dX12_element_53 ?_
        exact r_lretH hκ hf h dX12_element_57
/-- EditsMeetModel.holds(I)I -/
def F_X12_holds (s0 : bS) (a0 a1 : Int) : Option (bS × Int) :=
  bcl (F_X12_isShelf s0 a1) fun s1 v1 =>
  bte (i32 v1 = 0)
  (some (s1, (-1)))
  (bck (bg s1 0 a0 0 = 11) <|
  bck (bg s1 0 (bg s1 290 a0 0) 0 = 1003 ∧ (0 : Int) ≤ a1 ∧ a1 < bg s1 4 (bg s1 290 a0 0) 0) <|
  some (s1, (bg s1 20 (bg s1 290 a0 0) a1)))
set_option maxHeartbeats 4000000 in
set_option maxRecDepth 100000 in
theorem w_X12_holds (Γ0 : bG) (l0 : Launch) {s0 st' : bS} {v a0 a1 : Int} (h : F_X12_holds s0 a0 a1 = some (st', v)) : bCt Γ0 l0 yX12_holds cX12_holds 2 (some .int) 2 45 [(2, a0), (0, a1)] s0 st' (some (0, v)) := by
  refine b_ent (own := RX12) (by decide +kernel) rfl (Nat.le_of_ble_eq_true rfl) (L := [(0, (2, a0)), (1, (0, a1))]) rfl ?_
  intro κ hκ hi hf
  unfold F_X12_holds at h
  refine r_iload_n hκ 1 rfl rfl dX12_holds_0 ?_
  obtain ⟨s1, v1, h1, h⟩ := bcl_i h
  refine r_callS hκ (n' := 1) (index := 327) (w_X12_isShelf Γ0 l0 h1) (lw_S q3499 q3500 q146 q3501) (by decide +kernel) rfl (by decide) rfl (Nat.le_of_ble_eq_true rfl) dX12_holds_1 ?_
  refine r_if_eq hκ (tgt := 16) (by decide) dX12_holds_4 (fun h2 => ?_) (fun h2 => ?_)
  · replace h := (bte_i h).1 h2
    refine r_iconst hκ dX12_holds_16 ?_
    exact r_iretH hκ hf h (nar_int _) dX12_holds_17
  · replace h := (bte_i h).2 h2
    refine r_aload_n hκ 0 rfl rfl dX12_holds_7 ?_
    obtain ⟨h3, h⟩ := bck_i h
    refine r_get hκ (t := 10) (k := 19) (r := 290) h3 rfl in_X12 (by decide) rfl q3070 (Or.inl rfl) dX12_holds_8 ?_
    refine r_iload_n hκ 1 rfl rfl dX12_holds_11 ?_
    obtain ⟨⟨h4, h5⟩, h⟩ := bck_i h
    refine r_iald hκ h4 h5 dX12_holds_12 ?_
    refine r_goto hκ (tgt := 17) (by decide) dX12_holds_13 ?_
    exact r_iretH hκ hf h (nar_int _) dX12_holds_17
/-- EditsMeetModel.show(III)I -/
def F_X12_show_r (b : Nat) (x0 x1 x2 x3 : Int) (s0 : bS) : Option (bS × Int) :=
  match b with
  | 0 =>
    bck (bg s0 0 x0 0 = 11) <|
    bcl (F_X12_refused s0 x0 (-2)) fun s3 v3 =>
    some (s3, v3)
  | 1 =>
    bte (i32 x2 = i32 (-1))
    (bck (bg s0 0 x0 0 = 11) <|
    bck (bg s0 0 (bg s0 290 x0 0) 0 = 1003 ∧ (0 : Int) ≤ x1 ∧ x1 < bg s0 4 (bg s0 290 x0 0) 0) <|
    bst (bw s0 20 (bg s0 290 x0 0) x1 (-1)) fun s16 =>
    some (s16, 1))
    (bck (bg s0 0 x0 0 = 11) <|
    bcl (F_X12_isKept s0 x0 x2) fun s4 v4 =>
    bte (i32 v4 = 0)
    (bck (bg s4 0 x0 0 = 11) <|
    bcl (F_X12_refused s4 x0 (-4)) fun s15 v11 =>
    some (s15, v11))
    (bck (bg s4 0 x0 0 = 11) <|
    bcl (F_X12_parts s4 x0 x2) fun s5 v5 =>
    bcl (F_X12_in s5 (b_i2l x3) 0 (b_i2l (v5 - 1))) fun s6 v6 =>
    bte (i32 v6 = 0)
    (bck (bg s6 0 x0 0 = 11) <|
    bcl (F_X12_refused s6 x0 (-2)) fun s14 v10 =>
    some (s14, v10))
    (bck (bg s6 0 x0 0 = 11) <|
    bcl (F_X12_beginOf s6 x0 x2 x3) fun s7 v7 =>
    bck (bg s7 0 x0 0 = 11) <|
    bck (bg s7 0 x0 0 = 11) <|
    bck (bg s7 0 (bg s7 214 x0 0) 0 = 1010 ∧ (0 : Int) ≤ x2 ∧ x2 < bg s7 4 (bg s7 214 x0 0) 0) <|
    bck (bg s7 0 (bg s7 10 (bg s7 214 x0 0) x2) 0 = 1003 ∧ (0 : Int) ≤ v7 ∧ v7 < bg s7 4 (bg s7 10 (bg s7 214 x0 0) x2) 0) <|
    bck (bg s7 0 (bg s7 310 x0 0) 0 = 1003 ∧ (0 : Int) ≤ x1 ∧ x1 < bg s7 4 (bg s7 310 x0 0) 0) <|
    bst (bw s7 20 (bg s7 310 x0 0) x1 (bg s7 20 (bg s7 10 (bg s7 214 x0 0) x2) v7)) fun s8 =>
    bck (bg s8 0 x0 0 = 11) <|
    bck (bg s8 0 x0 0 = 11) <|
    bcl (F_X12_beginOf s8 x0 x2 (x3 + 1)) fun s9 v8 =>
    bck (bg s9 0 (bg s8 306 x0 0) 0 = 1003 ∧ (0 : Int) ≤ x1 ∧ x1 < bg s9 4 (bg s8 306 x0 0) 0) <|
    bst (bw s9 20 (bg s8 306 x0 0) x1 (v8 - v7)) fun s10 =>
    bck (bg s10 0 x0 0 = 11) <|
    bck (bg s10 0 x0 0 = 11) <|
    bck (bg s10 0 (bg s10 214 x0 0) 0 = 1010 ∧ (0 : Int) ≤ x2 ∧ x2 < bg s10 4 (bg s10 214 x0 0) 0) <|
    bck (bg s10 0 (bg s10 10 (bg s10 214 x0 0) x2) 0 = 1003 ∧ (0 : Int) ≤ v7 ∧ v7 < bg s10 4 (bg s10 10 (bg s10 214 x0 0) x2) 0) <|
    bcl (F_X12_kindTold s10 (bg s10 20 (bg s10 10 (bg s10 214 x0 0) x2) v7)) fun s11 v9 =>
    bck (bg s11 0 (bg s10 302 x0 0) 0 = 1003 ∧ (0 : Int) ≤ x1 ∧ x1 < bg s11 4 (bg s10 302 x0 0) 0) <|
    bst (bw s11 20 (bg s10 302 x0 0) x1 v9) fun s12 =>
    bck (bg s12 0 x0 0 = 11) <|
    bck (bg s12 0 x0 0 = 11) <|
    bck (bg s12 0 (bg s12 302 x0 0) 0 = 1003 ∧ (0 : Int) ≤ x1 ∧ x1 < bg s12 4 (bg s12 302 x0 0) 0) <|
    bck (bg s12 0 (bg s12 290 x0 0) 0 = 1003 ∧ (0 : Int) ≤ x1 ∧ x1 < bg s12 4 (bg s12 290 x0 0) 0) <|
    bst (bw s12 20 (bg s12 290 x0 0) x1 (10 + (bg s12 20 (bg s12 302 x0 0) x1))) fun s13 =>
    some (s13, 1))))
  | _ => none
def F_X12_show (s0 : bS) (a0 a1 a2 a3 : Int) : Option (bS × Int) :=
  bcl (F_X12_isShelf s0 a1) fun s1 v1 =>
  bte (i32 v1 = 0)
  (F_X12_show_r 0 a0 0 0 0 s1)
  (bte (i32 a2 = i32 (-1))
  (F_X12_show_r 1 a0 a1 a2 a3 s1)
  (bcl (F_X12_isEdit s1 a2) fun s2 v2 =>
  bte (i32 v2 = 0)
  (F_X12_show_r 0 a0 0 0 0 s2)
  (F_X12_show_r 1 a0 a1 a2 a3 s2)))
set_option maxHeartbeats 4000000 in
set_option maxRecDepth 100000 in
set_option synthInstance.maxHeartbeats 4000000 in
theorem w_X12_show_r {Γ0 : bG} {l0 : Launch} {κ : bK} {st' : bS} {v : Int} (hκ : bOk κ Γ0 l0 cX12_show RX12 5 3 65) (hi : bIn κ yX12_show) (hf : bFin κ (some .int) st' (some (0, v))) (b : Nat) (x0 x1 x2 x3 : Int) (s0 : bS) (h : F_X12_show_r b x0 x1 x2 x3 s0 = some (st', v)) : match (generalizing := false) b with | 0 => bJ κ s0 19 [(0, (2, x0))] [] | 1 => bJ κ s0 26 [(0, (2, x0)), (1, (0, x1)), (2, (0, x2)), (3, (0, x3))] [] | _ => True := by
  unfold F_X12_show_r at h
  match b, h with
  | 0, h =>
      refine r_aload_n hκ 0 rfl rfl dX12_show_19 ?_
      refine r_bipush hκ (by decide) dX12_show_20 ?_
      obtain ⟨h6, h⟩ := bck_i h
      obtain ⟨s3, v3, h7, h⟩ := bcl_i h
      refine r_callV hκ (n' := 1) (index := 183) (w_X12_refused Γ0 l0 h7) (lw_V q3159 q3161 qs73 q146 q3162) (by decide +kernel) (t := 10) h6 rfl rfl (by decide) rfl (Nat.le_of_ble_eq_true rfl) dX12_show_22 ?_
      exact r_iretH hκ hf h (nar_int _) dX12_show_25
  | 1, h =>
      refine r_iload_n hκ 2 rfl rfl dX12_show_26 ?_
      refine r_iconst hκ dX12_show_27 ?_
      refine r_icmp_ne hκ (tgt := 40) (by decide) dX12_show_28 (fun h8 => ?_) (fun h8 => ?_)
      · replace h := (bte_i h).2 h8
        refine r_aload_n hκ 0 rfl rfl dX12_show_40 ?_
        refine r_iload_n hκ 2 rfl rfl dX12_show_41 ?_
        obtain ⟨h9, h⟩ := bck_i h
        obtain ⟨s4, v4, h10, h⟩ := bcl_i h
        refine r_callV hκ (n' := 1) (index := 230) (w_X12_isKept Γ0 l0 h10) (lw_V q3230 q3232 qs82 q146 q3233) (by decide +kernel) (t := 10) h9 rfl rfl (by decide) rfl (Nat.le_of_ble_eq_true rfl) dX12_show_42 ?_
        refine r_if_ne hκ (tgt := 55) (by decide) dX12_show_45 (fun h11 => ?_) (fun h11 => ?_)
        · replace h := (bte_i h).2 h11
          refine r_iload_n hκ 3 rfl rfl dX12_show_55 ?_
          refine r_i2l hκ dX12_show_56 ?_
          refine r_lconst hκ (x := 0) (by decide) dX12_show_57 ?_
          refine r_aload_n hκ 0 rfl rfl dX12_show_58 ?_
          refine r_iload_n hκ 2 rfl rfl dX12_show_59 ?_
          obtain ⟨h12, h⟩ := bck_i h
          obtain ⟨s5, v5, h13, h⟩ := bcl_i h
          refine r_callV hκ (n' := 1) (index := 221) (w_X12_parts Γ0 l0 h13) (lw_V q3218 q3220 qs81 q146 q3221) (by decide +kernel) (t := 10) h12 rfl rfl (by decide) rfl (Nat.le_of_ble_eq_true rfl) dX12_show_60 ?_
          refine r_iconst hκ dX12_show_63 ?_
          refine r_isub hκ dX12_show_64 ?_
          refine r_i2l hκ dX12_show_65 ?_
          obtain ⟨s6, v6, h14, h⟩ := bcl_i h
          refine r_callS hκ (n' := 3) (index := 175) (w_X12_in Γ0 l0 h14) (lw_S q3156 q3157 q146 q3158) (by decide +kernel) rfl (by decide) rfl (Nat.le_of_ble_eq_true rfl) dX12_show_66 ?_
          refine r_if_ne hκ (tgt := 79) (by decide) dX12_show_69 (fun h15 => ?_) (fun h15 => ?_)
          · replace h := (bte_i h).2 h15
            refine r_aload_n hκ 0 rfl rfl dX12_show_79 ?_
            refine r_iload_n hκ 2 rfl rfl dX12_show_80 ?_
            refine r_iload_n hκ 3 rfl rfl dX12_show_81 ?_
            obtain ⟨h16, h⟩ := bck_i h
            obtain ⟨s7, v7, h17, h⟩ := bcl_i h
            refine r_callV hκ (n' := 2) (index := 242) (w_X12_beginOf Γ0 l0 h17) (lw_V q3254 q3256 qs86 q146 q3257) (by decide +kernel) (t := 10) h16 rfl rfl (by decide) rfl (Nat.le_of_ble_eq_true rfl) dX12_show_82 ?_
            refine r_istore hκ (L2 := [(4, (0, v7)), (0, (2, x0)), (1, (0, x1)), (2, (0, x2)), (3, (0, x3))]) (by decide) rfl dX12_show_85 ?_
            refine r_aload_n hκ 1 rfl rfl dX12_show_87 ?_
            obtain ⟨h18, h⟩ := bck_i h
            refine r_get hκ (t := 10) (k := 24) (r := 310) h18 rfl in_X12 (by decide) rfl q3075 (Or.inl rfl) dX12_show_88 ?_
            refine r_iload_n hκ 2 rfl rfl dX12_show_91 ?_
            refine r_aload_n hκ 1 rfl rfl dX12_show_92 ?_
            obtain ⟨h19, h⟩ := bck_i h
            refine r_get hκ (t := 10) (k := 0) (r := 214) h19 rfl in_X12 (by decide) rfl q3051 (Or.inl rfl) dX12_show_93 ?_
            refine r_iload_n hκ 3 rfl rfl dX12_show_96 ?_
            obtain ⟨⟨h20, h21⟩, h⟩ := bck_i h
            refine r_aald hκ (t := 10) (by decide) h20 h21 dX12_show_97 ?_
            refine r_iload hκ 0 rfl dX12_show_98 ?_
            obtain ⟨⟨h22, h23⟩, h⟩ := bck_i h
            refine r_iald hκ h22 h23 dX12_show_100 ?_
            obtain ⟨⟨h24, h25⟩, h⟩ := bck_i h
            refine r_iast hκ h24 h25 dX12_show_101 (fun s8 es8 => ?_)
            replace h := bst_i h s8 es8
            refine r_aload_n hκ 1 rfl rfl dX12_show_102 ?_
            obtain ⟨h26, h⟩ := bck_i h
            refine r_get hκ (t := 10) (k := 23) (r := 306) h26 rfl in_X12 (by decide) rfl q3074 (Or.inl rfl) dX12_show_103 ?_
            refine r_iload_n hκ 2 rfl rfl dX12_show_106 ?_
            refine r_aload_n hκ 1 rfl rfl dX12_show_107 ?_
            refine r_iload_n hκ 3 rfl rfl dX12_show_108 ?_
            refine r_iload_n hκ 4 rfl rfl dX12_show_109 ?_
            refine r_iconst hκ dX12_show_110 ?_
            refine r_iadd hκ dX12_show_111 ?_
            obtain ⟨h27, h⟩ := bck_i h
            obtain ⟨s9, v8, h28, h⟩ := bcl_i h
            refine r_callV hκ (n' := 2) (index := 242) (w_X12_beginOf Γ0 l0 h28) (lw_V q3254 q3256 qs86 q146 q3257) (by decide +kernel) (t := 10) h27 rfl rfl (by decide) rfl (Nat.le_of_ble_eq_true rfl) dX12_show_112 ?_
            refine r_iload hκ 0 rfl dX12_show_115 ?_
            refine r_isub hκ dX12_show_117 ?_
            obtain ⟨⟨h29, h30⟩, h⟩ := bck_i h
            refine r_iast hκ h29 h30 dX12_show_118 (fun s10 es10 => ?_)
            replace h := bst_i h s10 es10
            refine r_aload_n hκ 1 rfl rfl dX12_show_119 ?_
            obtain ⟨h31, h⟩ := bck_i h
            refine r_get hκ (t := 10) (k := 22) (r := 302) h31 rfl in_X12 (by decide) rfl q3073 (Or.inl rfl) dX12_show_120 ?_
            refine r_iload_n hκ 2 rfl rfl dX12_show_123 ?_
            refine r_aload_n hκ 1 rfl rfl dX12_show_124 ?_
            obtain ⟨h32, h⟩ := bck_i h
            refine r_get hκ (t := 10) (k := 0) (r := 214) h32 rfl in_X12 (by decide) rfl q3051 (Or.inl rfl) dX12_show_125 ?_
            refine r_iload_n hκ 3 rfl rfl dX12_show_128 ?_
            obtain ⟨⟨h33, h34⟩, h⟩ := bck_i h
            refine r_aald hκ (t := 10) (by decide) h33 h34 dX12_show_129 ?_
            refine r_iload hκ 0 rfl dX12_show_130 ?_
            obtain ⟨⟨h35, h36⟩, h⟩ := bck_i h
            refine r_iald hκ h35 h36 dX12_show_132 ?_
            obtain ⟨s11, v9, h37, h⟩ := bcl_i h
            refine r_callS hκ (n' := 1) (index := 245) (w_X12_kindTold Γ0 l0 h37) (lw_S q3258 q3259 q146 q3260) (by decide +kernel) rfl (by decide) rfl (Nat.le_of_ble_eq_true rfl) dX12_show_133 ?_
            obtain ⟨⟨h38, h39⟩, h⟩ := bck_i h
            refine r_iast hκ h38 h39 dX12_show_136 (fun s12 es12 => ?_)
            replace h := bst_i h s12 es12
            refine r_aload_n hκ 1 rfl rfl dX12_show_137 ?_
            obtain ⟨h40, h⟩ := bck_i h
            refine r_get hκ (t := 10) (k := 19) (r := 290) h40 rfl in_X12 (by decide) rfl q3070 (Or.inl rfl) dX12_show_138 ?_
            refine r_iload_n hκ 2 rfl rfl dX12_show_141 ?_
            refine r_bipush hκ (by decide) dX12_show_142 ?_
            refine r_aload_n hκ 1 rfl rfl dX12_show_144 ?_
            obtain ⟨h41, h⟩ := bck_i h
            refine r_get hκ (t := 10) (k := 22) (r := 302) h41 rfl in_X12 (by decide) rfl q3073 (Or.inl rfl) dX12_show_145 ?_
            refine r_iload_n hκ 2 rfl rfl dX12_show_148 ?_
            obtain ⟨⟨h42, h43⟩, h⟩ := bck_i h
            refine r_iald hκ h42 h43 dX12_show_149 ?_
            refine r_iadd hκ dX12_show_150 ?_
            obtain ⟨⟨h44, h45⟩, h⟩ := bck_i h
            refine r_iast hκ h44 h45 dX12_show_151 (fun s13 es13 => ?_)
            replace h := bst_i h s13 es13
            refine r_iconst hκ dX12_show_152 ?_
            exact r_iretH hκ hf h (nar_int _) dX12_show_153
          · replace h := (bte_i h).1 h15
            refine r_aload_n hκ 0 rfl rfl dX12_show_72 ?_
            refine r_bipush hκ (by decide) dX12_show_73 ?_
            obtain ⟨h46, h⟩ := bck_i h
            obtain ⟨s14, v10, h47, h⟩ := bcl_i h
            refine r_callV hκ (n' := 1) (index := 183) (w_X12_refused Γ0 l0 h47) (lw_V q3159 q3161 qs73 q146 q3162) (by decide +kernel) (t := 10) h46 rfl rfl (by decide) rfl (Nat.le_of_ble_eq_true rfl) dX12_show_75 ?_
            exact r_iretH hκ hf h (nar_int _) dX12_show_78
        · replace h := (bte_i h).1 h11
          refine r_aload_n hκ 0 rfl rfl dX12_show_48 ?_
          refine r_bipush hκ (by decide) dX12_show_49 ?_
          obtain ⟨h48, h⟩ := bck_i h
          obtain ⟨s15, v11, h49, h⟩ := bcl_i h
          refine r_callV hκ (n' := 1) (index := 183) (w_X12_refused Γ0 l0 h49) (lw_V q3159 q3161 qs73 q146 q3162) (by decide +kernel) (t := 10) h48 rfl rfl (by decide) rfl (Nat.le_of_ble_eq_true rfl) dX12_show_51 ?_
          exact r_iretH hκ hf h (nar_int _) dX12_show_54
      · replace h := (bte_i h).1 h8
        refine r_aload_n hκ 0 rfl rfl dX12_show_31 ?_
        obtain ⟨h50, h⟩ := bck_i h
        refine r_get hκ (t := 10) (k := 19) (r := 290) h50 rfl in_X12 (by decide) rfl q3070 (Or.inl rfl) dX12_show_32 ?_
        refine r_iload_n hκ 1 rfl rfl dX12_show_35 ?_
        refine r_iconst hκ dX12_show_36 ?_
        obtain ⟨⟨h51, h52⟩, h⟩ := bck_i h
        refine r_iast hκ h51 h52 dX12_show_37 (fun s16 es16 => ?_)
        replace h := bst_i h s16 es16
        refine r_iconst hκ dX12_show_38 ?_
        exact r_iretH hκ hf h (nar_int _) dX12_show_39
  | b + 2, h => trivial
set_option maxHeartbeats 4000000 in
set_option maxRecDepth 100000 in
theorem w_X12_show (Γ0 : bG) (l0 : Launch) {s0 st' : bS} {v a0 a1 a2 a3 : Int} (h : F_X12_show s0 a0 a1 a2 a3 = some (st', v)) : bCt Γ0 l0 yX12_show cX12_show 5 (some .int) 3 65 [(2, a0), (0, a1), (0, a2), (0, a3)] s0 st' (some (0, v)) := by
  refine b_ent (own := RX12) (by decide +kernel) rfl (Nat.le_of_ble_eq_true rfl) (L := [(0, (2, a0)), (1, (0, a1)), (2, (0, a2)), (3, (0, a3))]) rfl ?_
  intro κ hκ hi hf
  unfold F_X12_show at h
  refine r_iload_n hκ 1 rfl rfl dX12_show_0 ?_
  obtain ⟨s1, v1, h1, h⟩ := bcl_i h
  refine r_callS hκ (n' := 1) (index := 327) (w_X12_isShelf Γ0 l0 h1) (lw_S q3499 q3500 q146 q3501) (by decide +kernel) rfl (by decide) rfl (Nat.le_of_ble_eq_true rfl) dX12_show_1 ?_
  refine r_if_eq hκ (tgt := 19) (by decide) dX12_show_4 (fun h2 => ?_) (fun h2 => ?_)
  · replace h := (bte_i h).1 h2
    exact r_sub [0] rfl (w_X12_show_r hκ hi hf 0 _ _ _ _ _ h)
  · replace h := (bte_i h).2 h2
    refine r_iload_n hκ 2 rfl rfl dX12_show_7 ?_
    refine r_iconst hκ dX12_show_8 ?_
    refine r_icmp_eq hκ (tgt := 26) (by decide) dX12_show_9 (fun h3 => ?_) (fun h3 => ?_)
    · replace h := (bte_i h).1 h3
      exact r_sub [0, 1, 2, 3] rfl (w_X12_show_r hκ hi hf 1 _ _ _ _ _ h)
    · replace h := (bte_i h).2 h3
      refine r_iload_n hκ 2 rfl rfl dX12_show_12 ?_
      obtain ⟨s2, v2, h4, h⟩ := bcl_i h
      refine r_callS hκ (n' := 1) (index := 211) (w_X12_isEdit Γ0 l0 h4) (lw_S q3171 q3172 q146 q3173) (by decide +kernel) rfl (by decide) rfl (Nat.le_of_ble_eq_true rfl) dX12_show_13 ?_
      refine r_if_ne hκ (tgt := 26) (by decide) dX12_show_16 (fun h5 => ?_) (fun h5 => ?_)
      · replace h := (bte_i h).2 h5
        exact r_sub [0, 1, 2, 3] rfl (w_X12_show_r hκ hi hf 1 _ _ _ _ _ h)
      · replace h := (bte_i h).1 h5
        exact r_sub [0] rfl (w_X12_show_r hκ hi hf 0 _ _ _ _ _ h)
/-- EditsMeetModel.isUnder(II)Z -/
def F_X12_isUnder_r (b : Nat) (x0 x1 : Int) (s0 : bS) : Option (bS × Int) :=
  match b with
  | 0 =>
    bte (i32 x1 = i32 3)
    (bte (i32 x0 = i32 5)
    (some (s0, 1))
    (some (s0, 0)))
    (some (s0, 0))
  | _ => none
def F_X12_isUnder (s0 : bS) (a0 a1 : Int) : Option (bS × Int) :=
  bte (i32 a1 = 0)
  (some (s0, 1))
  (bte (i32 a0 = i32 a1)
  (some (s0, 1))
  (bte (i32 a1 = i32 2)
  (bte (i32 3 ≤ i32 a0)
  (some (s0, 1))
  (F_X12_isUnder_r 0 a0 a1 s0))
  (F_X12_isUnder_r 0 a0 a1 s0)))
set_option maxHeartbeats 4000000 in
set_option maxRecDepth 100000 in
set_option synthInstance.maxHeartbeats 4000000 in
theorem w_X12_isUnder_r {Γ0 : bG} {l0 : Launch} {κ : bK} {st' : bS} {v : Int} (hκ : bOk κ Γ0 l0 cX12_isUnder RX12 2 0 0) (hi : bIn κ yX12_isUnder) (hf : bFin κ (some .boolean) st' (some (0, v))) (b : Nat) (x0 x1 : Int) (s0 : bS) (h : F_X12_isUnder_r b x0 x1 s0 = some (st', v)) : match (generalizing := false) b with | 0 => bJ κ s0 19 [(0, (0, x0)), (1, (0, x1))] [] | _ => True := by
  unfold F_X12_isUnder_r at h
  match b, h with
  | 0, h =>
      refine r_iload_n hκ 1 rfl rfl dX12_isUnder_19 ?_
      refine r_iconst hκ dX12_isUnder_20 ?_
      refine r_icmp_ne hκ (tgt := 33) (by decide) dX12_isUnder_21 (fun h5 => ?_) (fun h5 => ?_)
      · replace h := (bte_i h).2 h5
        refine r_iconst hκ dX12_isUnder_33 ?_
        exact r_iretH hκ hf h (nar_bool (by decide)) dX12_isUnder_34
      · replace h := (bte_i h).1 h5
        refine r_iload_n hκ 0 rfl rfl dX12_isUnder_24 ?_
        refine r_iconst hκ dX12_isUnder_25 ?_
        refine r_icmp_ne hκ (tgt := 33) (by decide) dX12_isUnder_26 (fun h6 => ?_) (fun h6 => ?_)
        · replace h := (bte_i h).2 h6
          refine r_iconst hκ dX12_isUnder_33 ?_
          exact r_iretH hκ hf h (nar_bool (by decide)) dX12_isUnder_34
        · replace h := (bte_i h).1 h6
          refine r_iconst hκ dX12_isUnder_29 ?_
          refine r_goto hκ (tgt := 34) (by decide) dX12_isUnder_30 ?_
          exact r_iretH hκ hf h (nar_bool (by decide)) dX12_isUnder_34
  | b + 1, h => trivial
set_option maxHeartbeats 4000000 in
set_option maxRecDepth 100000 in
theorem w_X12_isUnder (Γ0 : bG) (l0 : Launch) {s0 st' : bS} {v a0 a1 : Int} (h : F_X12_isUnder s0 a0 a1 = some (st', v)) : bCt Γ0 l0 yX12_isUnder cX12_isUnder 2 (some .boolean) 0 0 [(0, a0), (0, a1)] s0 st' (some (0, v)) := by
  refine b_ent (own := RX12) (by decide +kernel) rfl (Nat.le_of_ble_eq_true rfl) (L := [(0, (0, a0)), (1, (0, a1))]) rfl ?_
  intro κ hκ hi hf
  unfold F_X12_isUnder at h
  refine r_iload_n hκ 1 rfl rfl dX12_isUnder_0 ?_
  refine r_if_eq hκ (tgt := 29) (by decide) dX12_isUnder_1 (fun h1 => ?_) (fun h1 => ?_)
  · replace h := (bte_i h).1 h1
    refine r_iconst hκ dX12_isUnder_29 ?_
    refine r_goto hκ (tgt := 34) (by decide) dX12_isUnder_30 ?_
    exact r_iretH hκ hf h (nar_bool (by decide)) dX12_isUnder_34
  · replace h := (bte_i h).2 h1
    refine r_iload_n hκ 0 rfl rfl dX12_isUnder_4 ?_
    refine r_iload_n hκ 1 rfl rfl dX12_isUnder_5 ?_
    refine r_icmp_eq hκ (tgt := 29) (by decide) dX12_isUnder_6 (fun h2 => ?_) (fun h2 => ?_)
    · replace h := (bte_i h).1 h2
      refine r_iconst hκ dX12_isUnder_29 ?_
      refine r_goto hκ (tgt := 34) (by decide) dX12_isUnder_30 ?_
      exact r_iretH hκ hf h (nar_bool (by decide)) dX12_isUnder_34
    · replace h := (bte_i h).2 h2
      refine r_iload_n hκ 1 rfl rfl dX12_isUnder_9 ?_
      refine r_iconst hκ dX12_isUnder_10 ?_
      refine r_icmp_ne hκ (tgt := 19) (by decide) dX12_isUnder_11 (fun h3 => ?_) (fun h3 => ?_)
      · replace h := (bte_i h).2 h3
        exact r_sub [0, 1] rfl (w_X12_isUnder_r hκ hi hf 0 _ _ _ h)
      · replace h := (bte_i h).1 h3
        refine r_iload_n hκ 0 rfl rfl dX12_isUnder_14 ?_
        refine r_iconst hκ dX12_isUnder_15 ?_
        refine r_icmp_ge hκ (tgt := 29) (by decide) dX12_isUnder_16 (fun h4 => ?_) (fun h4 => ?_)
        · replace h := (bte_i h).1 h4
          refine r_iconst hκ dX12_isUnder_29 ?_
          refine r_goto hκ (tgt := 34) (by decide) dX12_isUnder_30 ?_
          exact r_iretH hκ hf h (nar_bool (by decide)) dX12_isUnder_34
        · replace h := (bte_i h).2 h4
          exact r_sub [0, 1] rfl (w_X12_isUnder_r hκ hi hf 0 _ _ _ h)
/-- EditsMeetModel.says(II)I -/
def F_X12_says_r (b : Nat) (x0 : Int) (s0 : bS) : Option (bS × Int) :=
  match b with
  | 0 =>
    bck (bg s0 0 x0 0 = 11) <|
    bcl (F_X12_refused s0 x0 (-2)) fun s9 v9 =>
    some (s9, v9)
  | _ => none
def F_X12_says (s0 : bS) (a0 a1 a2 : Int) : Option (bS × Int) :=
  bcl (F_X12_isShelf s0 a1) fun s1 v1 =>
  bte (i32 v1 = 0)
  (F_X12_says_r 0 a0 s1)
  (bcl (F_X12_in s1 (b_i2l a2) 0 5) fun s2 v2 =>
  bte (i32 v2 = 0)
  (F_X12_says_r 0 a0 s2)
  (bck (bg s2 0 a0 0 = 11) <|
  bck (bg s2 0 (bg s2 290 a0 0) 0 = 1003 ∧ (0 : Int) ≤ a1 ∧ a1 < bg s2 4 (bg s2 290 a0 0) 0) <|
  bcl (F_X12_in s2 (b_i2l (bg s2 20 (bg s2 290 a0 0) a1)) 0 4) fun s3 v3 =>
  bte (i32 v3 = 0)
  (bck (bg s3 0 a0 0 = 11) <|
  bck (bg s3 0 (bg s3 290 a0 0) 0 = 1003 ∧ (0 : Int) ≤ a1 ∧ a1 < bg s3 4 (bg s3 290 a0 0) 0) <|
  bte (0 ≤ i32 (bg s3 20 (bg s3 290 a0 0) a1))
  (bck (bg s3 0 a0 0 = 11) <|
  bck (bg s3 0 (bg s3 302 a0 0) 0 = 1003 ∧ (0 : Int) ≤ a1 ∧ a1 < bg s3 4 (bg s3 302 a0 0) 0) <|
  bcl (F_X12_isUnder s3 (bg s3 20 (bg s3 302 a0 0) a1) a2) fun s4 v4 =>
  bte (i32 v4 = 0)
  (bck (bg s4 0 a0 0 = 11) <|
  bcl (F_X12_refused s4 a0 (-3)) fun s6 v6 =>
  some (s6, v6))
  (bck (bg s4 0 a0 0 = 11) <|
  bck (bg s4 0 (bg s4 310 a0 0) 0 = 1003 ∧ (0 : Int) ≤ a1 ∧ a1 < bg s4 4 (bg s4 310 a0 0) 0) <|
  bvl ((bg s4 20 (bg s4 310 a0 0) a1)) fun t1 =>
  bte (b_t a2 = 1) (some (s4, (b_iand t1 255))) (bte (b_t a2 = 3) (bck (bg s4 0 a0 0 = 11) <|
  bck (bg s4 0 (bg s4 302 a0 0) 0 = 1003 ∧ (0 : Int) ≤ a1 ∧ a1 < bg s4 4 (bg s4 302 a0 0) 0) <|
  bte (i32 (bg s4 20 (bg s4 302 a0 0) a1) = i32 5)
  (bcl (F_J21_bitCount s4 (b_iand t1 255)) fun s5 v5 =>
  some (s5, v5))
  (some (s4, 0))) (bte (b_t a2 = 4) (bck (bg s4 0 a0 0 = 11) <|
  bck (bg s4 0 (bg s4 306 a0 0) 0 = 1003 ∧ (0 : Int) ≤ a1 ∧ a1 < bg s4 4 (bg s4 306 a0 0) 0) <|
  some (s4, ((bg s4 20 (bg s4 306 a0 0) a1) + 100))) (bte (b_t a2 = 5) (some (s4, (b_iand t1 255))) (bck (bg s4 0 a0 0 = 11) <|
  bck (bg s4 0 (bg s4 306 a0 0) 0 = 1003 ∧ (0 : Int) ≤ a1 ∧ a1 < bg s4 4 (bg s4 306 a0 0) 0) <|
  some (s4, (bg s4 20 (bg s4 306 a0 0) a1))))))))
  (bck (bg s3 0 a0 0 = 11) <|
  bcl (F_X12_refused s3 a0 (-4)) fun s7 v7 =>
  some (s7, v7)))
  (bck (bg s3 0 a0 0 = 11) <|
  bcl (F_X12_refused s3 a0 (-3)) fun s8 v8 =>
  some (s8, v8))))
set_option maxHeartbeats 4000000 in
set_option maxRecDepth 100000 in
set_option synthInstance.maxHeartbeats 4000000 in
theorem w_X12_says_r {Γ0 : bG} {l0 : Launch} {κ : bK} {st' : bS} {v : Int} (hκ : bOk κ Γ0 l0 cX12_says RX12 4 2 45) (hi : bIn κ yX12_says) (hf : bFin κ (some .int) st' (some (0, v))) (b : Nat) (x0 : Int) (s0 : bS) (h : F_X12_says_r b x0 s0 = some (st', v)) : match (generalizing := false) b with | 0 => bJ κ s0 19 [(0, (2, x0))] [] | _ => True := by
  unfold F_X12_says_r at h
  match b, h with
  | 0, h =>
      refine r_aload_n hκ 0 rfl rfl dX12_says_19 ?_
      refine r_bipush hκ (by decide) dX12_says_20 ?_
      obtain ⟨h44, h⟩ := bck_i h
      obtain ⟨s9, v9, h45, h⟩ := bcl_i h
      refine r_callV hκ (n' := 1) (index := 183) (w_X12_refused Γ0 l0 h45) (lw_V q3159 q3161 qs73 q146 q3162) (by decide +kernel) (t := 10) h44 rfl rfl (by decide) rfl (Nat.le_of_ble_eq_true rfl) dX12_says_22 ?_
      exact r_iretH hκ hf h (nar_int _) dX12_says_25
  | b + 1, h => trivial
set_option maxHeartbeats 4000000 in
set_option maxRecDepth 100000 in
theorem w_X12_says (Γ0 : bG) (l0 : Launch) {s0 st' : bS} {v a0 a1 a2 : Int} (h : F_X12_says s0 a0 a1 a2 = some (st', v)) : bCt Γ0 l0 yX12_says cX12_says 4 (some .int) 2 45 [(2, a0), (0, a1), (0, a2)] s0 st' (some (0, v)) := by
  refine b_ent (own := RX12) (by decide +kernel) rfl (Nat.le_of_ble_eq_true rfl) (L := [(0, (2, a0)), (1, (0, a1)), (2, (0, a2))]) rfl ?_
  intro κ hκ hi hf
  unfold F_X12_says at h
  refine r_iload_n hκ 1 rfl rfl dX12_says_0 ?_
  obtain ⟨s1, v1, h1, h⟩ := bcl_i h
  refine r_callS hκ (n' := 1) (index := 327) (w_X12_isShelf Γ0 l0 h1) (lw_S q3499 q3500 q146 q3501) (by decide +kernel) rfl (by decide) rfl (Nat.le_of_ble_eq_true rfl) dX12_says_1 ?_
  refine r_if_eq hκ (tgt := 19) (by decide) dX12_says_4 (fun h2 => ?_) (fun h2 => ?_)
  · replace h := (bte_i h).1 h2
    exact r_sub [0] rfl (w_X12_says_r hκ hi hf 0 _ _ h)
  · replace h := (bte_i h).2 h2
    refine r_iload_n hκ 2 rfl rfl dX12_says_7 ?_
    refine r_i2l hκ dX12_says_8 ?_
    refine r_lconst hκ (x := 0) (by decide) dX12_says_9 ?_
    refine r_ldcl hκ (x := 5) q3229 (by decide) dX12_says_10 ?_
    obtain ⟨s2, v2, h3, h⟩ := bcl_i h
    refine r_callS hκ (n' := 3) (index := 175) (w_X12_in Γ0 l0 h3) (lw_S q3156 q3157 q146 q3158) (by decide +kernel) rfl (by decide) rfl (Nat.le_of_ble_eq_true rfl) dX12_says_13 ?_
    refine r_if_ne hκ (tgt := 26) (by decide) dX12_says_16 (fun h4 => ?_) (fun h4 => ?_)
    · replace h := (bte_i h).2 h4
      refine r_aload_n hκ 0 rfl rfl dX12_says_26 ?_
      obtain ⟨h5, h⟩ := bck_i h
      refine r_get hκ (t := 10) (k := 19) (r := 290) h5 rfl in_X12 (by decide) rfl q3070 (Or.inl rfl) dX12_says_27 ?_
      refine r_iload_n hκ 1 rfl rfl dX12_says_30 ?_
      obtain ⟨⟨h6, h7⟩, h⟩ := bck_i h
      refine r_iald hκ h6 h7 dX12_says_31 ?_
      refine r_i2l hκ dX12_says_32 ?_
      refine r_lconst hκ (x := 0) (by decide) dX12_says_33 ?_
      refine r_ldcl hκ (x := 4) q3478 (by decide) dX12_says_34 ?_
      obtain ⟨s3, v3, h8, h⟩ := bcl_i h
      refine r_callS hκ (n' := 3) (index := 175) (w_X12_in Γ0 l0 h8) (lw_S q3156 q3157 q146 q3158) (by decide +kernel) rfl (by decide) rfl (Nat.le_of_ble_eq_true rfl) dX12_says_37 ?_
      refine r_if_eq hκ (tgt := 50) (by decide) dX12_says_40 (fun h9 => ?_) (fun h9 => ?_)
      · replace h := (bte_i h).1 h9
        refine r_aload_n hκ 0 rfl rfl dX12_says_50 ?_
        obtain ⟨h10, h⟩ := bck_i h
        refine r_get hκ (t := 10) (k := 19) (r := 290) h10 rfl in_X12 (by decide) rfl q3070 (Or.inl rfl) dX12_says_51 ?_
        refine r_iload_n hκ 1 rfl rfl dX12_says_54 ?_
        obtain ⟨⟨h11, h12⟩, h⟩ := bck_i h
        refine r_iald hκ h11 h12 dX12_says_55 ?_
        refine r_if_ge hκ (tgt := 66) (by decide) dX12_says_56 (fun h13 => ?_) (fun h13 => ?_)
        · replace h := (bte_i h).1 h13
          refine r_aload_n hκ 0 rfl rfl dX12_says_66 ?_
          obtain ⟨h14, h⟩ := bck_i h
          refine r_get hκ (t := 10) (k := 22) (r := 302) h14 rfl in_X12 (by decide) rfl q3073 (Or.inl rfl) dX12_says_67 ?_
          refine r_iload_n hκ 1 rfl rfl dX12_says_70 ?_
          obtain ⟨⟨h15, h16⟩, h⟩ := bck_i h
          refine r_iald hκ h15 h16 dX12_says_71 ?_
          refine r_iload_n hκ 2 rfl rfl dX12_says_72 ?_
          obtain ⟨s4, v4, h17, h⟩ := bcl_i h
          refine r_callS hκ (n' := 2) (index := 336) (w_X12_isUnder Γ0 l0 h17) (lw_S q3531 q3532 q146 q3533) (by decide +kernel) rfl (by decide) rfl (Nat.le_of_ble_eq_true rfl) dX12_says_73 ?_
          refine r_if_ne hκ (tgt := 86) (by decide) dX12_says_76 (fun h18 => ?_) (fun h18 => ?_)
          · replace h := (bte_i h).2 h18
            refine r_aload_n hκ 0 rfl rfl dX12_says_86 ?_
            obtain ⟨h19, h⟩ := bck_i h
            refine r_get hκ (t := 10) (k := 24) (r := 310) h19 rfl in_X12 (by decide) rfl q3075 (Or.inl rfl) dX12_says_87 ?_
            refine r_iload_n hκ 1 rfl rfl dX12_says_90 ?_
            obtain ⟨⟨h20, h21⟩, h⟩ := bck_i h
            refine r_iald hκ h20 h21 dX12_says_91 ?_
            refine r_nm (fun t1 et1 => ?_)
            replace h := bvl_i h t1 et1
            refine r_istore_n hκ (L2 := [(3, (0, t1)), (0, (2, a0)), (1, (0, a1)), (2, (0, a2))]) (by decide) rfl rfl dX12_says_92 ?_
            refine r_iload_n hκ 3 rfl rfl dX12_says_93 ?_
            by_cases h22 : b_t a2 = 1
            · replace h := (bte_i h).1 h22
              refine r_tswIn hκ (kk := 1) (tgt := 128) h22 (by decide) (by decide) rfl (by decide) dX12_says_94 ?_
              refine r_iload_n hκ 0 rfl rfl dX12_says_128 ?_
              refine r_sipush hκ (by decide) dX12_says_129 ?_
              refine r_iand hκ dX12_says_132 ?_
              exact r_iretH hκ hf h (nar_int _) dX12_says_133
            replace h := (bte_i h).2 h22
            by_cases h23 : b_t a2 = 3
            · replace h := (bte_i h).1 h23
              refine r_tswIn hκ (kk := 3) (tgt := 134) h23 (by decide) (by decide) rfl (by decide) dX12_says_94 ?_
              refine r_aload_n hκ 1 rfl rfl dX12_says_134 ?_
              obtain ⟨h24, h⟩ := bck_i h
              refine r_get hκ (t := 10) (k := 22) (r := 302) h24 rfl in_X12 (by decide) rfl q3073 (Or.inl rfl) dX12_says_135 ?_
              refine r_iload_n hκ 2 rfl rfl dX12_says_138 ?_
              obtain ⟨⟨h25, h26⟩, h⟩ := bck_i h
              refine r_iald hκ h25 h26 dX12_says_139 ?_
              refine r_iconst hκ dX12_says_140 ?_
              refine r_icmp_ne hκ (tgt := 155) (by decide) dX12_says_141 (fun h27 => ?_) (fun h27 => ?_)
              · replace h := (bte_i h).2 h27
                refine r_iconst hκ dX12_says_155 ?_
                exact r_iretH hκ hf h (nar_int _) dX12_says_156
              · replace h := (bte_i h).1 h27
                refine r_iload_n hκ 0 rfl rfl dX12_says_144 ?_
                refine r_sipush hκ (by decide) dX12_says_145 ?_
                refine r_iand hκ dX12_says_148 ?_
                obtain ⟨s5, v5, h28, h⟩ := bcl_i h
                refine r_callS hκ (n' := 1) (index := 339) (w_J21_bitCount Γ0 l0 h28) (lw_S q3534 q954 q158 q955) (by decide +kernel) rfl (by decide) rfl (Nat.le_of_ble_eq_true rfl) dX12_says_149 ?_
                refine r_goto hκ (tgt := 156) (by decide) dX12_says_152 ?_
                exact r_iretH hκ hf h (nar_int _) dX12_says_156
            replace h := (bte_i h).2 h23
            by_cases h29 : b_t a2 = 4
            · replace h := (bte_i h).1 h29
              refine r_tswIn hκ (kk := 4) (tgt := 157) h29 (by decide) (by decide) rfl (by decide) dX12_says_94 ?_
              refine r_aload_n hκ 1 rfl rfl dX12_says_157 ?_
              obtain ⟨h30, h⟩ := bck_i h
              refine r_get hκ (t := 10) (k := 23) (r := 306) h30 rfl in_X12 (by decide) rfl q3074 (Or.inl rfl) dX12_says_158 ?_
              refine r_iload_n hκ 2 rfl rfl dX12_says_161 ?_
              obtain ⟨⟨h31, h32⟩, h⟩ := bck_i h
              refine r_iald hκ h31 h32 dX12_says_162 ?_
              refine r_bipush hκ (by decide) dX12_says_163 ?_
              refine r_iadd hκ dX12_says_165 ?_
              exact r_iretH hκ hf h (nar_int _) dX12_says_166
            replace h := (bte_i h).2 h29
            by_cases h33 : b_t a2 = 5
            · replace h := (bte_i h).1 h33
              refine r_tswIn hκ (kk := 5) (tgt := 167) h33 (by decide) (by decide) rfl (by decide) dX12_says_94 ?_
              refine r_iload_n hκ 0 rfl rfl dX12_says_167 ?_
              refine r_sipush hκ (by decide) dX12_says_168 ?_
              refine r_iand hκ dX12_says_171 ?_
              exact r_iretH hκ hf h (nar_int _) dX12_says_172
            replace h := (bte_i h).2 h33
            refine r_seq (A := bJ κ s4 173 [(3, (0, t1)), (0, (2, a0)), (1, (0, a1)), (2, (0, a2))] []) ?_ (fun k0 => ?_)
            case refine_2 =>
              by_cases h37 : b_t a2 = 2
              · exact r_tswIn hκ (kk := 2) (tgt := 173) h37 (by decide) (by decide) rfl (by decide) dX12_says_94 k0
              exact r_tswOut hκ (tgt := 173) (by omega) (by decide) dX12_says_94 k0
            refine r_aload_n hκ 1 rfl rfl dX12_says_173 ?_
            obtain ⟨h34, h⟩ := bck_i h
            refine r_get hκ (t := 10) (k := 23) (r := 306) h34 rfl in_X12 (by decide) rfl q3074 (Or.inl rfl) dX12_says_174 ?_
            refine r_iload_n hκ 2 rfl rfl dX12_says_177 ?_
            obtain ⟨⟨h35, h36⟩, h⟩ := bck_i h
            refine r_iald hκ h35 h36 dX12_says_178 ?_
            exact r_iretH hκ hf h (nar_int _) dX12_says_179
          · replace h := (bte_i h).1 h18
            refine r_aload_n hκ 0 rfl rfl dX12_says_79 ?_
            refine r_bipush hκ (by decide) dX12_says_80 ?_
            obtain ⟨h38, h⟩ := bck_i h
            obtain ⟨s6, v6, h39, h⟩ := bcl_i h
            refine r_callV hκ (n' := 1) (index := 183) (w_X12_refused Γ0 l0 h39) (lw_V q3159 q3161 qs73 q146 q3162) (by decide +kernel) (t := 10) h38 rfl rfl (by decide) rfl (Nat.le_of_ble_eq_true rfl) dX12_says_82 ?_
            exact r_iretH hκ hf h (nar_int _) dX12_says_85
        · replace h := (bte_i h).2 h13
          refine r_aload_n hκ 0 rfl rfl dX12_says_59 ?_
          refine r_bipush hκ (by decide) dX12_says_60 ?_
          obtain ⟨h40, h⟩ := bck_i h
          obtain ⟨s7, v7, h41, h⟩ := bcl_i h
          refine r_callV hκ (n' := 1) (index := 183) (w_X12_refused Γ0 l0 h41) (lw_V q3159 q3161 qs73 q146 q3162) (by decide +kernel) (t := 10) h40 rfl rfl (by decide) rfl (Nat.le_of_ble_eq_true rfl) dX12_says_62 ?_
          exact r_iretH hκ hf h (nar_int _) dX12_says_65
      · replace h := (bte_i h).2 h9
        refine r_aload_n hκ 0 rfl rfl dX12_says_43 ?_
        refine r_bipush hκ (by decide) dX12_says_44 ?_
        obtain ⟨h42, h⟩ := bck_i h
        obtain ⟨s8, v8, h43, h⟩ := bcl_i h
        refine r_callV hκ (n' := 1) (index := 183) (w_X12_refused Γ0 l0 h43) (lw_V q3159 q3161 qs73 q146 q3162) (by decide +kernel) (t := 10) h42 rfl rfl (by decide) rfl (Nat.le_of_ble_eq_true rfl) dX12_says_46 ?_
        exact r_iretH hκ hf h (nar_int _) dX12_says_49
    · replace h := (bte_i h).1 h4
      exact r_sub [0] rfl (w_X12_says_r hκ hi hf 0 _ _ h)
/-- EditsMeetModel.judge(III)I -/
def F_X12_judge_r (b : Nat) (x0 x1 x2 x3 x4 x5 : Int) (s0 : bS) : Option (bS × Int) :=
  match b with
  | 0 =>
    bck (bg s0 0 x0 0 = 11) <|
    bcl (F_X12_refused s0 x0 (-2)) fun s7 v7 =>
    some (s7, v7)
  | 1 =>
    bte (i32 x3 ≤ i32 x4)
    (bck (bg s0 0 x0 0 = 11) <|
    bck (bg s0 0 (bg s0 230 x0 0) 0 = 1003 ∧ (0 : Int) ≤ x1 ∧ x1 < bg s0 4 (bg s0 230 x0 0) 0) <|
    bte (i32 (bg s0 20 (bg s0 230 x0 0) x1) ≤ i32 x3)
    (some (s0, (-1)))
    (some (s0, x3)))
    (bck (bg s0 0 x0 0 = 11) <|
    bck (bg s0 0 (bg s0 230 x0 0) 0 = 1003 ∧ (0 : Int) ≤ x1 ∧ x1 < bg s0 4 (bg s0 230 x0 0) 0) <|
    bte (i32 (bg s0 20 (bg s0 230 x0 0) x1) ≤ i32 x4)
    (F_X12_judge_r 2 x0 x1 x2 x3 x4 0 s0)
    (bck (bg s0 0 x0 0 = 11) <|
    bck (bg s0 0 (bg s0 298 x0 0) 0 = 1005 ∧ (0 : Int) ≤ ((40 * x2) + (2 * x4)) ∧ ((40 * x2) + (2 * x4)) < bg s0 4 (bg s0 298 x0 0) 0) <|
    bck (bg s0 0 x0 0 = 11) <|
    bck (bg s0 0 (bg s0 226 x0 0) 0 = 1010 ∧ (0 : Int) ≤ x1 ∧ x1 < bg s0 4 (bg s0 226 x0 0) 0) <|
    bck (bg s0 0 (bg s0 10 (bg s0 226 x0 0) x1) 0 = 1003 ∧ (0 : Int) ≤ x4 ∧ x4 < bg s0 4 (bg s0 10 (bg s0 226 x0 0) x1) 0) <|
    bte (i32 (b_lcmp (bg s0 9 (bg s0 298 x0 0) ((40 * x2) + (2 * x4))) (b_i2l (b_iand (bg s0 20 (bg s0 10 (bg s0 226 x0 0) x1) x4) 255))) = 0)
    (bck (bg s0 0 x0 0 = 11) <|
    bck (bg s0 0 (bg s0 298 x0 0) 0 = 1005 ∧ (0 : Int) ≤ (((40 * x2) + (2 * x4)) + 1) ∧ (((40 * x2) + (2 * x4)) + 1) < bg s0 4 (bg s0 298 x0 0) 0) <|
    bck (bg s0 0 x0 0 = 11) <|
    bck (bg s0 0 (bg s0 226 x0 0) 0 = 1010 ∧ (0 : Int) ≤ x1 ∧ x1 < bg s0 4 (bg s0 226 x0 0) 0) <|
    bck (bg s0 0 (bg s0 10 (bg s0 226 x0 0) x1) 0 = 1003 ∧ (0 : Int) ≤ x4 ∧ x4 < bg s0 4 (bg s0 10 (bg s0 226 x0 0) x1) 0) <|
    bte (i32 (b_lcmp (bg s0 9 (bg s0 298 x0 0) (((40 * x2) + (2 * x4)) + 1)) (b_i2l (b_iand (b_ishr (bg s0 20 (bg s0 10 (bg s0 226 x0 0) x1) x4) 8) 15))) = 0)
    (F_X12_judge_r 3 x0 x1 x2 x3 x4 1 s0)
    (F_X12_judge_r 2 x0 x1 x2 x3 x4 0 s0))
    (F_X12_judge_r 2 x0 x1 x2 x3 x4 0 s0)))
  | 2 =>
    F_X12_judge_r 3 x0 x1 x2 x3 x4 0 s0
  | 3 =>
    bte (i32 x5 = 0)
    (some (s0, x4))
    (F_X12_judge_r 1 x0 x1 x2 x3 (x4 + 1) 0 s0)
  | _ => none
partial_fixpoint
def F_X12_judge (s0 : bS) (a0 a1 a2 a3 : Int) : Option (bS × Int) :=
  bcl (F_X12_isText s0 a1) fun s1 v1 =>
  bte (i32 v1 = 0)
  (F_X12_judge_r 0 a0 0 0 0 0 0 s1)
  (bcl (F_X12_isShelf s1 a2) fun s2 v2 =>
  bte (i32 v2 = 0)
  (F_X12_judge_r 0 a0 0 0 0 0 0 s2)
  (bcl (F_X12_in s2 (b_i2l a3) 0 20) fun s3 v3 =>
  bte (i32 v3 = 0)
  (F_X12_judge_r 0 a0 0 0 0 0 0 s3)
  (bck (bg s3 0 a0 0 = 11) <|
  bck (bg s3 0 (bg s3 290 a0 0) 0 = 1003 ∧ (0 : Int) ≤ a2 ∧ a2 < bg s3 4 (bg s3 290 a0 0) 0) <|
  bte (i32 (bg s3 20 (bg s3 290 a0 0) a2) ≤ i32 4)
  (bck (bg s3 0 a0 0 = 11) <|
  bck (bg s3 0 (bg s3 290 a0 0) 0 = 1003 ∧ (0 : Int) ≤ a2 ∧ a2 < bg s3 4 (bg s3 290 a0 0) 0) <|
  bte (0 ≤ i32 (bg s3 20 (bg s3 290 a0 0) a2))
  (bck (bg s3 0 a0 0 = 11) <|
  bck (bg s3 0 (bg s3 294 a0 0) 0 = 1003 ∧ (0 : Int) ≤ a2 ∧ a2 < bg s3 4 (bg s3 294 a0 0) 0) <|
  bte (i32 (2 * a3) ≤ i32 (bg s3 20 (bg s3 294 a0 0) a2))
  (F_X12_judge_r 1 a0 a1 a2 a3 0 0 s3)
  (bck (bg s3 0 a0 0 = 11) <|
  bcl (F_X12_refused s3 a0 (-2)) fun s4 v4 =>
  some (s4, v4)))
  (bck (bg s3 0 a0 0 = 11) <|
  bcl (F_X12_refused s3 a0 (-4)) fun s5 v5 =>
  some (s5, v5)))
  (bck (bg s3 0 a0 0 = 11) <|
  bcl (F_X12_refused s3 a0 (-3)) fun s6 v6 =>
  some (s6, v6)))))
set_option maxHeartbeats 4000000 in
set_option maxRecDepth 100000 in
set_option synthInstance.maxHeartbeats 4000000 in
theorem w_X12_judge_r {Γ0 : bG} {l0 : Launch} {κ : bK} {st' : bS} {v : Int} (hκ : bOk κ Γ0 l0 cX12_judge RX12 6 2 45) (hi : bIn κ yX12_judge) (hf : bFin κ (some .int) st' (some (0, v))) (b : Nat) (x0 x1 x2 x3 x4 x5 : Int) (s0 : bS) (h : F_X12_judge_r b x0 x1 x2 x3 x4 x5 s0 = some (st', v)) : match (generalizing := false) b with | 0 => bJ κ s0 26 [(0, (2, x0))] [] | 1 => bJ κ s0 88 [(0, (2, x0)), (1, (0, x1)), (2, (0, x2)), (3, (0, x3)), (4, (0, x4))] [] | 2 => bJ κ s0 177 [(0, (2, x0)), (1, (0, x1)), (2, (0, x2)), (3, (0, x3)), (4, (0, x4))] [] | 3 => bJ κ s0 178 [(0, (2, x0)), (1, (0, x1)), (2, (0, x2)), (3, (0, x3)), (4, (0, x4))] [(0, x5)] | _ => True := by
  refine F_X12_judge_r.partial_correctness x0 x1 x2 x3 s0 (fun b x4 x5 r => r = (st', v) → match (generalizing := false) b with | 0 => bJ κ s0 26 [(0, (2, x0))] [] | 1 => bJ κ s0 88 [(0, (2, x0)), (1, (0, x1)), (2, (0, x2)), (3, (0, x3)), (4, (0, x4))] [] | 2 => bJ κ s0 177 [(0, (2, x0)), (1, (0, x1)), (2, (0, x2)), (3, (0, x3)), (4, (0, x4))] [] | 3 => bJ κ s0 178 [(0, (2, x0)), (1, (0, x1)), (2, (0, x2)), (3, (0, x3)), (4, (0, x4))] [(0, x5)] | _ => True) ?_ b x4 x5 _ h rfl
  intro f' ih b x4 x5 r h hr
  subst hr
  match b, h with
  | 0, h =>
      refine r_aload_n hκ 0 rfl rfl dX12_judge_26 ?_
      refine r_bipush hκ (by decide) dX12_judge_27 ?_
      obtain ⟨h25, h⟩ := bck_i h
      obtain ⟨s7, v7, h26, h⟩ := bcl_i h
      refine r_callV hκ (n' := 1) (index := 183) (w_X12_refused Γ0 l0 h26) (lw_V q3159 q3161 qs73 q146 q3162) (by decide +kernel) (t := 10) h25 rfl rfl (by decide) rfl (Nat.le_of_ble_eq_true rfl) dX12_judge_29 ?_
      exact r_iretH hκ hf h (nar_int _) dX12_judge_32
  | 1, h =>
      refine r_iload hκ 4 rfl dX12_judge_88 ?_
      refine r_iload_n hκ 3 rfl rfl dX12_judge_90 ?_
      refine r_icmp_ge hκ (tgt := 194) (by decide) dX12_judge_91 (fun h27 => ?_) (fun h27 => ?_)
      · replace h := (bte_i h).1 h27
        refine r_aload_n hκ 0 rfl rfl dX12_judge_194 ?_
        obtain ⟨h28, h⟩ := bck_i h
        refine r_get hκ (t := 10) (k := 4) (r := 230) h28 rfl in_X12 (by decide) rfl q3055 (Or.inl rfl) dX12_judge_195 ?_
        refine r_iload_n hκ 1 rfl rfl dX12_judge_198 ?_
        obtain ⟨⟨h29, h30⟩, h⟩ := bck_i h
        refine r_iald hκ h29 h30 dX12_judge_199 ?_
        refine r_iload_n hκ 3 rfl rfl dX12_judge_200 ?_
        refine r_icmp_le hκ (tgt := 208) (by decide) dX12_judge_201 (fun h31 => ?_) (fun h31 => ?_)
        · replace h := (bte_i h).1 h31
          refine r_iconst hκ dX12_judge_208 ?_
          exact r_iretH hκ hf h (nar_int _) dX12_judge_209
        · replace h := (bte_i h).2 h31
          refine r_iload_n hκ 3 rfl rfl dX12_judge_204 ?_
          refine r_goto hκ (tgt := 209) (by decide) dX12_judge_205 ?_
          exact r_iretH hκ hf h (nar_int _) dX12_judge_209
      · replace h := (bte_i h).2 h27
        refine r_iload hκ 4 rfl dX12_judge_94 ?_
        refine r_aload_n hκ 0 rfl rfl dX12_judge_96 ?_
        obtain ⟨h32, h⟩ := bck_i h
        refine r_get hκ (t := 10) (k := 4) (r := 230) h32 rfl in_X12 (by decide) rfl q3055 (Or.inl rfl) dX12_judge_97 ?_
        refine r_iload_n hκ 1 rfl rfl dX12_judge_100 ?_
        obtain ⟨⟨h33, h34⟩, h⟩ := bck_i h
        refine r_iald hκ h33 h34 dX12_judge_101 ?_
        refine r_icmp_ge hκ (tgt := 177) (by decide) dX12_judge_102 (fun h35 => ?_) (fun h35 => ?_)
        · replace h := (bte_i h).1 h35
          exact r_sub [0, 1, 2, 3, 4] rfl (ih 2 _ _ _ h rfl)
        · replace h := (bte_i h).2 h35
          refine r_aload_n hκ 0 rfl rfl dX12_judge_105 ?_
          obtain ⟨h36, h⟩ := bck_i h
          refine r_get hκ (t := 10) (k := 21) (r := 298) h36 rfl in_X12 (by decide) rfl q3072 (Or.inl rfl) dX12_judge_106 ?_
          refine r_bipush hκ (by decide) dX12_judge_109 ?_
          refine r_iload_n hκ 2 rfl rfl dX12_judge_111 ?_
          refine r_imul hκ dX12_judge_112 ?_
          refine r_iconst hκ dX12_judge_113 ?_
          refine r_iload hκ 4 rfl dX12_judge_114 ?_
          refine r_imul hκ dX12_judge_116 ?_
          refine r_iadd hκ dX12_judge_117 ?_
          obtain ⟨⟨h37, h38⟩, h⟩ := bck_i h
          refine r_lald hκ h37 h38 dX12_judge_118 ?_
          refine r_aload_n hκ 0 rfl rfl dX12_judge_119 ?_
          obtain ⟨h39, h⟩ := bck_i h
          refine r_get hκ (t := 10) (k := 3) (r := 226) h39 rfl in_X12 (by decide) rfl q3054 (Or.inl rfl) dX12_judge_120 ?_
          refine r_iload_n hκ 1 rfl rfl dX12_judge_123 ?_
          obtain ⟨⟨h40, h41⟩, h⟩ := bck_i h
          refine r_aald hκ (t := 10) (by decide) h40 h41 dX12_judge_124 ?_
          refine r_iload hκ 4 rfl dX12_judge_125 ?_
          obtain ⟨⟨h42, h43⟩, h⟩ := bck_i h
          refine r_iald hκ h42 h43 dX12_judge_127 ?_
          refine r_sipush hκ (by decide) dX12_judge_128 ?_
          refine r_iand hκ dX12_judge_131 ?_
          refine r_i2l hκ dX12_judge_132 ?_
          refine r_lcmp hκ dX12_judge_133 ?_
          refine r_if_ne hκ (tgt := 177) (by decide) dX12_judge_134 (fun h44 => ?_) (fun h44 => ?_)
          · replace h := (bte_i h).2 h44
            exact r_sub [0, 1, 2, 3, 4] rfl (ih 2 _ _ _ h rfl)
          · replace h := (bte_i h).1 h44
            refine r_aload_n hκ 0 rfl rfl dX12_judge_137 ?_
            obtain ⟨h45, h⟩ := bck_i h
            refine r_get hκ (t := 10) (k := 21) (r := 298) h45 rfl in_X12 (by decide) rfl q3072 (Or.inl rfl) dX12_judge_138 ?_
            refine r_bipush hκ (by decide) dX12_judge_141 ?_
            refine r_iload_n hκ 2 rfl rfl dX12_judge_143 ?_
            refine r_imul hκ dX12_judge_144 ?_
            refine r_iconst hκ dX12_judge_145 ?_
            refine r_iload hκ 4 rfl dX12_judge_146 ?_
            refine r_imul hκ dX12_judge_148 ?_
            refine r_iadd hκ dX12_judge_149 ?_
            refine r_iconst hκ dX12_judge_150 ?_
            refine r_iadd hκ dX12_judge_151 ?_
            obtain ⟨⟨h46, h47⟩, h⟩ := bck_i h
            refine r_lald hκ h46 h47 dX12_judge_152 ?_
            refine r_aload_n hκ 0 rfl rfl dX12_judge_153 ?_
            obtain ⟨h48, h⟩ := bck_i h
            refine r_get hκ (t := 10) (k := 3) (r := 226) h48 rfl in_X12 (by decide) rfl q3054 (Or.inl rfl) dX12_judge_154 ?_
            refine r_iload_n hκ 1 rfl rfl dX12_judge_157 ?_
            obtain ⟨⟨h49, h50⟩, h⟩ := bck_i h
            refine r_aald hκ (t := 10) (by decide) h49 h50 dX12_judge_158 ?_
            refine r_iload hκ 4 rfl dX12_judge_159 ?_
            obtain ⟨⟨h51, h52⟩, h⟩ := bck_i h
            refine r_iald hκ h51 h52 dX12_judge_161 ?_
            refine r_bipush hκ (by decide) dX12_judge_162 ?_
            refine r_ishr hκ dX12_judge_164 ?_
            refine r_bipush hκ (by decide) dX12_judge_165 ?_
            refine r_iand hκ dX12_judge_167 ?_
            refine r_i2l hκ dX12_judge_168 ?_
            refine r_lcmp hκ dX12_judge_169 ?_
            refine r_if_ne hκ (tgt := 177) (by decide) dX12_judge_170 (fun h53 => ?_) (fun h53 => ?_)
            · replace h := (bte_i h).2 h53
              exact r_sub [0, 1, 2, 3, 4] rfl (ih 2 _ _ _ h rfl)
            · replace h := (bte_i h).1 h53
              refine r_iconst hκ dX12_judge_173 ?_
              refine r_goto hκ (tgt := 178) (by decide) dX12_judge_174 ?_
              exact r_sub [0, 1, 2, 3, 4] rfl (ih 3 _ _ _ h rfl)
  | 2, h =>
      refine r_iconst hκ dX12_judge_177 ?_
      exact r_sub [0, 1, 2, 3, 4] rfl (ih 3 _ _ _ h rfl)
  | 3, h =>
      refine r_istore hκ (L2 := [(5, (0, x5)), (0, (2, x0)), (1, (0, x1)), (2, (0, x2)), (3, (0, x3)), (4, (0, x4))]) (by decide) rfl dX12_judge_178 ?_
      refine r_iload hκ 0 rfl dX12_judge_180 ?_
      refine r_if_ne hκ (tgt := 188) (by decide) dX12_judge_182 (fun h54 => ?_) (fun h54 => ?_)
      · replace h := (bte_i h).2 h54
        refine r_iinc hκ (L2 := [(4, (0, (x4 + 1))), (5, (0, x5)), (0, (2, x0)), (1, (0, x1)), (2, (0, x2)), (3, (0, x3))]) 5 rfl (by decide) rfl dX12_judge_188 ?_
        refine r_goto hκ (tgt := 88) (by decide) dX12_judge_191 ?_
        exact r_sub [2, 3, 4, 5, 0] rfl (ih 1 _ _ _ h rfl)
      · replace h := (bte_i h).1 h54
        refine r_iload hκ 5 rfl dX12_judge_185 ?_
        exact r_iretH hκ hf h (nar_int _) dX12_judge_187
  | b + 4, h => trivial
set_option maxHeartbeats 4000000 in
set_option maxRecDepth 100000 in
theorem w_X12_judge (Γ0 : bG) (l0 : Launch) {s0 st' : bS} {v a0 a1 a2 a3 : Int} (h : F_X12_judge s0 a0 a1 a2 a3 = some (st', v)) : bCt Γ0 l0 yX12_judge cX12_judge 6 (some .int) 2 45 [(2, a0), (0, a1), (0, a2), (0, a3)] s0 st' (some (0, v)) := by
  refine b_ent (own := RX12) (by decide +kernel) rfl (Nat.le_of_ble_eq_true rfl) (L := [(0, (2, a0)), (1, (0, a1)), (2, (0, a2)), (3, (0, a3))]) rfl ?_
  intro κ hκ hi hf
  unfold F_X12_judge at h
  refine r_iload_n hκ 1 rfl rfl dX12_judge_0 ?_
  obtain ⟨s1, v1, h1, h⟩ := bcl_i h
  refine r_callS hκ (n' := 1) (index := 319) (w_X12_isText Γ0 l0 h1) (lw_S q3475 q3476 q146 q3477) (by decide +kernel) rfl (by decide) rfl (Nat.le_of_ble_eq_true rfl) dX12_judge_1 ?_
  refine r_if_eq hκ (tgt := 26) (by decide) dX12_judge_4 (fun h2 => ?_) (fun h2 => ?_)
  · replace h := (bte_i h).1 h2
    exact r_sub [0] rfl (w_X12_judge_r hκ hi hf 0 _ _ _ _ _ _ _ h)
  · replace h := (bte_i h).2 h2
    refine r_iload_n hκ 2 rfl rfl dX12_judge_7 ?_
    obtain ⟨s2, v2, h3, h⟩ := bcl_i h
    refine r_callS hκ (n' := 1) (index := 327) (w_X12_isShelf Γ0 l0 h3) (lw_S q3499 q3500 q146 q3501) (by decide +kernel) rfl (by decide) rfl (Nat.le_of_ble_eq_true rfl) dX12_judge_8 ?_
    refine r_if_eq hκ (tgt := 26) (by decide) dX12_judge_11 (fun h4 => ?_) (fun h4 => ?_)
    · replace h := (bte_i h).1 h4
      exact r_sub [0] rfl (w_X12_judge_r hκ hi hf 0 _ _ _ _ _ _ _ h)
    · replace h := (bte_i h).2 h4
      refine r_iload_n hκ 3 rfl rfl dX12_judge_14 ?_
      refine r_i2l hκ dX12_judge_15 ?_
      refine r_lconst hκ (x := 0) (by decide) dX12_judge_16 ?_
      refine r_ldcl hκ (x := 20) q3539 (by decide) dX12_judge_17 ?_
      obtain ⟨s3, v3, h5, h⟩ := bcl_i h
      refine r_callS hκ (n' := 3) (index := 175) (w_X12_in Γ0 l0 h5) (lw_S q3156 q3157 q146 q3158) (by decide +kernel) rfl (by decide) rfl (Nat.le_of_ble_eq_true rfl) dX12_judge_20 ?_
      refine r_if_ne hκ (tgt := 33) (by decide) dX12_judge_23 (fun h6 => ?_) (fun h6 => ?_)
      · replace h := (bte_i h).2 h6
        refine r_aload_n hκ 0 rfl rfl dX12_judge_33 ?_
        obtain ⟨h7, h⟩ := bck_i h
        refine r_get hκ (t := 10) (k := 19) (r := 290) h7 rfl in_X12 (by decide) rfl q3070 (Or.inl rfl) dX12_judge_34 ?_
        refine r_iload_n hκ 2 rfl rfl dX12_judge_37 ?_
        obtain ⟨⟨h8, h9⟩, h⟩ := bck_i h
        refine r_iald hκ h8 h9 dX12_judge_38 ?_
        refine r_iconst hκ dX12_judge_39 ?_
        refine r_icmp_le hκ (tgt := 50) (by decide) dX12_judge_40 (fun h10 => ?_) (fun h10 => ?_)
        · replace h := (bte_i h).1 h10
          refine r_aload_n hκ 0 rfl rfl dX12_judge_50 ?_
          obtain ⟨h11, h⟩ := bck_i h
          refine r_get hκ (t := 10) (k := 19) (r := 290) h11 rfl in_X12 (by decide) rfl q3070 (Or.inl rfl) dX12_judge_51 ?_
          refine r_iload_n hκ 2 rfl rfl dX12_judge_54 ?_
          obtain ⟨⟨h12, h13⟩, h⟩ := bck_i h
          refine r_iald hκ h12 h13 dX12_judge_55 ?_
          refine r_if_ge hκ (tgt := 66) (by decide) dX12_judge_56 (fun h14 => ?_) (fun h14 => ?_)
          · replace h := (bte_i h).1 h14
            refine r_iconst hκ dX12_judge_66 ?_
            refine r_iload_n hκ 3 rfl rfl dX12_judge_67 ?_
            refine r_imul hκ dX12_judge_68 ?_
            refine r_aload_n hκ 0 rfl rfl dX12_judge_69 ?_
            obtain ⟨h15, h⟩ := bck_i h
            refine r_get hκ (t := 10) (k := 20) (r := 294) h15 rfl in_X12 (by decide) rfl q3071 (Or.inl rfl) dX12_judge_70 ?_
            refine r_iload_n hκ 2 rfl rfl dX12_judge_73 ?_
            obtain ⟨⟨h16, h17⟩, h⟩ := bck_i h
            refine r_iald hκ h16 h17 dX12_judge_74 ?_
            refine r_icmp_le hκ (tgt := 85) (by decide) dX12_judge_75 (fun h18 => ?_) (fun h18 => ?_)
            · replace h := (bte_i h).1 h18
              refine r_iconst hκ dX12_judge_85 ?_
              refine r_istore hκ (L2 := [(4, (0, 0)), (0, (2, a0)), (1, (0, a1)), (2, (0, a2)), (3, (0, a3))]) (by decide) rfl dX12_judge_86 ?_
              exact r_sub [1, 2, 3, 4, 0] rfl (w_X12_judge_r hκ hi hf 1 _ _ _ _ _ _ _ h)
            · replace h := (bte_i h).2 h18
              refine r_aload_n hκ 0 rfl rfl dX12_judge_78 ?_
              refine r_bipush hκ (by decide) dX12_judge_79 ?_
              obtain ⟨h19, h⟩ := bck_i h
              obtain ⟨s4, v4, h20, h⟩ := bcl_i h
              refine r_callV hκ (n' := 1) (index := 183) (w_X12_refused Γ0 l0 h20) (lw_V q3159 q3161 qs73 q146 q3162) (by decide +kernel) (t := 10) h19 rfl rfl (by decide) rfl (Nat.le_of_ble_eq_true rfl) dX12_judge_81 ?_
              exact r_iretH hκ hf h (nar_int _) dX12_judge_84
          · replace h := (bte_i h).2 h14
            refine r_aload_n hκ 0 rfl rfl dX12_judge_59 ?_
            refine r_bipush hκ (by decide) dX12_judge_60 ?_
            obtain ⟨h21, h⟩ := bck_i h
            obtain ⟨s5, v5, h22, h⟩ := bcl_i h
            refine r_callV hκ (n' := 1) (index := 183) (w_X12_refused Γ0 l0 h22) (lw_V q3159 q3161 qs73 q146 q3162) (by decide +kernel) (t := 10) h21 rfl rfl (by decide) rfl (Nat.le_of_ble_eq_true rfl) dX12_judge_62 ?_
            exact r_iretH hκ hf h (nar_int _) dX12_judge_65
        · replace h := (bte_i h).2 h10
          refine r_aload_n hκ 0 rfl rfl dX12_judge_43 ?_
          refine r_bipush hκ (by decide) dX12_judge_44 ?_
          obtain ⟨h23, h⟩ := bck_i h
          obtain ⟨s6, v6, h24, h⟩ := bcl_i h
          refine r_callV hκ (n' := 1) (index := 183) (w_X12_refused Γ0 l0 h24) (lw_V q3159 q3161 qs73 q146 q3162) (by decide +kernel) (t := 10) h23 rfl rfl (by decide) rfl (Nat.le_of_ble_eq_true rfl) dX12_judge_46 ?_
          exact r_iretH hκ hf h (nar_int _) dX12_judge_49
      · replace h := (bte_i h).1 h6
        exact r_sub [0] rfl (w_X12_judge_r hκ hi hf 0 _ _ _ _ _ _ _ h)
/-- EditsMeetModel.draw(I)I -/
def F_X12_draw (s0 : bS) (a0 a1 : Int) : Option (bS × Int) :=
  bck (bg s0 0 a0 0 = 11) <|
  bck (bg s0 0 a0 0 = 11) <|
  bck (bg s0 0 (bg s0 242 a0 0) 0 = 1003 ∧ (0 : Int) ≤ 1 ∧ 1 < bg s0 4 (bg s0 242 a0 0) 0) <|
  bck (bg s0 0 (bg s0 242 a0 0) 0 = 1003 ∧ (0 : Int) ≤ 1 ∧ 1 < bg s0 4 (bg s0 242 a0 0) 0) <|
  bst (bw s0 20 (bg s0 242 a0 0) 1 (((bg s0 20 (bg s0 242 a0 0) 1) * 1103515245) + 12345)) fun s1 =>
  bck (bg s1 0 a0 0 = 11) <|
  bck (bg s1 0 (bg s1 242 a0 0) 0 = 1003 ∧ (0 : Int) ≤ 1 ∧ 1 < bg s1 4 (bg s1 242 a0 0) 0) <|
  bck (¬ i32 a1 = 0) <|
  some (s1, (b_irem (b_iushr (bg s1 20 (bg s1 242 a0 0) 1) 16) a1))
set_option maxHeartbeats 4000000 in
set_option maxRecDepth 100000 in
theorem w_X12_draw (Γ0 : bG) (l0 : Launch) {s0 st' : bS} {v a0 a1 : Int} (h : F_X12_draw s0 a0 a1 = some (st', v)) : bCt Γ0 l0 yX12_draw cX12_draw 2 (some .int) 0 0 [(2, a0), (0, a1)] s0 st' (some (0, v)) := by
  refine b_ent (own := RX12) (by decide +kernel) rfl (Nat.le_of_ble_eq_true rfl) (L := [(0, (2, a0)), (1, (0, a1))]) rfl ?_
  intro κ hκ hi hf
  unfold F_X12_draw at h
  refine r_aload_n hκ 0 rfl rfl dX12_draw_0 ?_
  obtain ⟨h1, h⟩ := bck_i h
  refine r_get hκ (t := 10) (k := 7) (r := 242) h1 rfl in_X12 (by decide) rfl q3058 (Or.inl rfl) dX12_draw_1 ?_
  refine r_iconst hκ dX12_draw_4 ?_
  refine r_aload_n hκ 0 rfl rfl dX12_draw_5 ?_
  obtain ⟨h2, h⟩ := bck_i h
  refine r_get hκ (t := 10) (k := 7) (r := 242) h2 rfl in_X12 (by decide) rfl q3058 (Or.inl rfl) dX12_draw_6 ?_
  refine r_iconst hκ dX12_draw_9 ?_
  obtain ⟨⟨h3, h4⟩, h⟩ := bck_i h
  refine r_iald hκ h3 h4 dX12_draw_10 ?_
  refine r_ldcwi hκ (x := 1103515245) q3549 (by decide) dX12_draw_11 ?_
  refine r_imul hκ dX12_draw_14 ?_
  refine r_sipush hκ (by decide) dX12_draw_15 ?_
  refine r_iadd hκ dX12_draw_18 ?_
  obtain ⟨⟨h5, h6⟩, h⟩ := bck_i h
  refine r_iast hκ h5 h6 dX12_draw_19 (fun s1 es1 => ?_)
  replace h := bst_i h s1 es1
  refine r_aload_n hκ 0 rfl rfl dX12_draw_20 ?_
  obtain ⟨h7, h⟩ := bck_i h
  refine r_get hκ (t := 10) (k := 7) (r := 242) h7 rfl in_X12 (by decide) rfl q3058 (Or.inl rfl) dX12_draw_21 ?_
  refine r_iconst hκ dX12_draw_24 ?_
  obtain ⟨⟨h8, h9⟩, h⟩ := bck_i h
  refine r_iald hκ h8 h9 dX12_draw_25 ?_
  refine r_bipush hκ (by decide) dX12_draw_26 ?_
  refine r_iushr hκ dX12_draw_28 ?_
  refine r_iload_n hκ 1 rfl rfl dX12_draw_29 ?_
  obtain ⟨h10, h⟩ := bck_i h
  refine r_irem hκ h10 dX12_draw_30 ?_
  exact r_iretH hκ hf h (nar_int _) dX12_draw_31
/-- EditsMeetModel.isDay(II)Z -/
def F_X12_isDay_r (b : Nat) (x0 x1 x2 x3 x4 x5 x6 : Int) (s0 : bS) : Option (bS × Int) :=
  match b with
  | 0 =>
    bck (bg s0 0 x6 0 = 11) <|
    bcl (F_X12_keepsAllBut s0 x6 x5 x4 x3 x2) fun s11 v11 =>
    bck (bg s11 0 x0 0 = 11) <|
    bcl (F_X12_done s11 x0 x1 4 1) fun s12 v12 =>
    some (s12, 1)
  | 1 =>
    F_X12_isDay_r 2 x0 x1 0 0 0 0 0 s0
  | 2 =>
    bte (i32 x2 = 0)
    (bck (x2 = 0 ∨ x2 = 1) <|
    some (s0, x2))
    (bck (bg s0 0 x0 0 = 11) <|
    bcl (F_X12_serves s0 x0 x1) fun s10 v10 =>
    bck (x2 = 0 ∨ x2 = 1) <|
    some (s10, x2))
  | _ => none
partial_fixpoint
def F_X12_isDay (s0 : bS) (a0 a1 a2 : Int) : Option (bS × Int) :=
  bck (bg s0 0 a0 0 = 11) <|
  bck (bg s0 0 (bg s0 230 a0 0) 0 = 1003 ∧ (0 : Int) ≤ a1 ∧ a1 < bg s0 4 (bg s0 230 a0 0) 0) <|
  bvl ((bg s0 20 (bg s0 230 a0 0) a1)) fun t1 =>
  bte (i32 3 ≤ i32 a2)
  (bte (i32 5 ≤ i32 a2)
  (bte (i32 a2 = i32 5)
  (bck (bg s0 0 a0 0 = 11) <|
  bcl (F_X12_again s0 a0 a1 4) fun s4 v4 =>
  bte (i32 v4 = 0)
  (some (s4, 1))
  (some (s4, 0)))
  (bte (i32 a2 = i32 6)
  (bck (bg s0 0 a0 0 = 11) <|
  bcl (F_X12_st s0 a0 a1 1) fun s3 v3 =>
  bte (i32 v3 = i32 1)
  (bck (bg s3 0 a0 0 = 11) <|
  bck (bg s3 0 (bg s3 242 a0 0) 0 = 1003 ∧ (0 : Int) ≤ 0 ∧ 0 < bg s3 4 (bg s3 242 a0 0) 0) <|
  bte (i32 90 ≤ i32 (bg s3 20 (bg s3 242 a0 0) 0))
  (F_X12_isDay_r 1 a0 a1 0 0 0 0 0 s3)
  (F_X12_isDay_r 2 a0 a1 1 0 0 0 0 s3))
  (F_X12_isDay_r 1 a0 a1 0 0 0 0 0 s3))
  (bck (bg s0 0 a0 0 = 11) <|
  bcl (F_X12_st s0 a0 a1 0) fun s1 v1 =>
  bck (bg s1 0 a0 0 = 11) <|
  bck (bg s1 0 (bg s1 242 a0 0) 0 = 1003 ∧ (0 : Int) ≤ 0 ∧ 0 < bg s1 4 (bg s1 242 a0 0) 0) <|
  bte (i32 v1 = i32 (bg s1 20 (bg s1 242 a0 0) 0))
  (some (s1, 0))
  (bck (bg s1 0 a0 0 = 11) <|
  bcl (F_X12_hears s1 a0 a1) fun s2 v2 =>
  some (s2, 1)))))
  (bte (i32 t1 = 0)
  (some (s0, 0))
  (bck (bg s0 0 a0 0 = 11) <|
  bcl (F_X12_draw s0 a0 t1) fun s5 v5 =>
  bte (i32 a2 = i32 3)
  (F_X12_isDay_r 0 a0 a1 3145728 1 v5 a1 a0 s5)
  (bck (bg s5 0 a0 0 = 11) <|
  bcl (F_X12_draw s5 a0 4) fun s6 v6 =>
  F_X12_isDay_r 0 a0 a1 (b_ior 4194304 (b_ishl 16 v6)) 1 v5 a1 a0 s6))))
  (bte (i32 t1 < i32 60)
  (bck (bg s0 0 a0 0 = 11) <|
  bcl (F_X12_draw s0 a0 26) fun s7 v7 =>
  bck (bg s7 0 a0 0 = 11) <|
  bcl (F_X12_draw s7 a0 (t1 + 1)) fun s8 v8 =>
  bck (bg s8 0 a0 0 = 11) <|
  bcl (F_X12_inserts s8 a0 a1 v8 (b_ior 1048576 v7)) fun s9 v9 =>
  some (s9, 1))
  (some (s0, 0)))
set_option maxHeartbeats 4000000 in
set_option maxRecDepth 100000 in
set_option synthInstance.maxHeartbeats 4000000 in
theorem w_X12_isDay_r {Γ0 : bG} {l0 : Launch} {κ : bK} {st' : bS} {v : Int} (hκ : bOk κ Γ0 l0 cX12_isDay RX12 6 6 141) (hi : bIn κ yX12_isDay) (hf : bFin κ (some .boolean) st' (some (0, v))) (b : Nat) (x0 x1 x2 x3 x4 x5 x6 : Int) (s0 : bS) (h : F_X12_isDay_r b x0 x1 x2 x3 x4 x5 x6 s0 = some (st', v)) : match (generalizing := false) b with | 0 => bJ κ s0 91 [(0, (2, x0)), (1, (0, x1))] [(0, x2), (0, x3), (0, x4), (0, x5), (2, x6)] | 1 => bJ κ s0 154 [(0, (2, x0)), (1, (0, x1))] [] | 2 => bJ κ s0 155 [(0, (2, x0)), (1, (0, x1))] [(0, x2)] | _ => True := by
  refine F_X12_isDay_r.partial_correctness x0 x1 s0 (fun b x2 x3 x4 x5 x6 r => r = (st', v) → match (generalizing := false) b with | 0 => bJ κ s0 91 [(0, (2, x0)), (1, (0, x1))] [(0, x2), (0, x3), (0, x4), (0, x5), (2, x6)] | 1 => bJ κ s0 154 [(0, (2, x0)), (1, (0, x1))] [] | 2 => bJ κ s0 155 [(0, (2, x0)), (1, (0, x1))] [(0, x2)] | _ => True) ?_ b x2 x3 x4 x5 x6 _ h rfl
  intro f' ih b x2 x3 x4 x5 x6 r h hr
  subst hr
  match b, h with
  | 0, h =>
      obtain ⟨h44, h⟩ := bck_i h
      obtain ⟨s11, v11, h45, h⟩ := bcl_i h
      refine r_callV hκ (n' := 4) (index := 297) (w_X12_keepsAllBut Γ0 l0 h45) (lw_V q3394 q3396 qs109 q146 q3397) (by decide +kernel) (t := 10) h44 rfl rfl (by decide) rfl (Nat.le_of_ble_eq_true rfl) dX12_isDay_91 ?_
      refine r_aload_n hκ 0 rfl rfl dX12_isDay_94 ?_
      refine r_iload_n hκ 1 rfl rfl dX12_isDay_95 ?_
      refine r_iconst hκ dX12_isDay_96 ?_
      refine r_iconst hκ dX12_isDay_97 ?_
      obtain ⟨h46, h⟩ := bck_i h
      obtain ⟨s12, v12, h47, h⟩ := bcl_i h
      refine r_callV hκ (n' := 3) (index := 283) (w_X12_done Γ0 l0 h47) (lw_V q3348 q3350 qs100 q146 q3351) (by decide +kernel) (t := 10) h46 rfl rfl (by decide) rfl (Nat.le_of_ble_eq_true rfl) dX12_isDay_98 ?_
      refine r_iconst hκ dX12_isDay_101 ?_
      exact r_iretH hκ hf h (nar_bool (by decide)) dX12_isDay_102
  | 1, h =>
      refine r_iconst hκ dX12_isDay_154 ?_
      exact r_sub [0, 1] rfl (ih 2 _ _ _ _ _ _ h rfl)
  | 2, h =>
      refine r_istore hκ (L2 := [(4, (0, x2)), (0, (2, x0)), (1, (0, x1))]) (by decide) rfl dX12_isDay_155 ?_
      refine r_iload hκ 0 rfl dX12_isDay_157 ?_
      refine r_if_eq hκ (tgt := 170) (by decide) dX12_isDay_159 (fun h39 => ?_) (fun h39 => ?_)
      · replace h := (bte_i h).1 h39
        refine r_iconst hκ dX12_isDay_170 ?_
        refine r_istore hκ (L2 := [(5, (0, 0)), (4, (0, x2)), (0, (2, x0)), (1, (0, x1))]) (by decide) rfl dX12_isDay_171 ?_
        refine r_iload hκ 1 rfl dX12_isDay_173 ?_
        obtain ⟨h40, h⟩ := bck_i h
        exact r_iretH hκ hf h (nar_bool h40) dX12_isDay_175
      · replace h := (bte_i h).2 h39
        refine r_aload_n hκ 1 rfl rfl dX12_isDay_162 ?_
        refine r_iload_n hκ 2 rfl rfl dX12_isDay_163 ?_
        obtain ⟨h41, h⟩ := bck_i h
        obtain ⟨s10, v10, h42, h⟩ := bcl_i h
        refine r_callV hκ (n' := 1) (index := 300) (w_X12_serves Γ0 l0 h42) (lw_V q3406 q3408 qs110 q146 q3409) (by decide +kernel) (t := 10) h41 rfl rfl (by decide) rfl (Nat.le_of_ble_eq_true rfl) dX12_isDay_164 ?_
        refine r_goto hκ (tgt := 171) (by decide) dX12_isDay_167 ?_
        refine r_istore hκ (L2 := [(5, (0, v10)), (4, (0, x2)), (0, (2, x0)), (1, (0, x1))]) (by decide) rfl dX12_isDay_171 ?_
        refine r_iload hκ 1 rfl dX12_isDay_173 ?_
        obtain ⟨h43, h⟩ := bck_i h
        exact r_iretH hκ hf h (nar_bool h43) dX12_isDay_175
  | b + 3, h => trivial
set_option maxHeartbeats 4000000 in
set_option maxRecDepth 100000 in
theorem w_X12_isDay (Γ0 : bG) (l0 : Launch) {s0 st' : bS} {v a0 a1 a2 : Int} (h : F_X12_isDay s0 a0 a1 a2 = some (st', v)) : bCt Γ0 l0 yX12_isDay cX12_isDay 6 (some .boolean) 6 141 [(2, a0), (0, a1), (0, a2)] s0 st' (some (0, v)) := by
  refine b_ent (own := RX12) (by decide +kernel) rfl (Nat.le_of_ble_eq_true rfl) (L := [(0, (2, a0)), (1, (0, a1)), (2, (0, a2))]) rfl ?_
  intro κ hκ hi hf
  unfold F_X12_isDay at h
  refine r_aload_n hκ 0 rfl rfl dX12_isDay_0 ?_
  obtain ⟨h1, h⟩ := bck_i h
  refine r_get hκ (t := 10) (k := 4) (r := 230) h1 rfl in_X12 (by decide) rfl q3055 (Or.inl rfl) dX12_isDay_1 ?_
  refine r_iload_n hκ 1 rfl rfl dX12_isDay_4 ?_
  obtain ⟨⟨h2, h3⟩, h⟩ := bck_i h
  refine r_iald hκ h2 h3 dX12_isDay_5 ?_
  refine r_nm (fun t1 et1 => ?_)
  replace h := bvl_i h t1 et1
  refine r_istore_n hκ (L2 := [(3, (0, t1)), (0, (2, a0)), (1, (0, a1)), (2, (0, a2))]) (by decide) rfl rfl dX12_isDay_6 ?_
  refine r_iload_n hκ 3 rfl rfl dX12_isDay_7 ?_
  refine r_iconst hκ dX12_isDay_8 ?_
  refine r_icmp_ge hκ (tgt := 47) (by decide) dX12_isDay_9 (fun h4 => ?_) (fun h4 => ?_)
  · replace h := (bte_i h).1 h4
    refine r_iload_n hκ 3 rfl rfl dX12_isDay_47 ?_
    refine r_iconst hκ dX12_isDay_48 ?_
    refine r_icmp_ge hκ (tgt := 103) (by decide) dX12_isDay_49 (fun h5 => ?_) (fun h5 => ?_)
    · replace h := (bte_i h).1 h5
      refine r_iload_n hκ 3 rfl rfl dX12_isDay_103 ?_
      refine r_iconst hκ dX12_isDay_104 ?_
      refine r_icmp_ne hκ (tgt := 123) (by decide) dX12_isDay_105 (fun h6 => ?_) (fun h6 => ?_)
      · replace h := (bte_i h).2 h6
        refine r_iload_n hκ 3 rfl rfl dX12_isDay_123 ?_
        refine r_bipush hκ (by decide) dX12_isDay_124 ?_
        refine r_icmp_ne hκ (tgt := 176) (by decide) dX12_isDay_126 (fun h7 => ?_) (fun h7 => ?_)
        · replace h := (bte_i h).2 h7
          refine r_aload_n hκ 1 rfl rfl dX12_isDay_176 ?_
          refine r_iload_n hκ 2 rfl rfl dX12_isDay_177 ?_
          refine r_iconst hκ dX12_isDay_178 ?_
          obtain ⟨h8, h⟩ := bck_i h
          obtain ⟨s1, v1, h9, h⟩ := bcl_i h
          refine r_callV hκ (n' := 2) (index := 135) (w_X12_st Γ0 l0 h9) (lw_V q3360 q3362 qs103 q146 q3363) (by decide +kernel) (t := 10) h8 rfl rfl (by decide) rfl (Nat.le_of_ble_eq_true rfl) dX12_isDay_179 ?_
          refine r_aload_n hκ 1 rfl rfl dX12_isDay_182 ?_
          obtain ⟨h10, h⟩ := bck_i h
          refine r_get hκ (t := 10) (k := 7) (r := 242) h10 rfl in_X12 (by decide) rfl q3058 (Or.inl rfl) dX12_isDay_183 ?_
          refine r_iconst hκ dX12_isDay_186 ?_
          obtain ⟨⟨h11, h12⟩, h⟩ := bck_i h
          refine r_iald hκ h11 h12 dX12_isDay_187 ?_
          refine r_icmp_ne hκ (tgt := 193) (by decide) dX12_isDay_188 (fun h13 => ?_) (fun h13 => ?_)
          · replace h := (bte_i h).2 h13
            refine r_aload_n hκ 1 rfl rfl dX12_isDay_193 ?_
            refine r_iload_n hκ 2 rfl rfl dX12_isDay_194 ?_
            obtain ⟨h14, h⟩ := bck_i h
            obtain ⟨s2, v2, h15, h⟩ := bcl_i h
            refine r_callV hκ (n' := 1) (index := 303) (w_X12_hears Γ0 l0 h15) (lw_V q3418 q3420 qs112 q146 q3421) (by decide +kernel) (t := 10) h14 rfl rfl (by decide) rfl (Nat.le_of_ble_eq_true rfl) dX12_isDay_195 ?_
            refine r_iconst hκ dX12_isDay_198 ?_
            exact r_iretH hκ hf h (nar_bool (by decide)) dX12_isDay_199
          · replace h := (bte_i h).1 h13
            refine r_iconst hκ dX12_isDay_191 ?_
            exact r_iretH hκ hf h (nar_bool (by decide)) dX12_isDay_192
        · replace h := (bte_i h).1 h7
          refine r_aload_n hκ 1 rfl rfl dX12_isDay_129 ?_
          refine r_iload_n hκ 2 rfl rfl dX12_isDay_130 ?_
          refine r_iconst hκ dX12_isDay_131 ?_
          obtain ⟨h16, h⟩ := bck_i h
          obtain ⟨s3, v3, h17, h⟩ := bcl_i h
          refine r_callV hκ (n' := 2) (index := 135) (w_X12_st Γ0 l0 h17) (lw_V q3360 q3362 qs103 q146 q3363) (by decide +kernel) (t := 10) h16 rfl rfl (by decide) rfl (Nat.le_of_ble_eq_true rfl) dX12_isDay_132 ?_
          refine r_iconst hκ dX12_isDay_135 ?_
          refine r_icmp_ne hκ (tgt := 154) (by decide) dX12_isDay_136 (fun h18 => ?_) (fun h18 => ?_)
          · replace h := (bte_i h).2 h18
            exact r_sub [1, 2] rfl (w_X12_isDay_r hκ hi hf 1 _ _ _ _ _ _ _ _ h)
          · replace h := (bte_i h).1 h18
            refine r_aload_n hκ 1 rfl rfl dX12_isDay_139 ?_
            obtain ⟨h19, h⟩ := bck_i h
            refine r_get hκ (t := 10) (k := 7) (r := 242) h19 rfl in_X12 (by decide) rfl q3058 (Or.inl rfl) dX12_isDay_140 ?_
            refine r_iconst hκ dX12_isDay_143 ?_
            obtain ⟨⟨h20, h21⟩, h⟩ := bck_i h
            refine r_iald hκ h20 h21 dX12_isDay_144 ?_
            refine r_bipush hκ (by decide) dX12_isDay_145 ?_
            refine r_icmp_ge hκ (tgt := 154) (by decide) dX12_isDay_147 (fun h22 => ?_) (fun h22 => ?_)
            · replace h := (bte_i h).1 h22
              exact r_sub [1, 2] rfl (w_X12_isDay_r hκ hi hf 1 _ _ _ _ _ _ _ _ h)
            · replace h := (bte_i h).2 h22
              refine r_iconst hκ dX12_isDay_150 ?_
              refine r_goto hκ (tgt := 155) (by decide) dX12_isDay_151 ?_
              exact r_sub [1, 2] rfl (w_X12_isDay_r hκ hi hf 2 _ _ _ _ _ _ _ _ h)
      · replace h := (bte_i h).1 h6
        refine r_aload_n hκ 1 rfl rfl dX12_isDay_108 ?_
        refine r_iload_n hκ 2 rfl rfl dX12_isDay_109 ?_
        refine r_iconst hκ dX12_isDay_110 ?_
        obtain ⟨h23, h⟩ := bck_i h
        obtain ⟨s4, v4, h24, h⟩ := bcl_i h
        refine r_callV hκ (n' := 2) (index := 312) (w_X12_again Γ0 l0 h24) (lw_V q3442 q3444 qs116 q146 q3445) (by decide +kernel) (t := 10) h23 rfl rfl (by decide) rfl (Nat.le_of_ble_eq_true rfl) dX12_isDay_111 ?_
        refine r_if_ne hκ (tgt := 121) (by decide) dX12_isDay_114 (fun h25 => ?_) (fun h25 => ?_)
        · replace h := (bte_i h).2 h25
          refine r_iconst hκ dX12_isDay_121 ?_
          exact r_iretH hκ hf h (nar_bool (by decide)) dX12_isDay_122
        · replace h := (bte_i h).1 h25
          refine r_iconst hκ dX12_isDay_117 ?_
          refine r_goto hκ (tgt := 122) (by decide) dX12_isDay_118 ?_
          exact r_iretH hκ hf h (nar_bool (by decide)) dX12_isDay_122
    · replace h := (bte_i h).2 h5
      refine r_iload_n hκ 0 rfl rfl dX12_isDay_52 ?_
      refine r_if_ne hκ (tgt := 58) (by decide) dX12_isDay_53 (fun h26 => ?_) (fun h26 => ?_)
      · replace h := (bte_i h).2 h26
        refine r_aload_n hκ 1 rfl rfl dX12_isDay_58 ?_
        refine r_iload_n hκ 0 rfl rfl dX12_isDay_59 ?_
        obtain ⟨h27, h⟩ := bck_i h
        obtain ⟨s5, v5, h28, h⟩ := bcl_i h
        refine r_callV hκ (n' := 1) (index := 347) (w_X12_draw Γ0 l0 h28) (lw_V q3545 q3547 qs118 q146 q3548) (by decide +kernel) (t := 10) h27 rfl rfl (by decide) rfl (Nat.le_of_ble_eq_true rfl) dX12_isDay_60 ?_
        refine r_istore hκ (L2 := [(4, (0, v5)), (3, (0, t1)), (0, (2, a0)), (1, (0, a1)), (2, (0, a2))]) (by decide) rfl dX12_isDay_63 ?_
        refine r_aload_n hκ 2 rfl rfl dX12_isDay_65 ?_
        refine r_iload_n hκ 3 rfl rfl dX12_isDay_66 ?_
        refine r_iload hκ 0 rfl dX12_isDay_67 ?_
        refine r_iconst hκ dX12_isDay_69 ?_
        refine r_iload_n hκ 4 rfl rfl dX12_isDay_70 ?_
        refine r_iconst hκ dX12_isDay_71 ?_
        refine r_icmp_ne hκ (tgt := 80) (by decide) dX12_isDay_72 (fun h29 => ?_) (fun h29 => ?_)
        · replace h := (bte_i h).2 h29
          refine r_ldci hκ (x := 4194304) q3198 (by decide) dX12_isDay_80 ?_
          refine r_bipush hκ (by decide) dX12_isDay_82 ?_
          refine r_aload_n hκ 2 rfl rfl dX12_isDay_84 ?_
          refine r_iconst hκ dX12_isDay_85 ?_
          obtain ⟨h30, h⟩ := bck_i h
          obtain ⟨s6, v6, h31, h⟩ := bcl_i h
          refine r_callV hκ (n' := 1) (index := 347) (w_X12_draw Γ0 l0 h31) (lw_V q3545 q3547 qs118 q146 q3548) (by decide +kernel) (t := 10) h30 rfl rfl (by decide) rfl (Nat.le_of_ble_eq_true rfl) dX12_isDay_86 ?_
          refine r_ishl hκ dX12_isDay_89 ?_
          refine r_ior hκ dX12_isDay_90 ?_
          exact r_sub [2, 3] rfl (w_X12_isDay_r hκ hi hf 0 _ _ _ _ _ _ _ _ h)
        · replace h := (bte_i h).1 h29
          refine r_ldci hκ (x := 3145728) q3197 (by decide) dX12_isDay_75 ?_
          refine r_goto hκ (tgt := 91) (by decide) dX12_isDay_77 ?_
          exact r_sub [2, 3] rfl (w_X12_isDay_r hκ hi hf 0 _ _ _ _ _ _ _ _ h)
      · replace h := (bte_i h).1 h26
        refine r_iconst hκ dX12_isDay_56 ?_
        exact r_iretH hκ hf h (nar_bool (by decide)) dX12_isDay_57
  · replace h := (bte_i h).2 h4
    refine r_iload_n hκ 0 rfl rfl dX12_isDay_12 ?_
    refine r_bipush hκ (by decide) dX12_isDay_13 ?_
    refine r_icmp_lt hκ (tgt := 20) (by decide) dX12_isDay_15 (fun h32 => ?_) (fun h32 => ?_)
    · replace h := (bte_i h).1 h32
      refine r_aload_n hκ 1 rfl rfl dX12_isDay_20 ?_
      refine r_bipush hκ (by decide) dX12_isDay_21 ?_
      obtain ⟨h33, h⟩ := bck_i h
      obtain ⟨s7, v7, h34, h⟩ := bcl_i h
      refine r_callV hκ (n' := 1) (index := 347) (w_X12_draw Γ0 l0 h34) (lw_V q3545 q3547 qs118 q146 q3548) (by decide +kernel) (t := 10) h33 rfl rfl (by decide) rfl (Nat.le_of_ble_eq_true rfl) dX12_isDay_23 ?_
      refine r_istore hκ (L2 := [(4, (0, v7)), (3, (0, t1)), (0, (2, a0)), (1, (0, a1)), (2, (0, a2))]) (by decide) rfl dX12_isDay_26 ?_
      refine r_aload_n hκ 2 rfl rfl dX12_isDay_28 ?_
      refine r_iload_n hκ 3 rfl rfl dX12_isDay_29 ?_
      refine r_aload_n hκ 2 rfl rfl dX12_isDay_30 ?_
      refine r_iload_n hκ 1 rfl rfl dX12_isDay_31 ?_
      refine r_iconst hκ dX12_isDay_32 ?_
      refine r_iadd hκ dX12_isDay_33 ?_
      obtain ⟨h35, h⟩ := bck_i h
      obtain ⟨s8, v8, h36, h⟩ := bcl_i h
      refine r_callV hκ (n' := 1) (index := 347) (w_X12_draw Γ0 l0 h36) (lw_V q3545 q3547 qs118 q146 q3548) (by decide +kernel) (t := 10) h35 rfl rfl (by decide) rfl (Nat.le_of_ble_eq_true rfl) dX12_isDay_34 ?_
      refine r_ldci hκ (x := 1048576) q3185 (by decide) dX12_isDay_37 ?_
      refine r_iload hκ 0 rfl dX12_isDay_39 ?_
      refine r_ior hκ dX12_isDay_41 ?_
      obtain ⟨h37, h⟩ := bck_i h
      obtain ⟨s9, v9, h38, h⟩ := bcl_i h
      refine r_callV hκ (n' := 3) (index := 290) (w_X12_inserts Γ0 l0 h38) (lw_V q3382 q3384 qs107 q146 q3385) (by decide +kernel) (t := 10) h37 rfl rfl (by decide) rfl (Nat.le_of_ble_eq_true rfl) dX12_isDay_42 ?_
      refine r_iconst hκ dX12_isDay_45 ?_
      exact r_iretH hκ hf h (nar_bool (by decide)) dX12_isDay_46
    · replace h := (bte_i h).2 h32
      refine r_iconst hκ dX12_isDay_18 ?_
      exact r_iretH hκ hf h (nar_bool (by decide)) dX12_isDay_19
/-- EditsMeetModel.days(I)I -/
def F_X12_days_r (b : Nat) (x0 x1 x2 x3 x4 : Int) (s0 : bS) : Option (bS × Int) :=
  match b with
  | 0 =>
    bte (i32 x1 ≤ i32 x3)
    (some (s0, x2))
    (bck (bg s0 0 x0 0 = 11) <|
    bcl (F_X12_draw s0 x0 4) fun s3 v3 =>
    bck (bg s3 0 x0 0 = 11) <|
    bcl (F_X12_draw s3 x0 8) fun s4 v4 =>
    bck (bg s4 0 x0 0 = 11) <|
    bcl (F_X12_isDay s4 x0 v3 v4) fun s5 v5 =>
    bte (i32 v5 = 0)
    (F_X12_days_r 1 x0 x1 x3 0 x2 s5)
    (F_X12_days_r 1 x0 x1 x3 1 x2 s5))
  | 1 =>
    F_X12_days_r 0 x0 x1 (x4 + x3) (x2 + 1) 0 s0
  | _ => none
partial_fixpoint
def F_X12_days (s0 : bS) (a0 a1 : Int) : Option (bS × Int) :=
  bcl (F_X12_in s0 (b_i2l a1) 1 60) fun s1 v1 =>
  bte (i32 v1 = 0)
  (bck (bg s1 0 a0 0 = 11) <|
  bcl (F_X12_refused s1 a0 (-2)) fun s2 v2 =>
  some (s2, v2))
  (F_X12_days_r 0 a0 a1 0 0 0 s1)
set_option maxHeartbeats 4000000 in
set_option maxRecDepth 100000 in
set_option synthInstance.maxHeartbeats 4000000 in
theorem w_X12_days_r {Γ0 : bG} {l0 : Launch} {κ : bK} {st' : bS} {v : Int} (hκ : bOk κ Γ0 l0 cX12_days RX12 5 7 166) (hi : bIn κ yX12_days) (hf : bFin κ (some .int) st' (some (0, v))) (b : Nat) (x0 x1 x2 x3 x4 : Int) (s0 : bS) (h : F_X12_days_r b x0 x1 x2 x3 x4 s0 = some (st', v)) : match (generalizing := false) b with | 0 => bJ κ s0 23 [(0, (2, x0)), (1, (0, x1)), (2, (0, x2)), (3, (0, x3))] [] | 1 => bJ κ s0 56 [(0, (2, x0)), (1, (0, x1)), (3, (0, x2))] [(0, x3), (0, x4)] | _ => True := by
  refine F_X12_days_r.partial_correctness x0 x1 (fun b x2 x3 x4 s0 r => r = (st', v) → match (generalizing := false) b with | 0 => bJ κ s0 23 [(0, (2, x0)), (1, (0, x1)), (2, (0, x2)), (3, (0, x3))] [] | 1 => bJ κ s0 56 [(0, (2, x0)), (1, (0, x1)), (3, (0, x2))] [(0, x3), (0, x4)] | _ => True) ?_ b x2 x3 x4 s0 _ h rfl
  intro f' ih b x2 x3 x4 s0 r h hr
  subst hr
  match b, h with
  | 0, h =>
      refine r_iload_n hκ 3 rfl rfl dX12_days_23 ?_
      refine r_iload_n hκ 1 rfl rfl dX12_days_24 ?_
      refine r_icmp_ge hκ (tgt := 64) (by decide) dX12_days_25 (fun h5 => ?_) (fun h5 => ?_)
      · replace h := (bte_i h).1 h5
        refine r_iload_n hκ 2 rfl rfl dX12_days_64 ?_
        exact r_iretH hκ hf h (nar_int _) dX12_days_65
      · replace h := (bte_i h).2 h5
        refine r_aload_n hκ 0 rfl rfl dX12_days_28 ?_
        refine r_iconst hκ dX12_days_29 ?_
        obtain ⟨h6, h⟩ := bck_i h
        obtain ⟨s3, v3, h7, h⟩ := bcl_i h
        refine r_callV hκ (n' := 1) (index := 347) (w_X12_draw Γ0 l0 h7) (lw_V q3545 q3547 qs118 q146 q3548) (by decide +kernel) (t := 10) h6 rfl rfl (by decide) rfl (Nat.le_of_ble_eq_true rfl) dX12_days_30 ?_
        refine r_istore hκ (L2 := [(4, (0, v3)), (0, (2, x0)), (1, (0, x1)), (2, (0, x2)), (3, (0, x3))]) (by decide) rfl dX12_days_33 ?_
        refine r_iload_n hκ 3 rfl rfl dX12_days_35 ?_
        refine r_aload_n hκ 1 rfl rfl dX12_days_36 ?_
        refine r_iload hκ 0 rfl dX12_days_37 ?_
        refine r_aload_n hκ 1 rfl rfl dX12_days_39 ?_
        refine r_bipush hκ (by decide) dX12_days_40 ?_
        obtain ⟨h8, h⟩ := bck_i h
        obtain ⟨s4, v4, h9, h⟩ := bcl_i h
        refine r_callV hκ (n' := 1) (index := 347) (w_X12_draw Γ0 l0 h9) (lw_V q3545 q3547 qs118 q146 q3548) (by decide +kernel) (t := 10) h8 rfl rfl (by decide) rfl (Nat.le_of_ble_eq_true rfl) dX12_days_42 ?_
        obtain ⟨h10, h⟩ := bck_i h
        obtain ⟨s5, v5, h11, h⟩ := bcl_i h
        refine r_callV hκ (n' := 2) (index := 352) (w_X12_isDay Γ0 l0 h11) (lw_V q3550 q3552 qs119 q146 q3553) (by decide +kernel) (t := 10) h10 rfl rfl (by decide) rfl (Nat.le_of_ble_eq_true rfl) dX12_days_45 ?_
        refine r_if_eq hκ (tgt := 55) (by decide) dX12_days_48 (fun h12 => ?_) (fun h12 => ?_)
        · replace h := (bte_i h).1 h12
          refine r_iconst hκ dX12_days_55 ?_
          exact r_sub [1, 2, 4] rfl (ih 1 _ _ _ _ _ h rfl)
        · replace h := (bte_i h).2 h12
          refine r_iconst hκ dX12_days_51 ?_
          refine r_goto hκ (tgt := 56) (by decide) dX12_days_52 ?_
          exact r_sub [1, 2, 4] rfl (ih 1 _ _ _ _ _ h rfl)
  | 1, h =>
      refine r_iadd hκ dX12_days_56 ?_
      refine r_istore_n hκ (L2 := [(2, (0, (x4 + x3))), (0, (2, x0)), (1, (0, x1)), (3, (0, x2))]) (by decide) rfl rfl dX12_days_57 ?_
      refine r_iinc hκ (L2 := [(3, (0, (x2 + 1))), (2, (0, (x4 + x3))), (0, (2, x0)), (1, (0, x1))]) 3 rfl (by decide) rfl dX12_days_58 ?_
      refine r_goto hκ (tgt := 23) (by decide) dX12_days_61 ?_
      exact r_sub [2, 3, 1, 0] rfl (ih 0 _ _ _ _ _ h rfl)
  | b + 2, h => trivial
set_option maxHeartbeats 4000000 in
set_option maxRecDepth 100000 in
theorem w_X12_days (Γ0 : bG) (l0 : Launch) {s0 st' : bS} {v a0 a1 : Int} (h : F_X12_days s0 a0 a1 = some (st', v)) : bCt Γ0 l0 yX12_days cX12_days 5 (some .int) 7 166 [(2, a0), (0, a1)] s0 st' (some (0, v)) := by
  refine b_ent (own := RX12) (by decide +kernel) rfl (Nat.le_of_ble_eq_true rfl) (L := [(0, (2, a0)), (1, (0, a1))]) rfl ?_
  intro κ hκ hi hf
  unfold F_X12_days at h
  refine r_iload_n hκ 1 rfl rfl dX12_days_0 ?_
  refine r_i2l hκ dX12_days_1 ?_
  refine r_lconst hκ (x := 1) (by decide) dX12_days_2 ?_
  refine r_ldcl hκ (x := 60) q3544 (by decide) dX12_days_3 ?_
  obtain ⟨s1, v1, h1, h⟩ := bcl_i h
  refine r_callS hκ (n' := 3) (index := 175) (w_X12_in Γ0 l0 h1) (lw_S q3156 q3157 q146 q3158) (by decide +kernel) rfl (by decide) rfl (Nat.le_of_ble_eq_true rfl) dX12_days_6 ?_
  refine r_if_ne hκ (tgt := 19) (by decide) dX12_days_9 (fun h2 => ?_) (fun h2 => ?_)
  · replace h := (bte_i h).2 h2
    refine r_iconst hκ dX12_days_19 ?_
    refine r_istore_n hκ (L2 := [(2, (0, 0)), (0, (2, a0)), (1, (0, a1))]) (by decide) rfl rfl dX12_days_20 ?_
    refine r_iconst hκ dX12_days_21 ?_
    refine r_istore_n hκ (L2 := [(3, (0, 0)), (2, (0, 0)), (0, (2, a0)), (1, (0, a1))]) (by decide) rfl rfl dX12_days_22 ?_
    exact r_sub [2, 3, 1, 0] rfl (w_X12_days_r hκ hi hf 0 _ _ _ _ _ _ h)
  · replace h := (bte_i h).1 h2
    refine r_aload_n hκ 0 rfl rfl dX12_days_12 ?_
    refine r_bipush hκ (by decide) dX12_days_13 ?_
    obtain ⟨h3, h⟩ := bck_i h
    obtain ⟨s2, v2, h4, h⟩ := bcl_i h
    refine r_callV hκ (n' := 1) (index := 183) (w_X12_refused Γ0 l0 h4) (lw_V q3159 q3161 qs73 q146 q3162) (by decide +kernel) (t := 10) h3 rfl rfl (by decide) rfl (Nat.le_of_ble_eq_true rfl) dX12_days_15 ?_
    exact r_iretH hκ hf h (nar_int _) dX12_days_18
/-- EditsMeetModel.seed(I)I -/
def F_X12_seed (s0 : bS) (a0 a1 : Int) : Option (bS × Int) :=
  bck (bg s0 0 a0 0 = 11) <|
  bck (bg s0 0 (bg s0 242 a0 0) 0 = 1003 ∧ (0 : Int) ≤ 1 ∧ 1 < bg s0 4 (bg s0 242 a0 0) 0) <|
  bvl ((bg s0 20 (bg s0 242 a0 0) 1)) fun t1 =>
  bck (bg s0 0 a0 0 = 11) <|
  bck (bg s0 0 (bg s0 242 a0 0) 0 = 1003 ∧ (0 : Int) ≤ 1 ∧ 1 < bg s0 4 (bg s0 242 a0 0) 0) <|
  bst (bw s0 20 (bg s0 242 a0 0) 1 a1) fun s1 =>
  some (s1, t1)
set_option maxHeartbeats 4000000 in
set_option maxRecDepth 100000 in
theorem w_X12_seed (Γ0 : bG) (l0 : Launch) {s0 st' : bS} {v a0 a1 : Int} (h : F_X12_seed s0 a0 a1 = some (st', v)) : bCt Γ0 l0 yX12_seed cX12_seed 3 (some .int) 0 0 [(2, a0), (0, a1)] s0 st' (some (0, v)) := by
  refine b_ent (own := RX12) (by decide +kernel) rfl (Nat.le_of_ble_eq_true rfl) (L := [(0, (2, a0)), (1, (0, a1))]) rfl ?_
  intro κ hκ hi hf
  unfold F_X12_seed at h
  refine r_aload_n hκ 0 rfl rfl dX12_seed_0 ?_
  obtain ⟨h1, h⟩ := bck_i h
  refine r_get hκ (t := 10) (k := 7) (r := 242) h1 rfl in_X12 (by decide) rfl q3058 (Or.inl rfl) dX12_seed_1 ?_
  refine r_iconst hκ dX12_seed_4 ?_
  obtain ⟨⟨h2, h3⟩, h⟩ := bck_i h
  refine r_iald hκ h2 h3 dX12_seed_5 ?_
  refine r_nm (fun t1 et1 => ?_)
  replace h := bvl_i h t1 et1
  refine r_istore_n hκ (L2 := [(2, (0, t1)), (0, (2, a0)), (1, (0, a1))]) (by decide) rfl rfl dX12_seed_6 ?_
  refine r_aload_n hκ 1 rfl rfl dX12_seed_7 ?_
  obtain ⟨h4, h⟩ := bck_i h
  refine r_get hκ (t := 10) (k := 7) (r := 242) h4 rfl in_X12 (by decide) rfl q3058 (Or.inl rfl) dX12_seed_8 ?_
  refine r_iconst hκ dX12_seed_11 ?_
  refine r_iload_n hκ 2 rfl rfl dX12_seed_12 ?_
  obtain ⟨⟨h5, h6⟩, h⟩ := bck_i h
  refine r_iast hκ h5 h6 dX12_seed_13 (fun s1 es1 => ?_)
  replace h := bst_i h s1 es1
  refine r_iload_n hκ 0 rfl rfl dX12_seed_14 ?_
  exact r_iretH hκ hf h (nar_int _) dX12_seed_15
/-- EditsMeetModel.copies([I[II)V -/
def F_X12_copies_r (b : Nat) (x0 x1 x2 x3 : Int) (s0 : bS) : Option (bS × Int) :=
  match b with
  | 0 =>
    bte (i32 x2 ≤ i32 x3)
    (some (s0, 0))
    (bck (bg s0 0 x0 0 = 1003 ∧ (0 : Int) ≤ x3 ∧ x3 < bg s0 4 x0 0) <|
    bck (bg s0 0 x1 0 = 1003 ∧ (0 : Int) ≤ x3 ∧ x3 < bg s0 4 x1 0) <|
    bst (bw s0 20 x1 x3 (bg s0 20 x0 x3)) fun s1 =>
    F_X12_copies_r 0 x0 x1 x2 (x3 + 1) s1)
  | _ => none
partial_fixpoint
def F_X12_copies (s0 : bS) (a0 a1 a2 : Int) : Option (bS × Int) :=
  F_X12_copies_r 0 a0 a1 a2 0 s0
set_option maxHeartbeats 4000000 in
set_option maxRecDepth 100000 in
set_option synthInstance.maxHeartbeats 4000000 in
theorem w_X12_copies_r {Γ0 : bG} {l0 : Launch} {κ : bK} {st' : bS} {v : Int} (hκ : bOk κ Γ0 l0 cX12_copies RX12 4 0 0) (hi : bIn κ yX12_copies) (hf : bFin κ none st' none) (b : Nat) (x0 x1 x2 x3 : Int) (s0 : bS) (h : F_X12_copies_r b x0 x1 x2 x3 s0 = some (st', v)) : match (generalizing := false) b with | 0 => bJ κ s0 2 [(0, (2, x0)), (1, (2, x1)), (2, (0, x2)), (3, (0, x3))] [] | _ => True := by
  refine F_X12_copies_r.partial_correctness x0 x1 x2 (fun b x3 s0 r => r = (st', v) → match (generalizing := false) b with | 0 => bJ κ s0 2 [(0, (2, x0)), (1, (2, x1)), (2, (0, x2)), (3, (0, x3))] [] | _ => True) ?_ b x3 s0 _ h rfl
  intro f' ih b x3 s0 r h hr
  subst hr
  match b, h with
  | 0, h =>
      refine r_iload_n hκ 3 rfl rfl dX12_copies_2 ?_
      refine r_iload_n hκ 2 rfl rfl dX12_copies_3 ?_
      refine r_icmp_ge hκ (tgt := 19) (by decide) dX12_copies_4 (fun h1 => ?_) (fun h1 => ?_)
      · replace h := (bte_i h).1 h1
        exact r_vretH hκ hf h dX12_copies_19
      · replace h := (bte_i h).2 h1
        refine r_aload_n hκ 1 rfl rfl dX12_copies_7 ?_
        refine r_iload_n hκ 3 rfl rfl dX12_copies_8 ?_
        refine r_aload_n hκ 0 rfl rfl dX12_copies_9 ?_
        refine r_iload_n hκ 3 rfl rfl dX12_copies_10 ?_
        obtain ⟨⟨h2, h3⟩, h⟩ := bck_i h
        refine r_iald hκ h2 h3 dX12_copies_11 ?_
        obtain ⟨⟨h4, h5⟩, h⟩ := bck_i h
        refine r_iast hκ h4 h5 dX12_copies_12 (fun s1 es1 => ?_)
        replace h := bst_i h s1 es1
        refine r_iinc hκ (L2 := [(3, (0, (x3 + 1))), (0, (2, x0)), (1, (2, x1)), (2, (0, x2))]) 3 rfl (by decide) rfl dX12_copies_13 ?_
        refine r_goto hκ (tgt := 2) (by decide) dX12_copies_16 ?_
        exact r_sub [1, 2, 3, 0] rfl (ih 0 _ _ _ h rfl)
  | b + 1, h => trivial
set_option maxHeartbeats 4000000 in
set_option maxRecDepth 100000 in
theorem w_X12_copies (Γ0 : bG) (l0 : Launch) {s0 st' : bS} {v a0 a1 a2 : Int} (h : F_X12_copies s0 a0 a1 a2 = some (st', v)) : bCt Γ0 l0 yX12_copies cX12_copies 4 none 0 0 [(2, a0), (2, a1), (0, a2)] s0 st' none := by
  refine b_ent (own := RX12) (by decide +kernel) rfl (Nat.le_of_ble_eq_true rfl) (L := [(0, (2, a0)), (1, (2, a1)), (2, (0, a2))]) rfl ?_
  intro κ hκ hi hf
  unfold F_X12_copies at h
  refine r_iconst hκ dX12_copies_0 ?_
  refine r_istore_n hκ (L2 := [(3, (0, 0)), (0, (2, a0)), (1, (2, a1)), (2, (0, a2))]) (by decide) rfl rfl dX12_copies_1 ?_
  exact r_sub [1, 2, 3, 0] rfl (w_X12_copies_r hκ hi hf 0 _ _ _ _ _ h)
/-- EditsMeetModel.copiesRows([[I[II[[I[I)V -/
def F_X12_copiesRows_r (b : Nat) (x0 x1 x2 x3 x4 : Int) (s0 : bS) : Option (bS × Int) :=
  match b with
  | 0 =>
    bck (bg s0 0 x1 0 = 1003) <|
    bte (i32 (bg s0 4 x1 0) ≤ i32 x4)
    (some (s0, 0))
    (bck (bg s0 0 x2 0 = 1010 ∧ (0 : Int) ≤ x4 ∧ x4 < bg s0 4 x2 0) <|
    bck (bg s0 0 x1 0 = 1003 ∧ (0 : Int) ≤ x4 ∧ x4 < bg s0 4 x1 0) <|
    bcl (F_X12_grown s0 (bg s0 10 x2 x4) (bg s0 20 x1 x4)) fun s1 v1 =>
    bck ((bg s1 0 x2 0 = 1010 ∧ (0 : Int) ≤ x4 ∧ x4 < bg s1 4 x2 0) ∧ bg s1 0 v1 0 = 1003) <|
    bst (bw s1 10 x2 x4 v1) fun s2 =>
    bck (bg s2 0 x0 0 = 1010 ∧ (0 : Int) ≤ x4 ∧ x4 < bg s2 4 x0 0) <|
    bck (bg s2 0 x2 0 = 1010 ∧ (0 : Int) ≤ x4 ∧ x4 < bg s2 4 x2 0) <|
    bck (bg s2 0 x1 0 = 1003 ∧ (0 : Int) ≤ x4 ∧ x4 < bg s2 4 x1 0) <|
    bcl (F_X12_copies s2 (bg s2 10 x0 x4) (bg s2 10 x2 x4) (bg s2 20 x1 x4)) fun s3 v2 =>
    bck (bg s3 0 x1 0 = 1003 ∧ (0 : Int) ≤ x4 ∧ x4 < bg s3 4 x1 0) <|
    bck (bg s3 0 x3 0 = 1003 ∧ (0 : Int) ≤ x4 ∧ x4 < bg s3 4 x3 0) <|
    bst (bw s3 20 x3 x4 (bg s3 20 x1 x4)) fun s4 =>
    F_X12_copiesRows_r 0 x0 x1 x2 x3 (x4 + 1) s4)
  | _ => none
partial_fixpoint
def F_X12_copiesRows (s0 : bS) (a0 a1 a2 a3 a4 : Int) : Option (bS × Int) :=
  F_X12_copiesRows_r 0 a0 a1 a3 a4 a2 s0
set_option maxHeartbeats 4000000 in
set_option maxRecDepth 100000 in
set_option synthInstance.maxHeartbeats 4000000 in
theorem w_X12_copiesRows_r {Γ0 : bG} {l0 : Launch} {κ : bK} {st' : bS} {v : Int} (hκ : bOk κ Γ0 l0 cX12_copiesRows RX12 6 1 23) (hi : bIn κ yX12_copiesRows) (hf : bFin κ none st' none) (b : Nat) (x0 x1 x2 x3 x4 : Int) (s0 : bS) (h : F_X12_copiesRows_r b x0 x1 x2 x3 x4 s0 = some (st', v)) : match (generalizing := false) b with | 0 => bJ κ s0 3 [(0, (2, x0)), (1, (2, x1)), (3, (2, x2)), (4, (2, x3)), (5, (0, x4))] [] | _ => True := by
  refine F_X12_copiesRows_r.partial_correctness x0 x1 x2 x3 (fun b x4 s0 r => r = (st', v) → match (generalizing := false) b with | 0 => bJ κ s0 3 [(0, (2, x0)), (1, (2, x1)), (3, (2, x2)), (4, (2, x3)), (5, (0, x4))] [] | _ => True) ?_ b x4 s0 _ h rfl
  intro f' ih b x4 s0 r h hr
  subst hr
  match b, h with
  | 0, h =>
      refine r_iload hκ 4 rfl dX12_copiesRows_3 ?_
      refine r_aload_n hκ 1 rfl rfl dX12_copiesRows_5 ?_
      obtain ⟨h1, h⟩ := bck_i h
      refine r_alen hκ (t := 3) h1 rfl dX12_copiesRows_6 ?_
      refine r_icmp_ge hκ (tgt := 55) (by decide) dX12_copiesRows_7 (fun h2 => ?_) (fun h2 => ?_)
      · replace h := (bte_i h).1 h2
        exact r_vretH hκ hf h dX12_copiesRows_55
      · replace h := (bte_i h).2 h2
        refine r_aload_n hκ 2 rfl rfl dX12_copiesRows_10 ?_
        refine r_iload hκ 4 rfl dX12_copiesRows_11 ?_
        refine r_aload_n hκ 2 rfl rfl dX12_copiesRows_13 ?_
        refine r_iload hκ 4 rfl dX12_copiesRows_14 ?_
        obtain ⟨⟨h3, h4⟩, h⟩ := bck_i h
        refine r_aald hκ (t := 10) (by decide) h3 h4 dX12_copiesRows_16 ?_
        refine r_aload_n hκ 1 rfl rfl dX12_copiesRows_17 ?_
        refine r_iload hκ 4 rfl dX12_copiesRows_18 ?_
        obtain ⟨⟨h5, h6⟩, h⟩ := bck_i h
        refine r_iald hκ h5 h6 dX12_copiesRows_20 ?_
        obtain ⟨s1, v1, h7, h⟩ := bcl_i h
        refine r_callS hκ (n' := 2) (index := 93) (w_X12_grown Γ0 l0 h7) (lw_S q3215 q3216 q146 q3217) (by decide +kernel) rfl (by decide) rfl (Nat.le_of_ble_eq_true rfl) dX12_copiesRows_21 ?_
        obtain ⟨⟨⟨h8, h9⟩, h10⟩, h⟩ := bck_i h
        refine r_aastI hκ h8 h9 h10 dX12_copiesRows_24 (fun s2 es2 => ?_)
        replace h := bst_i h s2 es2
        refine r_aload_n hκ 0 rfl rfl dX12_copiesRows_25 ?_
        refine r_iload hκ 4 rfl dX12_copiesRows_26 ?_
        obtain ⟨⟨h11, h12⟩, h⟩ := bck_i h
        refine r_aald hκ (t := 10) (by decide) h11 h12 dX12_copiesRows_28 ?_
        refine r_aload_n hκ 2 rfl rfl dX12_copiesRows_29 ?_
        refine r_iload hκ 4 rfl dX12_copiesRows_30 ?_
        obtain ⟨⟨h13, h14⟩, h⟩ := bck_i h
        refine r_aald hκ (t := 10) (by decide) h13 h14 dX12_copiesRows_32 ?_
        refine r_aload_n hκ 1 rfl rfl dX12_copiesRows_33 ?_
        refine r_iload hκ 4 rfl dX12_copiesRows_34 ?_
        obtain ⟨⟨h15, h16⟩, h⟩ := bck_i h
        refine r_iald hκ h15 h16 dX12_copiesRows_36 ?_
        obtain ⟨s3, v2, h17, h⟩ := bcl_i h
        refine r_callS hκ (n' := 3) (index := 355) (w_X12_copies Γ0 l0 h17) (lw_S q3565 q3566 q146 q3567) (by decide +kernel) rfl (by decide) rfl (Nat.le_of_ble_eq_true rfl) dX12_copiesRows_37 ?_
        refine r_aload hκ 3 rfl dX12_copiesRows_40 ?_
        refine r_iload hκ 4 rfl dX12_copiesRows_42 ?_
        refine r_aload_n hκ 1 rfl rfl dX12_copiesRows_44 ?_
        refine r_iload hκ 4 rfl dX12_copiesRows_45 ?_
        obtain ⟨⟨h18, h19⟩, h⟩ := bck_i h
        refine r_iald hκ h18 h19 dX12_copiesRows_47 ?_
        obtain ⟨⟨h20, h21⟩, h⟩ := bck_i h
        refine r_iast hκ h20 h21 dX12_copiesRows_48 (fun s4 es4 => ?_)
        replace h := bst_i h s4 es4
        refine r_iinc hκ (L2 := [(5, (0, (x4 + 1))), (0, (2, x0)), (1, (2, x1)), (3, (2, x2)), (4, (2, x3))]) 4 rfl (by decide) rfl dX12_copiesRows_49 ?_
        refine r_goto hκ (tgt := 3) (by decide) dX12_copiesRows_52 ?_
        exact r_sub [1, 2, 3, 4, 0] rfl (ih 0 _ _ _ h rfl)
  | b + 1, h => trivial
set_option maxHeartbeats 4000000 in
set_option maxRecDepth 100000 in
theorem w_X12_copiesRows (Γ0 : bG) (l0 : Launch) {s0 st' : bS} {v a0 a1 a2 a3 a4 : Int} (h : F_X12_copiesRows s0 a0 a1 a2 a3 a4 = some (st', v)) : bCt Γ0 l0 yX12_copiesRows cX12_copiesRows 6 none 1 23 [(2, a0), (2, a1), (0, a2), (2, a3), (2, a4)] s0 st' none := by
  refine b_ent (own := RX12) (by decide +kernel) rfl (Nat.le_of_ble_eq_true rfl) (L := [(0, (2, a0)), (1, (2, a1)), (2, (0, a2)), (3, (2, a3)), (4, (2, a4))]) rfl ?_
  intro κ hκ hi hf
  unfold F_X12_copiesRows at h
  refine r_iload_n hκ 2 rfl rfl dX12_copiesRows_0 ?_
  refine r_istore hκ (L2 := [(5, (0, a2)), (0, (2, a0)), (1, (2, a1)), (2, (0, a2)), (3, (2, a3)), (4, (2, a4))]) (by decide) rfl dX12_copiesRows_1 ?_
  exact r_sub [1, 2, 4, 5, 0] rfl (w_X12_copiesRows_r hκ hi hf 0 _ _ _ _ _ _ h)
/-- EditsMeetModel.image()I -/
def F_X12_image (s0 : bS) (a0 : Int) : Option (bS × Int) :=
  bck (bg s0 0 a0 0 = 11) <|
  bck (bg s0 0 a0 0 = 11) <|
  bck (bg s0 0 a0 0 = 11) <|
  bck (bg s0 0 a0 0 = 11) <|
  bcl (F_X12_copiesRows s0 (bg s0 214 a0 0) (bg s0 218 a0 0) 12 (bg s0 314 a0 0) (bg s0 318 a0 0)) fun s1 v1 =>
  bck (bg s1 0 a0 0 = 11) <|
  bck (bg s1 0 a0 0 = 11) <|
  bck (bg s1 0 a0 0 = 11) <|
  bck (bg s1 0 a0 0 = 11) <|
  bcl (F_X12_copiesRows s1 (bg s1 226 a0 0) (bg s1 230 a0 0) 0 (bg s1 322 a0 0) (bg s1 326 a0 0)) fun s2 v2 =>
  bck (bg s2 0 a0 0 = 11) <|
  bck (bg s2 0 a0 0 = 11) <|
  bcl (F_X12_copies s2 (bg s2 234 a0 0) (bg s2 330 a0 0) 32) fun s3 v3 =>
  bck (bg s3 0 a0 0 = 11) <|
  bck (bg s3 0 a0 0 = 11) <|
  bcl (F_X12_copies s3 (bg s3 238 a0 0) (bg s3 334 a0 0) 91) fun s4 v4 =>
  bck (bg s4 0 a0 0 = 11) <|
  bck (bg s4 0 a0 0 = 11) <|
  bcl (F_X12_copies s4 (bg s4 242 a0 0) (bg s4 338 a0 0) 2) fun s5 v5 =>
  bck ((bg s5 0 a0 0 = 11) ∧ ((1 : Int) = 0 ∨ (1 : Int) = 1)) <|
  bst (bw s5 340 a0 0 1) fun s6 =>
  some (s6, 1)
set_option maxHeartbeats 4000000 in
set_option maxRecDepth 100000 in
theorem w_X12_image (Γ0 : bG) (l0 : Launch) {s0 st' : bS} {v a0 : Int} (h : F_X12_image s0 a0 = some (st', v)) : bCt Γ0 l0 yX12_image cX12_image 1 (some .int) 2 48 [(2, a0)] s0 st' (some (0, v)) := by
  refine b_ent (own := RX12) (by decide +kernel) rfl (Nat.le_of_ble_eq_true rfl) (L := [(0, (2, a0))]) rfl ?_
  intro κ hκ hi hf
  unfold F_X12_image at h
  refine r_aload_n hκ 0 rfl rfl dX12_image_0 ?_
  obtain ⟨h1, h⟩ := bck_i h
  refine r_get hκ (t := 10) (k := 0) (r := 214) h1 rfl in_X12 (by decide) rfl q3051 (Or.inl rfl) dX12_image_1 ?_
  refine r_aload_n hκ 0 rfl rfl dX12_image_4 ?_
  obtain ⟨h2, h⟩ := bck_i h
  refine r_get hκ (t := 10) (k := 1) (r := 218) h2 rfl in_X12 (by decide) rfl q3052 (Or.inl rfl) dX12_image_5 ?_
  refine r_bipush hκ (by decide) dX12_image_8 ?_
  refine r_aload_n hκ 0 rfl rfl dX12_image_10 ?_
  obtain ⟨h3, h⟩ := bck_i h
  refine r_get hκ (t := 10) (k := 25) (r := 314) h3 rfl in_X12 (by decide) rfl q3076 (Or.inl rfl) dX12_image_11 ?_
  refine r_aload_n hκ 0 rfl rfl dX12_image_14 ?_
  obtain ⟨h4, h⟩ := bck_i h
  refine r_get hκ (t := 10) (k := 26) (r := 318) h4 rfl in_X12 (by decide) rfl q3077 (Or.inl rfl) dX12_image_15 ?_
  obtain ⟨s1, v1, h5, h⟩ := bcl_i h
  refine r_callS hκ (n' := 5) (index := 359) (w_X12_copiesRows Γ0 l0 h5) (lw_S q3562 q3563 q146 q3564) (by decide +kernel) rfl (by decide) rfl (Nat.le_of_ble_eq_true rfl) dX12_image_18 ?_
  refine r_aload_n hκ 0 rfl rfl dX12_image_21 ?_
  obtain ⟨h6, h⟩ := bck_i h
  refine r_get hκ (t := 10) (k := 3) (r := 226) h6 rfl in_X12 (by decide) rfl q3054 (Or.inl rfl) dX12_image_22 ?_
  refine r_aload_n hκ 0 rfl rfl dX12_image_25 ?_
  obtain ⟨h7, h⟩ := bck_i h
  refine r_get hκ (t := 10) (k := 4) (r := 230) h7 rfl in_X12 (by decide) rfl q3055 (Or.inl rfl) dX12_image_26 ?_
  refine r_iconst hκ dX12_image_29 ?_
  refine r_aload_n hκ 0 rfl rfl dX12_image_30 ?_
  obtain ⟨h8, h⟩ := bck_i h
  refine r_get hκ (t := 10) (k := 27) (r := 322) h8 rfl in_X12 (by decide) rfl q3078 (Or.inl rfl) dX12_image_31 ?_
  refine r_aload_n hκ 0 rfl rfl dX12_image_34 ?_
  obtain ⟨h9, h⟩ := bck_i h
  refine r_get hκ (t := 10) (k := 28) (r := 326) h9 rfl in_X12 (by decide) rfl q3079 (Or.inl rfl) dX12_image_35 ?_
  obtain ⟨s2, v2, h10, h⟩ := bcl_i h
  refine r_callS hκ (n' := 5) (index := 359) (w_X12_copiesRows Γ0 l0 h10) (lw_S q3562 q3563 q146 q3564) (by decide +kernel) rfl (by decide) rfl (Nat.le_of_ble_eq_true rfl) dX12_image_38 ?_
  refine r_aload_n hκ 0 rfl rfl dX12_image_41 ?_
  obtain ⟨h11, h⟩ := bck_i h
  refine r_get hκ (t := 10) (k := 5) (r := 234) h11 rfl in_X12 (by decide) rfl q3056 (Or.inl rfl) dX12_image_42 ?_
  refine r_aload_n hκ 0 rfl rfl dX12_image_45 ?_
  obtain ⟨h12, h⟩ := bck_i h
  refine r_get hκ (t := 10) (k := 29) (r := 330) h12 rfl in_X12 (by decide) rfl q3080 (Or.inl rfl) dX12_image_46 ?_
  refine r_bipush hκ (by decide) dX12_image_49 ?_
  obtain ⟨s3, v3, h13, h⟩ := bcl_i h
  refine r_callS hκ (n' := 3) (index := 355) (w_X12_copies Γ0 l0 h13) (lw_S q3565 q3566 q146 q3567) (by decide +kernel) rfl (by decide) rfl (Nat.le_of_ble_eq_true rfl) dX12_image_51 ?_
  refine r_aload_n hκ 0 rfl rfl dX12_image_54 ?_
  obtain ⟨h14, h⟩ := bck_i h
  refine r_get hκ (t := 10) (k := 6) (r := 238) h14 rfl in_X12 (by decide) rfl q3057 (Or.inl rfl) dX12_image_55 ?_
  refine r_aload_n hκ 0 rfl rfl dX12_image_58 ?_
  obtain ⟨h15, h⟩ := bck_i h
  refine r_get hκ (t := 10) (k := 30) (r := 334) h15 rfl in_X12 (by decide) rfl q3081 (Or.inl rfl) dX12_image_59 ?_
  refine r_bipush hκ (by decide) dX12_image_62 ?_
  obtain ⟨s4, v4, h16, h⟩ := bcl_i h
  refine r_callS hκ (n' := 3) (index := 355) (w_X12_copies Γ0 l0 h16) (lw_S q3565 q3566 q146 q3567) (by decide +kernel) rfl (by decide) rfl (Nat.le_of_ble_eq_true rfl) dX12_image_64 ?_
  refine r_aload_n hκ 0 rfl rfl dX12_image_67 ?_
  obtain ⟨h17, h⟩ := bck_i h
  refine r_get hκ (t := 10) (k := 7) (r := 242) h17 rfl in_X12 (by decide) rfl q3058 (Or.inl rfl) dX12_image_68 ?_
  refine r_aload_n hκ 0 rfl rfl dX12_image_71 ?_
  obtain ⟨h18, h⟩ := bck_i h
  refine r_get hκ (t := 10) (k := 31) (r := 338) h18 rfl in_X12 (by decide) rfl q3082 (Or.inl rfl) dX12_image_72 ?_
  refine r_iconst hκ dX12_image_75 ?_
  obtain ⟨s5, v5, h19, h⟩ := bcl_i h
  refine r_callS hκ (n' := 3) (index := 355) (w_X12_copies Γ0 l0 h19) (lw_S q3565 q3566 q146 q3567) (by decide +kernel) rfl (by decide) rfl (Nat.le_of_ble_eq_true rfl) dX12_image_76 ?_
  refine r_aload_n hκ 0 rfl rfl dX12_image_79 ?_
  refine r_iconst hκ dX12_image_80 ?_
  obtain ⟨⟨h20, h21⟩, h⟩ := bck_i h
  refine r_put hκ (t := 10) (k := 32) (r := 340) (ty := .boolean) tyX12 tyX12_ok nmX12 h20 rfl in_X12 (by decide) rfl q3083 (Or.inl rfl) rfl rfl rfl h21 (Or.inl (by decide)) dX12_image_81 (fun s6 es6 => ?_)
  replace h := bst_i h s6 es6
  refine r_iconst hκ dX12_image_84 ?_
  exact r_iretH hκ hf h (nar_int _) dX12_image_85
/-- EditsMeetModel.back()I -/
def F_X12_back (s0 : bS) (a0 : Int) : Option (bS × Int) :=
  bck (bg s0 0 a0 0 = 11) <|
  bte (i32 (bg s0 340 a0 0) = 0)
  (bck (bg s0 0 a0 0 = 11) <|
  bcl (F_X12_refused s0 a0 (-5)) fun s6 v6 =>
  some (s6, v6))
  (bck (bg s0 0 a0 0 = 11) <|
  bck (bg s0 0 a0 0 = 11) <|
  bck (bg s0 0 a0 0 = 11) <|
  bck (bg s0 0 a0 0 = 11) <|
  bcl (F_X12_copiesRows s0 (bg s0 314 a0 0) (bg s0 318 a0 0) 12 (bg s0 214 a0 0) (bg s0 218 a0 0)) fun s1 v1 =>
  bck (bg s1 0 a0 0 = 11) <|
  bck (bg s1 0 a0 0 = 11) <|
  bck (bg s1 0 a0 0 = 11) <|
  bck (bg s1 0 a0 0 = 11) <|
  bcl (F_X12_copiesRows s1 (bg s1 322 a0 0) (bg s1 326 a0 0) 0 (bg s1 226 a0 0) (bg s1 230 a0 0)) fun s2 v2 =>
  bck (bg s2 0 a0 0 = 11) <|
  bck (bg s2 0 a0 0 = 11) <|
  bcl (F_X12_copies s2 (bg s2 330 a0 0) (bg s2 234 a0 0) 32) fun s3 v3 =>
  bck (bg s3 0 a0 0 = 11) <|
  bck (bg s3 0 a0 0 = 11) <|
  bcl (F_X12_copies s3 (bg s3 334 a0 0) (bg s3 238 a0 0) 91) fun s4 v4 =>
  bck (bg s4 0 a0 0 = 11) <|
  bck (bg s4 0 a0 0 = 11) <|
  bcl (F_X12_copies s4 (bg s4 338 a0 0) (bg s4 242 a0 0) 2) fun s5 v5 =>
  some (s5, 1))
set_option maxHeartbeats 4000000 in
set_option maxRecDepth 100000 in
theorem w_X12_back (Γ0 : bG) (l0 : Launch) {s0 st' : bS} {v a0 : Int} (h : F_X12_back s0 a0 = some (st', v)) : bCt Γ0 l0 yX12_back cX12_back 1 (some .int) 2 48 [(2, a0)] s0 st' (some (0, v)) := by
  refine b_ent (own := RX12) (by decide +kernel) rfl (Nat.le_of_ble_eq_true rfl) (L := [(0, (2, a0))]) rfl ?_
  intro κ hκ hi hf
  unfold F_X12_back at h
  refine r_aload_n hκ 0 rfl rfl dX12_back_0 ?_
  obtain ⟨h1, h⟩ := bck_i h
  refine r_get hκ (t := 10) (k := 32) (r := 340) h1 rfl in_X12 (by decide) rfl q3083 (Or.inl rfl) dX12_back_1 ?_
  refine r_if_ne hκ (tgt := 14) (by decide) dX12_back_4 (fun h2 => ?_) (fun h2 => ?_)
  · replace h := (bte_i h).2 h2
    refine r_aload_n hκ 0 rfl rfl dX12_back_14 ?_
    obtain ⟨h3, h⟩ := bck_i h
    refine r_get hκ (t := 10) (k := 25) (r := 314) h3 rfl in_X12 (by decide) rfl q3076 (Or.inl rfl) dX12_back_15 ?_
    refine r_aload_n hκ 0 rfl rfl dX12_back_18 ?_
    obtain ⟨h4, h⟩ := bck_i h
    refine r_get hκ (t := 10) (k := 26) (r := 318) h4 rfl in_X12 (by decide) rfl q3077 (Or.inl rfl) dX12_back_19 ?_
    refine r_bipush hκ (by decide) dX12_back_22 ?_
    refine r_aload_n hκ 0 rfl rfl dX12_back_24 ?_
    obtain ⟨h5, h⟩ := bck_i h
    refine r_get hκ (t := 10) (k := 0) (r := 214) h5 rfl in_X12 (by decide) rfl q3051 (Or.inl rfl) dX12_back_25 ?_
    refine r_aload_n hκ 0 rfl rfl dX12_back_28 ?_
    obtain ⟨h6, h⟩ := bck_i h
    refine r_get hκ (t := 10) (k := 1) (r := 218) h6 rfl in_X12 (by decide) rfl q3052 (Or.inl rfl) dX12_back_29 ?_
    obtain ⟨s1, v1, h7, h⟩ := bcl_i h
    refine r_callS hκ (n' := 5) (index := 359) (w_X12_copiesRows Γ0 l0 h7) (lw_S q3562 q3563 q146 q3564) (by decide +kernel) rfl (by decide) rfl (Nat.le_of_ble_eq_true rfl) dX12_back_32 ?_
    refine r_aload_n hκ 0 rfl rfl dX12_back_35 ?_
    obtain ⟨h8, h⟩ := bck_i h
    refine r_get hκ (t := 10) (k := 27) (r := 322) h8 rfl in_X12 (by decide) rfl q3078 (Or.inl rfl) dX12_back_36 ?_
    refine r_aload_n hκ 0 rfl rfl dX12_back_39 ?_
    obtain ⟨h9, h⟩ := bck_i h
    refine r_get hκ (t := 10) (k := 28) (r := 326) h9 rfl in_X12 (by decide) rfl q3079 (Or.inl rfl) dX12_back_40 ?_
    refine r_iconst hκ dX12_back_43 ?_
    refine r_aload_n hκ 0 rfl rfl dX12_back_44 ?_
    obtain ⟨h10, h⟩ := bck_i h
    refine r_get hκ (t := 10) (k := 3) (r := 226) h10 rfl in_X12 (by decide) rfl q3054 (Or.inl rfl) dX12_back_45 ?_
    refine r_aload_n hκ 0 rfl rfl dX12_back_48 ?_
    obtain ⟨h11, h⟩ := bck_i h
    refine r_get hκ (t := 10) (k := 4) (r := 230) h11 rfl in_X12 (by decide) rfl q3055 (Or.inl rfl) dX12_back_49 ?_
    obtain ⟨s2, v2, h12, h⟩ := bcl_i h
    refine r_callS hκ (n' := 5) (index := 359) (w_X12_copiesRows Γ0 l0 h12) (lw_S q3562 q3563 q146 q3564) (by decide +kernel) rfl (by decide) rfl (Nat.le_of_ble_eq_true rfl) dX12_back_52 ?_
    refine r_aload_n hκ 0 rfl rfl dX12_back_55 ?_
    obtain ⟨h13, h⟩ := bck_i h
    refine r_get hκ (t := 10) (k := 29) (r := 330) h13 rfl in_X12 (by decide) rfl q3080 (Or.inl rfl) dX12_back_56 ?_
    refine r_aload_n hκ 0 rfl rfl dX12_back_59 ?_
    obtain ⟨h14, h⟩ := bck_i h
    refine r_get hκ (t := 10) (k := 5) (r := 234) h14 rfl in_X12 (by decide) rfl q3056 (Or.inl rfl) dX12_back_60 ?_
    refine r_bipush hκ (by decide) dX12_back_63 ?_
    obtain ⟨s3, v3, h15, h⟩ := bcl_i h
    refine r_callS hκ (n' := 3) (index := 355) (w_X12_copies Γ0 l0 h15) (lw_S q3565 q3566 q146 q3567) (by decide +kernel) rfl (by decide) rfl (Nat.le_of_ble_eq_true rfl) dX12_back_65 ?_
    refine r_aload_n hκ 0 rfl rfl dX12_back_68 ?_
    obtain ⟨h16, h⟩ := bck_i h
    refine r_get hκ (t := 10) (k := 30) (r := 334) h16 rfl in_X12 (by decide) rfl q3081 (Or.inl rfl) dX12_back_69 ?_
    refine r_aload_n hκ 0 rfl rfl dX12_back_72 ?_
    obtain ⟨h17, h⟩ := bck_i h
    refine r_get hκ (t := 10) (k := 6) (r := 238) h17 rfl in_X12 (by decide) rfl q3057 (Or.inl rfl) dX12_back_73 ?_
    refine r_bipush hκ (by decide) dX12_back_76 ?_
    obtain ⟨s4, v4, h18, h⟩ := bcl_i h
    refine r_callS hκ (n' := 3) (index := 355) (w_X12_copies Γ0 l0 h18) (lw_S q3565 q3566 q146 q3567) (by decide +kernel) rfl (by decide) rfl (Nat.le_of_ble_eq_true rfl) dX12_back_78 ?_
    refine r_aload_n hκ 0 rfl rfl dX12_back_81 ?_
    obtain ⟨h19, h⟩ := bck_i h
    refine r_get hκ (t := 10) (k := 31) (r := 338) h19 rfl in_X12 (by decide) rfl q3082 (Or.inl rfl) dX12_back_82 ?_
    refine r_aload_n hκ 0 rfl rfl dX12_back_85 ?_
    obtain ⟨h20, h⟩ := bck_i h
    refine r_get hκ (t := 10) (k := 7) (r := 242) h20 rfl in_X12 (by decide) rfl q3058 (Or.inl rfl) dX12_back_86 ?_
    refine r_iconst hκ dX12_back_89 ?_
    obtain ⟨s5, v5, h21, h⟩ := bcl_i h
    refine r_callS hκ (n' := 3) (index := 355) (w_X12_copies Γ0 l0 h21) (lw_S q3565 q3566 q146 q3567) (by decide +kernel) rfl (by decide) rfl (Nat.le_of_ble_eq_true rfl) dX12_back_90 ?_
    refine r_iconst hκ dX12_back_93 ?_
    exact r_iretH hκ hf h (nar_int _) dX12_back_94
  · replace h := (bte_i h).1 h2
    refine r_aload_n hκ 0 rfl rfl dX12_back_7 ?_
    refine r_bipush hκ (by decide) dX12_back_8 ?_
    obtain ⟨h22, h⟩ := bck_i h
    obtain ⟨s6, v6, h23, h⟩ := bcl_i h
    refine r_callV hκ (n' := 1) (index := 183) (w_X12_refused Γ0 l0 h23) (lw_V q3159 q3161 qs73 q146 q3162) (by decide +kernel) (t := 10) h22 rfl rfl (by decide) rfl (Nat.le_of_ble_eq_true rfl) dX12_back_10 ?_
    exact r_iretH hκ hf h (nar_int _) dX12_back_13
/-- EditsMeetModel.status(I)I -/
def F_X12_status_r (b : Nat) (x0 x1 x2 x3 : Int) (s0 : bS) : Option (bS × Int) :=
  match b with
  | 0 =>
    bte (i32 4 ≤ i32 x2)
    (some (s0, x1))
    (bck (bg s0 0 x0 0 = 11) <|
    bcl (F_X12_firstApart s0 x0 x2 4) fun s2 v2 =>
    bte (0 ≤ i32 v2)
    (F_X12_status_r 1 x0 x2 0 x1 s2)
    (F_X12_status_r 1 x0 x2 1 x1 s2))
  | 1 =>
    F_X12_status_r 0 x0 (x3 + x2) (x1 + 1) 0 s0
  | 2 =>
    bte (i32 12 ≤ i32 x2)
    (some (s0, x1))
    (bck (bg s0 0 x0 0 = 11) <|
    bck (bg s0 0 (bg s0 222 x0 0) 0 = 1001 ∧ (0 : Int) ≤ x2 ∧ x2 < bg s0 4 (bg s0 222 x0 0) 0) <|
    bte (i32 (bg s0 12 (bg s0 222 x0 0) x2) = 0)
    (F_X12_status_r 3 x0 x2 0 x1 s0)
    (F_X12_status_r 3 x0 x2 1 x1 s0))
  | 3 =>
    F_X12_status_r 2 x0 (x3 + x2) (x1 + 1) 0 s0
  | 4 =>
    bte (i32 5 ≤ i32 x2)
    (some (s0, x1))
    (bck (bg s0 0 x0 0 = 11) <|
    bck (bg s0 0 (bg s0 230 x0 0) 0 = 1003 ∧ (0 : Int) ≤ x2 ∧ x2 < bg s0 4 (bg s0 230 x0 0) 0) <|
    bvl ((x1 + (bg s0 20 (bg s0 230 x0 0) x2))) fun t1 =>
    F_X12_status_r 4 x0 t1 (x2 + 1) 0 s0)
  | 5 =>
    bte (i32 4 ≤ i32 x2)
    (some (s0, x1))
    (bck (bg s0 0 x0 0 = 11) <|
    bcl (F_X12_st s0 x0 x2 1) fun s3 v3 =>
    bte (i32 v3 ≤ 0)
    (F_X12_status_r 6 x0 x2 0 x1 s3)
    (F_X12_status_r 6 x0 x2 1 x1 s3))
  | 6 =>
    F_X12_status_r 5 x0 (x3 + x2) (x1 + 1) 0 s0
  | 7 =>
    bte (i32 8 ≤ i32 x2)
    (some (s0, x1))
    (bck (bg s0 0 x0 0 = 11) <|
    bck (bg s0 0 (bg s0 290 x0 0) 0 = 1003 ∧ (0 : Int) ≤ x2 ∧ x2 < bg s0 4 (bg s0 290 x0 0) 0) <|
    bte (i32 (bg s0 20 (bg s0 290 x0 0) x2) < 0)
    (F_X12_status_r 8 x0 x2 0 x1 s0)
    (F_X12_status_r 8 x0 x2 1 x1 s0))
  | 8 =>
    F_X12_status_r 7 x0 (x3 + x2) (x1 + 1) 0 s0
  | _ => none
partial_fixpoint
def F_X12_status (s0 : bS) (a0 a1 : Int) : Option (bS × Int) :=
  bte (b_t a1 = 0) (bck (bg s0 0 a0 0 = 11) <|
  bck (bg s0 0 (bg s0 242 a0 0) 0 = 1003 ∧ (0 : Int) ≤ 0 ∧ 0 < bg s0 4 (bg s0 242 a0 0) 0) <|
  some (s0, (bg s0 20 (bg s0 242 a0 0) 0))) (bte (b_t a1 = 1) (F_X12_status_r 0 a0 0 0 0 s0) (bte (b_t a1 = 2) (F_X12_status_r 2 a0 0 0 0 s0) (bte (b_t a1 = 3) (F_X12_status_r 4 a0 0 0 0 s0) (bte (b_t a1 = 4) (F_X12_status_r 5 a0 0 0 0 s0) (bte (b_t a1 = 5) (bck (bg s0 0 a0 0 = 11) <|
  some (s0, (bg s0 264 a0 0))) (bte (b_t a1 = 6) (bck (bg s0 0 a0 0 = 11) <|
  bck (bg s0 0 (bg s0 242 a0 0) 0 = 1003 ∧ (0 : Int) ≤ 1 ∧ 1 < bg s0 4 (bg s0 242 a0 0) 0) <|
  some (s0, (bg s0 20 (bg s0 242 a0 0) 1))) (bte (b_t a1 = 7) (F_X12_status_r 7 a0 0 0 0 s0) (bcl (F_X12_in s0 (b_i2l a1) 12 16) fun s1 v1 =>
  bte (i32 v1 = 0)
  (some (s1, (-1)))
  (bck (bg s1 0 a0 0 = 11) <|
  bck (bg s1 0 (bg s1 246 a0 0) 0 = 1003 ∧ (0 : Int) ≤ (a1 - 10) ∧ (a1 - 10) < bg s1 4 (bg s1 246 a0 0) 0) <|
  some (s1, (bg s1 20 (bg s1 246 a0 0) (a1 - 10))))))))))))
set_option maxHeartbeats 4000000 in
set_option maxRecDepth 100000 in
set_option synthInstance.maxHeartbeats 4000000 in
theorem w_X12_status_r {Γ0 : bG} {l0 : Launch} {κ : bK} {st' : bS} {v : Int} (hκ : bOk κ Γ0 l0 cX12_status RX12 4 2 44) (hi : bIn κ yX12_status) (hf : bFin κ (some .int) st' (some (0, v))) (b : Nat) (x0 x1 x2 x3 : Int) (s0 : bS) (h : F_X12_status_r b x0 x1 x2 x3 s0 = some (st', v)) : match (generalizing := false) b with | 0 => bJ κ s0 57 [(0, (2, x0)), (2, (0, x1)), (3, (0, x2))] [] | 1 => bJ κ s0 77 [(0, (2, x0)), (3, (0, x1))] [(0, x2), (0, x3)] | 2 => bJ κ s0 89 [(0, (2, x0)), (2, (0, x1)), (3, (0, x2))] [] | 3 => bJ κ s0 110 [(0, (2, x0)), (3, (0, x1))] [(0, x2), (0, x3)] | 4 => bJ κ s0 122 [(0, (2, x0)), (2, (0, x1)), (3, (0, x2))] [] | 5 => bJ κ s0 146 [(0, (2, x0)), (2, (0, x1)), (3, (0, x2))] [] | 6 => bJ κ s0 166 [(0, (2, x0)), (3, (0, x1))] [(0, x2), (0, x3)] | 7 => bJ κ s0 190 [(0, (2, x0)), (2, (0, x1)), (3, (0, x2))] [] | 8 => bJ κ s0 211 [(0, (2, x0)), (3, (0, x1))] [(0, x2), (0, x3)] | _ => True := by
  refine F_X12_status_r.partial_correctness x0 (fun b x1 x2 x3 s0 r => r = (st', v) → match (generalizing := false) b with | 0 => bJ κ s0 57 [(0, (2, x0)), (2, (0, x1)), (3, (0, x2))] [] | 1 => bJ κ s0 77 [(0, (2, x0)), (3, (0, x1))] [(0, x2), (0, x3)] | 2 => bJ κ s0 89 [(0, (2, x0)), (2, (0, x1)), (3, (0, x2))] [] | 3 => bJ κ s0 110 [(0, (2, x0)), (3, (0, x1))] [(0, x2), (0, x3)] | 4 => bJ κ s0 122 [(0, (2, x0)), (2, (0, x1)), (3, (0, x2))] [] | 5 => bJ κ s0 146 [(0, (2, x0)), (2, (0, x1)), (3, (0, x2))] [] | 6 => bJ κ s0 166 [(0, (2, x0)), (3, (0, x1))] [(0, x2), (0, x3)] | 7 => bJ κ s0 190 [(0, (2, x0)), (2, (0, x1)), (3, (0, x2))] [] | 8 => bJ κ s0 211 [(0, (2, x0)), (3, (0, x1))] [(0, x2), (0, x3)] | _ => True) ?_ b x1 x2 x3 s0 _ h rfl
  intro f' ih b x1 x2 x3 s0 r h hr
  subst hr
  match b, h with
  | 0, h =>
      refine r_iload_n hκ 2 rfl rfl dX12_status_57 ?_
      refine r_iconst hκ dX12_status_58 ?_
      refine r_icmp_ge hκ (tgt := 85) (by decide) dX12_status_59 (fun h21 => ?_) (fun h21 => ?_)
      · replace h := (bte_i h).1 h21
        refine r_iload_n hκ 1 rfl rfl dX12_status_85 ?_
        exact r_iretH hκ hf h (nar_int _) dX12_status_86
      · replace h := (bte_i h).2 h21
        refine r_iload_n hκ 1 rfl rfl dX12_status_62 ?_
        refine r_aload_n hκ 0 rfl rfl dX12_status_63 ?_
        refine r_iload_n hκ 2 rfl rfl dX12_status_64 ?_
        refine r_iconst hκ dX12_status_65 ?_
        obtain ⟨h22, h⟩ := bck_i h
        obtain ⟨s2, v2, h23, h⟩ := bcl_i h
        refine r_callV hκ (n' := 2) (index := 322) (w_X12_firstApart Γ0 l0 h23) (lw_V q3487 q3489 qs117 q146 q3490) (by decide +kernel) (t := 10) h22 rfl rfl (by decide) rfl (Nat.le_of_ble_eq_true rfl) dX12_status_66 ?_
        refine r_if_ge hκ (tgt := 76) (by decide) dX12_status_69 (fun h24 => ?_) (fun h24 => ?_)
        · replace h := (bte_i h).1 h24
          refine r_iconst hκ dX12_status_76 ?_
          exact r_sub [0, 2] rfl (ih 1 _ _ _ _ _ h rfl)
        · replace h := (bte_i h).2 h24
          refine r_iconst hκ dX12_status_72 ?_
          refine r_goto hκ (tgt := 77) (by decide) dX12_status_73 ?_
          exact r_sub [0, 2] rfl (ih 1 _ _ _ _ _ h rfl)
  | 1, h =>
      refine r_iadd hκ dX12_status_77 ?_
      refine r_istore_n hκ (L2 := [(2, (0, (x3 + x2))), (0, (2, x0)), (3, (0, x1))]) (by decide) rfl rfl dX12_status_78 ?_
      refine r_iinc hκ (L2 := [(3, (0, (x1 + 1))), (2, (0, (x3 + x2))), (0, (2, x0))]) 2 rfl (by decide) rfl dX12_status_79 ?_
      refine r_goto hκ (tgt := 57) (by decide) dX12_status_82 ?_
      exact r_sub [2, 1, 0] rfl (ih 0 _ _ _ _ _ h rfl)
  | 2, h =>
      refine r_iload_n hκ 2 rfl rfl dX12_status_89 ?_
      refine r_bipush hκ (by decide) dX12_status_90 ?_
      refine r_icmp_ge hκ (tgt := 118) (by decide) dX12_status_92 (fun h25 => ?_) (fun h25 => ?_)
      · replace h := (bte_i h).1 h25
        refine r_iload_n hκ 1 rfl rfl dX12_status_118 ?_
        exact r_iretH hκ hf h (nar_int _) dX12_status_119
      · replace h := (bte_i h).2 h25
        refine r_iload_n hκ 1 rfl rfl dX12_status_95 ?_
        refine r_aload_n hκ 0 rfl rfl dX12_status_96 ?_
        obtain ⟨h26, h⟩ := bck_i h
        refine r_get hκ (t := 10) (k := 2) (r := 222) h26 rfl in_X12 (by decide) rfl q3053 (Or.inl rfl) dX12_status_97 ?_
        refine r_iload_n hκ 2 rfl rfl dX12_status_100 ?_
        obtain ⟨⟨h27, h28⟩, h⟩ := bck_i h
        refine r_zald hκ h27 h28 dX12_status_101 ?_
        refine r_if_eq hκ (tgt := 109) (by decide) dX12_status_102 (fun h29 => ?_) (fun h29 => ?_)
        · replace h := (bte_i h).1 h29
          refine r_iconst hκ dX12_status_109 ?_
          exact r_sub [0, 2] rfl (ih 3 _ _ _ _ _ h rfl)
        · replace h := (bte_i h).2 h29
          refine r_iconst hκ dX12_status_105 ?_
          refine r_goto hκ (tgt := 110) (by decide) dX12_status_106 ?_
          exact r_sub [0, 2] rfl (ih 3 _ _ _ _ _ h rfl)
  | 3, h =>
      refine r_iadd hκ dX12_status_110 ?_
      refine r_istore_n hκ (L2 := [(2, (0, (x3 + x2))), (0, (2, x0)), (3, (0, x1))]) (by decide) rfl rfl dX12_status_111 ?_
      refine r_iinc hκ (L2 := [(3, (0, (x1 + 1))), (2, (0, (x3 + x2))), (0, (2, x0))]) 2 rfl (by decide) rfl dX12_status_112 ?_
      refine r_goto hκ (tgt := 89) (by decide) dX12_status_115 ?_
      exact r_sub [2, 1, 0] rfl (ih 2 _ _ _ _ _ h rfl)
  | 4, h =>
      refine r_iload_n hκ 2 rfl rfl dX12_status_122 ?_
      refine r_iconst hκ dX12_status_123 ?_
      refine r_icmp_ge hκ (tgt := 142) (by decide) dX12_status_124 (fun h30 => ?_) (fun h30 => ?_)
      · replace h := (bte_i h).1 h30
        refine r_iload_n hκ 1 rfl rfl dX12_status_142 ?_
        exact r_iretH hκ hf h (nar_int _) dX12_status_143
      · replace h := (bte_i h).2 h30
        refine r_iload_n hκ 1 rfl rfl dX12_status_127 ?_
        refine r_aload_n hκ 0 rfl rfl dX12_status_128 ?_
        obtain ⟨h31, h⟩ := bck_i h
        refine r_get hκ (t := 10) (k := 4) (r := 230) h31 rfl in_X12 (by decide) rfl q3055 (Or.inl rfl) dX12_status_129 ?_
        refine r_iload_n hκ 2 rfl rfl dX12_status_132 ?_
        obtain ⟨⟨h32, h33⟩, h⟩ := bck_i h
        refine r_iald hκ h32 h33 dX12_status_133 ?_
        refine r_iadd hκ dX12_status_134 ?_
        refine r_nm (fun t1 et1 => ?_)
        replace h := bvl_i h t1 et1
        refine r_istore_n hκ (L2 := [(2, (0, t1)), (0, (2, x0)), (3, (0, x2))]) (by decide) rfl rfl dX12_status_135 ?_
        refine r_iinc hκ (L2 := [(3, (0, (x2 + 1))), (2, (0, t1)), (0, (2, x0))]) 2 rfl (by decide) rfl dX12_status_136 ?_
        refine r_goto hκ (tgt := 122) (by decide) dX12_status_139 ?_
        exact r_sub [2, 1, 0] rfl (ih 4 _ _ _ _ _ h rfl)
  | 5, h =>
      refine r_iload_n hκ 2 rfl rfl dX12_status_146 ?_
      refine r_iconst hκ dX12_status_147 ?_
      refine r_icmp_ge hκ (tgt := 174) (by decide) dX12_status_148 (fun h34 => ?_) (fun h34 => ?_)
      · replace h := (bte_i h).1 h34
        refine r_iload_n hκ 1 rfl rfl dX12_status_174 ?_
        exact r_iretH hκ hf h (nar_int _) dX12_status_175
      · replace h := (bte_i h).2 h34
        refine r_iload_n hκ 1 rfl rfl dX12_status_151 ?_
        refine r_aload_n hκ 0 rfl rfl dX12_status_152 ?_
        refine r_iload_n hκ 2 rfl rfl dX12_status_153 ?_
        refine r_iconst hκ dX12_status_154 ?_
        obtain ⟨h35, h⟩ := bck_i h
        obtain ⟨s3, v3, h36, h⟩ := bcl_i h
        refine r_callV hκ (n' := 2) (index := 135) (w_X12_st Γ0 l0 h36) (lw_V q3360 q3362 qs103 q146 q3363) (by decide +kernel) (t := 10) h35 rfl rfl (by decide) rfl (Nat.le_of_ble_eq_true rfl) dX12_status_155 ?_
        refine r_if_le hκ (tgt := 165) (by decide) dX12_status_158 (fun h37 => ?_) (fun h37 => ?_)
        · replace h := (bte_i h).1 h37
          refine r_iconst hκ dX12_status_165 ?_
          exact r_sub [0, 2] rfl (ih 6 _ _ _ _ _ h rfl)
        · replace h := (bte_i h).2 h37
          refine r_iconst hκ dX12_status_161 ?_
          refine r_goto hκ (tgt := 166) (by decide) dX12_status_162 ?_
          exact r_sub [0, 2] rfl (ih 6 _ _ _ _ _ h rfl)
  | 6, h =>
      refine r_iadd hκ dX12_status_166 ?_
      refine r_istore_n hκ (L2 := [(2, (0, (x3 + x2))), (0, (2, x0)), (3, (0, x1))]) (by decide) rfl rfl dX12_status_167 ?_
      refine r_iinc hκ (L2 := [(3, (0, (x1 + 1))), (2, (0, (x3 + x2))), (0, (2, x0))]) 2 rfl (by decide) rfl dX12_status_168 ?_
      refine r_goto hκ (tgt := 146) (by decide) dX12_status_171 ?_
      exact r_sub [2, 1, 0] rfl (ih 5 _ _ _ _ _ h rfl)
  | 7, h =>
      refine r_iload_n hκ 2 rfl rfl dX12_status_190 ?_
      refine r_bipush hκ (by decide) dX12_status_191 ?_
      refine r_icmp_ge hκ (tgt := 219) (by decide) dX12_status_193 (fun h38 => ?_) (fun h38 => ?_)
      · replace h := (bte_i h).1 h38
        refine r_iload_n hκ 1 rfl rfl dX12_status_219 ?_
        exact r_iretH hκ hf h (nar_int _) dX12_status_220
      · replace h := (bte_i h).2 h38
        refine r_iload_n hκ 1 rfl rfl dX12_status_196 ?_
        refine r_aload_n hκ 0 rfl rfl dX12_status_197 ?_
        obtain ⟨h39, h⟩ := bck_i h
        refine r_get hκ (t := 10) (k := 19) (r := 290) h39 rfl in_X12 (by decide) rfl q3070 (Or.inl rfl) dX12_status_198 ?_
        refine r_iload_n hκ 2 rfl rfl dX12_status_201 ?_
        obtain ⟨⟨h40, h41⟩, h⟩ := bck_i h
        refine r_iald hκ h40 h41 dX12_status_202 ?_
        refine r_if_lt hκ (tgt := 210) (by decide) dX12_status_203 (fun h42 => ?_) (fun h42 => ?_)
        · replace h := (bte_i h).1 h42
          refine r_iconst hκ dX12_status_210 ?_
          exact r_sub [0, 2] rfl (ih 8 _ _ _ _ _ h rfl)
        · replace h := (bte_i h).2 h42
          refine r_iconst hκ dX12_status_206 ?_
          refine r_goto hκ (tgt := 211) (by decide) dX12_status_207 ?_
          exact r_sub [0, 2] rfl (ih 8 _ _ _ _ _ h rfl)
  | 8, h =>
      refine r_iadd hκ dX12_status_211 ?_
      refine r_istore_n hκ (L2 := [(2, (0, (x3 + x2))), (0, (2, x0)), (3, (0, x1))]) (by decide) rfl rfl dX12_status_212 ?_
      refine r_iinc hκ (L2 := [(3, (0, (x1 + 1))), (2, (0, (x3 + x2))), (0, (2, x0))]) 2 rfl (by decide) rfl dX12_status_213 ?_
      refine r_goto hκ (tgt := 190) (by decide) dX12_status_216 ?_
      exact r_sub [2, 1, 0] rfl (ih 7 _ _ _ _ _ h rfl)
  | b + 9, h => trivial
set_option maxHeartbeats 4000000 in
set_option maxRecDepth 100000 in
theorem w_X12_status (Γ0 : bG) (l0 : Launch) {s0 st' : bS} {v a0 a1 : Int} (h : F_X12_status s0 a0 a1 = some (st', v)) : bCt Γ0 l0 yX12_status cX12_status 4 (some .int) 2 44 [(2, a0), (0, a1)] s0 st' (some (0, v)) := by
  refine b_ent (own := RX12) (by decide +kernel) rfl (Nat.le_of_ble_eq_true rfl) (L := [(0, (2, a0)), (1, (0, a1))]) rfl ?_
  intro κ hκ hi hf
  unfold F_X12_status at h
  refine r_iconst hκ dX12_status_0 ?_
  refine r_istore_n hκ (L2 := [(2, (0, 0)), (0, (2, a0)), (1, (0, a1))]) (by decide) rfl rfl dX12_status_1 ?_
  refine r_iload_n hκ 2 rfl rfl dX12_status_2 ?_
  by_cases h1 : b_t a1 = 0
  · replace h := (bte_i h).1 h1
    refine r_tswIn hκ (kk := 0) (tgt := 48) h1 (by decide) (by decide) rfl (by decide) dX12_status_3 ?_
    refine r_aload_n hκ 1 rfl rfl dX12_status_48 ?_
    obtain ⟨h2, h⟩ := bck_i h
    refine r_get hκ (t := 10) (k := 7) (r := 242) h2 rfl in_X12 (by decide) rfl q3058 (Or.inl rfl) dX12_status_49 ?_
    refine r_iconst hκ dX12_status_52 ?_
    obtain ⟨⟨h3, h4⟩, h⟩ := bck_i h
    refine r_iald hκ h3 h4 dX12_status_53 ?_
    exact r_iretH hκ hf h (nar_int _) dX12_status_54
  replace h := (bte_i h).2 h1
  by_cases h5 : b_t a1 = 1
  · replace h := (bte_i h).1 h5
    refine r_tswIn hκ (kk := 1) (tgt := 55) h5 (by decide) (by decide) rfl (by decide) dX12_status_3 ?_
    refine r_iconst hκ dX12_status_55 ?_
    refine r_istore_n hκ (L2 := [(3, (0, 0)), (2, (0, 0)), (0, (2, a0)), (1, (0, a1))]) (by decide) rfl rfl dX12_status_56 ?_
    exact r_sub [2, 1, 0] rfl (w_X12_status_r hκ hi hf 0 _ _ _ _ _ h)
  replace h := (bte_i h).2 h5
  by_cases h6 : b_t a1 = 2
  · replace h := (bte_i h).1 h6
    refine r_tswIn hκ (kk := 2) (tgt := 87) h6 (by decide) (by decide) rfl (by decide) dX12_status_3 ?_
    refine r_iconst hκ dX12_status_87 ?_
    refine r_istore_n hκ (L2 := [(3, (0, 0)), (2, (0, 0)), (0, (2, a0)), (1, (0, a1))]) (by decide) rfl rfl dX12_status_88 ?_
    exact r_sub [2, 1, 0] rfl (w_X12_status_r hκ hi hf 2 _ _ _ _ _ h)
  replace h := (bte_i h).2 h6
  by_cases h7 : b_t a1 = 3
  · replace h := (bte_i h).1 h7
    refine r_tswIn hκ (kk := 3) (tgt := 120) h7 (by decide) (by decide) rfl (by decide) dX12_status_3 ?_
    refine r_iconst hκ dX12_status_120 ?_
    refine r_istore_n hκ (L2 := [(3, (0, 0)), (2, (0, 0)), (0, (2, a0)), (1, (0, a1))]) (by decide) rfl rfl dX12_status_121 ?_
    exact r_sub [2, 1, 0] rfl (w_X12_status_r hκ hi hf 4 _ _ _ _ _ h)
  replace h := (bte_i h).2 h7
  by_cases h8 : b_t a1 = 4
  · replace h := (bte_i h).1 h8
    refine r_tswIn hκ (kk := 4) (tgt := 144) h8 (by decide) (by decide) rfl (by decide) dX12_status_3 ?_
    refine r_iconst hκ dX12_status_144 ?_
    refine r_istore_n hκ (L2 := [(3, (0, 0)), (2, (0, 0)), (0, (2, a0)), (1, (0, a1))]) (by decide) rfl rfl dX12_status_145 ?_
    exact r_sub [2, 1, 0] rfl (w_X12_status_r hκ hi hf 5 _ _ _ _ _ h)
  replace h := (bte_i h).2 h8
  by_cases h9 : b_t a1 = 5
  · replace h := (bte_i h).1 h9
    refine r_tswIn hκ (kk := 5) (tgt := 176) h9 (by decide) (by decide) rfl (by decide) dX12_status_3 ?_
    refine r_aload_n hκ 1 rfl rfl dX12_status_176 ?_
    obtain ⟨h10, h⟩ := bck_i h
    refine r_get hκ (t := 10) (k := 13) (r := 264) h10 rfl in_X12 (by decide) rfl q3064 (Or.inl rfl) dX12_status_177 ?_
    exact r_iretH hκ hf h (nar_int _) dX12_status_180
  replace h := (bte_i h).2 h9
  by_cases h11 : b_t a1 = 6
  · replace h := (bte_i h).1 h11
    refine r_tswIn hκ (kk := 6) (tgt := 181) h11 (by decide) (by decide) rfl (by decide) dX12_status_3 ?_
    refine r_aload_n hκ 1 rfl rfl dX12_status_181 ?_
    obtain ⟨h12, h⟩ := bck_i h
    refine r_get hκ (t := 10) (k := 7) (r := 242) h12 rfl in_X12 (by decide) rfl q3058 (Or.inl rfl) dX12_status_182 ?_
    refine r_iconst hκ dX12_status_185 ?_
    obtain ⟨⟨h13, h14⟩, h⟩ := bck_i h
    refine r_iald hκ h13 h14 dX12_status_186 ?_
    exact r_iretH hκ hf h (nar_int _) dX12_status_187
  replace h := (bte_i h).2 h11
  by_cases h15 : b_t a1 = 7
  · replace h := (bte_i h).1 h15
    refine r_tswIn hκ (kk := 7) (tgt := 188) h15 (by decide) (by decide) rfl (by decide) dX12_status_3 ?_
    refine r_iconst hκ dX12_status_188 ?_
    refine r_istore_n hκ (L2 := [(3, (0, 0)), (2, (0, 0)), (0, (2, a0)), (1, (0, a1))]) (by decide) rfl rfl dX12_status_189 ?_
    exact r_sub [2, 1, 0] rfl (w_X12_status_r hκ hi hf 7 _ _ _ _ _ h)
  replace h := (bte_i h).2 h15
  refine r_tswOut hκ (tgt := 221) (by omega) (by decide) dX12_status_3 ?_
  refine r_iload_n hκ 2 rfl rfl dX12_status_221 ?_
  refine r_i2l hκ dX12_status_222 ?_
  refine r_ldcl hκ (x := 12) q3576 (by decide) dX12_status_223 ?_
  refine r_ldcl hκ (x := 16) q3577 (by decide) dX12_status_226 ?_
  obtain ⟨s1, v1, h16, h⟩ := bcl_i h
  refine r_callS hκ (n' := 3) (index := 175) (w_X12_in Γ0 l0 h16) (lw_S q3156 q3157 q146 q3158) (by decide +kernel) rfl (by decide) rfl (Nat.le_of_ble_eq_true rfl) dX12_status_229 ?_
  refine r_if_eq hκ (tgt := 247) (by decide) dX12_status_232 (fun h17 => ?_) (fun h17 => ?_)
  · replace h := (bte_i h).1 h17
    refine r_iconst hκ dX12_status_247 ?_
    exact r_iretH hκ hf h (nar_int _) dX12_status_248
  · replace h := (bte_i h).2 h17
    refine r_aload_n hκ 1 rfl rfl dX12_status_235 ?_
    obtain ⟨h18, h⟩ := bck_i h
    refine r_get hκ (t := 10) (k := 8) (r := 246) h18 rfl in_X12 (by decide) rfl q3059 (Or.inl rfl) dX12_status_236 ?_
    refine r_iload_n hκ 2 rfl rfl dX12_status_239 ?_
    refine r_bipush hκ (by decide) dX12_status_240 ?_
    refine r_isub hκ dX12_status_242 ?_
    obtain ⟨⟨h19, h20⟩, h⟩ := bck_i h
    refine r_iald hκ h19 h20 dX12_status_243 ?_
    refine r_goto hκ (tgt := 248) (by decide) dX12_status_244 ?_
    exact r_iretH hκ hf h (nar_int _) dX12_status_248
