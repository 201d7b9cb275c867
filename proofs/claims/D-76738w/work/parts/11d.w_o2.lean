/-! walks, printed by dec.py: 11d.w_o2 -/
/-- EditsMeet$Over.isLike(LEditsMeet$Part;)Z -/
def F_X6_isLike (s0 : bS) (a0 a1 : Int) : Option (bS × Int) :=
  bcl (bte (bg s0 0 a1 0 = 6) (F_X7_kind s0 a1) (bte (bg s0 0 a1 0 = 15) (F_X16_kind s0 a1) (bte (bg s0 0 a1 0 = 16) (F_X17_kind s0 a1) (bte (bg s0 0 a1 0 = 17) (F_X18_kind s0 a1) (none))))) fun s1 v1 =>
  bcl (bte (bg s1 0 a0 0 = 6) (F_X7_kind s1 a0) (bte (bg s1 0 a0 0 = 15) (F_X16_kind s1 a0) (bte (bg s1 0 a0 0 = 17) (F_X18_kind s1 a0) (none)))) fun s2 v2 =>
  bte (i32 v1 = i32 v2)
  (bcl (bte (bg s2 0 a1 0 = 6) (F_X5_on s2 a1) (bte (bg s2 0 a1 0 = 15) (F_X5_on s2 a1) (bte (bg s2 0 a1 0 = 16) (F_X5_on s2 a1) (bte (bg s2 0 a1 0 = 17) (F_X18_on s2 a1) (none))))) fun s3 v3 =>
  bcl (bte (bg s3 0 a0 0 = 6) (F_X5_on s3 a0) (bte (bg s3 0 a0 0 = 15) (F_X5_on s3 a0) (none))) fun s4 v4 =>
  bte (i32 v3 = i32 v4)
  (bcl (bte (bg s4 0 a1 0 = 6) (F_X5_off s4 a1) (bte (bg s4 0 a1 0 = 15) (F_X5_off s4 a1) (bte (bg s4 0 a1 0 = 16) (F_X5_off s4 a1) (bte (bg s4 0 a1 0 = 17) (F_X18_off s4 a1) (none))))) fun s5 v5 =>
  bcl (bte (bg s5 0 a0 0 = 6) (F_X5_off s5 a0) (bte (bg s5 0 a0 0 = 15) (F_X5_off s5 a0) (none))) fun s6 v6 =>
  bte (i32 v5 = i32 v6)
  (some (s6, 1))
  (some (s6, 0)))
  (some (s4, 0)))
  (some (s2, 0))
set_option maxHeartbeats 4000000 in
set_option maxRecDepth 100000 in
theorem w_X6_isLike (Γ0 : bG) (l0 : Launch) {s0 st' : bS} {v a0 a1 : Int} (h : F_X6_isLike s0 a0 a1 = some (st', v)) : bCt Γ0 l0 yX6_isLike cX6_isLike 2 (some .boolean) 2 40 [(2, a0), (2, a1)] s0 st' (some (0, v)) := by
  refine b_ent (own := RX6) (by decide +kernel) rfl (Nat.le_of_ble_eq_true rfl) (L := [(0, (2, a0)), (1, (2, a1))]) rfl ?_
  intro κ hκ hi hf
  unfold F_X6_isLike at h
  refine r_aload_n hκ 1 rfl rfl dX6_isLike_0 ?_
  obtain ⟨s1, v1, h1, h⟩ := bcl_i h
  refine r_seq (A := bJ κ s1 6 [(0, (2, a0)), (1, (2, a1))] [(0, v1)]) ?_ (fun k0 => ?_)
  case refine_2 =>
    by_cases h2 : bg s0 0 a1 0 = 6
    · have hq0 := (bte_i h1).1 h2
      exact r_callF hκ (n' := 0) (index := 13) (C := "EditsMeet$Keep") (w_X7_kind Γ0 l0 hq0) (lw_app (lw_l4 q1376 q776 q778 q139) (lw_meth q780)) (by decide +kernel) (by decide +kernel) (t := 5) h2 rfl rfl (by decide) rfl (Nat.le_of_ble_eq_true rfl) dX6_isLike_1 k0
    replace h1 := (bte_i h1).2 h2
    by_cases h3 : bg s0 0 a1 0 = 15
    · have hq0 := (bte_i h1).1 h3
      exact r_callF hκ (n' := 0) (index := 13) (C := "EditsMeet$Delete") (w_X16_kind Γ0 l0 hq0) (lw_app (lw_l4 q1376 q760 q762 q164) (lw_meth q764)) (by decide +kernel) (by decide +kernel) (t := 14) h3 rfl rfl (by decide) rfl (Nat.le_of_ble_eq_true rfl) dX6_isLike_1 k0
    replace h1 := (bte_i h1).2 h3
    by_cases h4 : bg s0 0 a1 0 = 16
    · have hq0 := (bte_i h1).1 h4
      exact r_callF hκ (n' := 0) (index := 13) (C := "EditsMeet$Insert") (w_X17_kind Γ0 l0 hq0) (lw_app (lw_l4 q1376 q770 q772 q165) (lw_meth q774)) (by decide +kernel) (by decide +kernel) (t := 15) h4 rfl rfl (by decide) rfl (Nat.le_of_ble_eq_true rfl) dX6_isLike_1 k0
    replace h1 := (bte_i h1).2 h4
    by_cases h5 : bg s0 0 a1 0 = 17
    · have hq0 := (bte_i h1).1 h5
      exact r_callF hκ (n' := 0) (index := 13) (C := "EditsMeet$Mark") (w_X18_kind Γ0 l0 hq0) (lw_app (lw_l4 q1376 q782 q784 q166) (lw_meth q786)) (by decide +kernel) (by decide +kernel) (t := 16) h5 rfl rfl (by decide) rfl (Nat.le_of_ble_eq_true rfl) dX6_isLike_1 k0
    replace h1 := (bte_i h1).2 h5
    cases h1
  refine r_aload_n hκ 0 rfl rfl dX6_isLike_6 ?_
  obtain ⟨s2, v2, h6, h⟩ := bcl_i h
  refine r_seq (A := bJ κ s2 10 [(0, (2, a0)), (1, (2, a1))] [(0, v2), (0, v1)]) ?_ (fun k0 => ?_)
  case refine_2 =>
    by_cases h7 : bg s1 0 a0 0 = 6
    · have hq0 := (bte_i h6).1 h7
      exact r_callU hκ (index := 19) (C := "EditsMeet$Keep") (owner := "EditsMeet$Over") (n' := 0) (w_X7_kind Γ0 l0 hq0) (fun R s args hts hRR => va_cwO 0 hts (lw_app (lw_l6 q1377 q3580 q767 q3594 q778 q139) (lw_meth q780)) rfl rfl rfl q768 (by decide +kernel) hRR) (t := 5) h7 rfl rfl (by decide) rfl (Nat.le_of_ble_eq_true rfl) dX6_isLike_7 k0
    replace h6 := (bte_i h6).2 h7
    by_cases h8 : bg s1 0 a0 0 = 15
    · have hq0 := (bte_i h6).1 h8
      exact r_callU hκ (index := 19) (C := "EditsMeet$Delete") (owner := "EditsMeet$Over") (n' := 0) (w_X16_kind Γ0 l0 hq0) (fun R s args hts hRR => va_cwO 0 hts (lw_app (lw_l6 q1377 q3580 q767 q3593 q762 q164) (lw_meth q764)) rfl rfl rfl q768 (by decide +kernel) hRR) (t := 14) h8 rfl rfl (by decide) rfl (Nat.le_of_ble_eq_true rfl) dX6_isLike_7 k0
    replace h6 := (bte_i h6).2 h8
    by_cases h9 : bg s1 0 a0 0 = 17
    · have hq0 := (bte_i h6).1 h9
      exact r_callU hκ (index := 19) (C := "EditsMeet$Mark") (owner := "EditsMeet$Over") (n' := 0) (w_X18_kind Γ0 l0 hq0) (fun R s args hts hRR => va_cwO 0 hts (lw_app (lw_l6 q1377 q3580 q767 q3595 q784 q166) (lw_meth q786)) rfl rfl rfl q768 (by decide +kernel) hRR) (t := 16) h9 rfl rfl (by decide) rfl (Nat.le_of_ble_eq_true rfl) dX6_isLike_7 k0
    replace h6 := (bte_i h6).2 h9
    cases h6
  refine r_icmp_ne hκ (tgt := 43) (by decide) dX6_isLike_10 (fun h10 => ?_) (fun h10 => ?_)
  · replace h := (bte_i h).2 h10
    refine r_iconst hκ dX6_isLike_43 ?_
    exact r_iretH hκ hf h (nar_bool (by decide)) dX6_isLike_44
  · replace h := (bte_i h).1 h10
    refine r_aload_n hκ 1 rfl rfl dX6_isLike_13 ?_
    obtain ⟨s3, v3, h11, h⟩ := bcl_i h
    refine r_seq (A := bJ κ s3 19 [(0, (2, a0)), (1, (2, a1))] [(0, v3)]) ?_ (fun k0 => ?_)
    case refine_2 =>
      by_cases h12 : bg s2 0 a1 0 = 6
      · have hq0 := (bte_i h11).1 h12
        exact r_callFD hκ (n' := 0) (index := 20) (C := "EditsMeet$Keep") (w_X5_on Γ0 l0 hq0) (lw_meth q949) q1379 q947 q137 (by decide +kernel) (by decide +kernel) (t := 5) h12 rfl rfl (by decide) rfl (Nat.le_of_ble_eq_true rfl) dX6_isLike_14 k0
      replace h11 := (bte_i h11).2 h12
      by_cases h13 : bg s2 0 a1 0 = 15
      · have hq0 := (bte_i h11).1 h13
        exact r_callFD hκ (n' := 0) (index := 20) (C := "EditsMeet$Delete") (w_X5_on Γ0 l0 hq0) (lw_meth q949) q1379 q947 q137 (by decide +kernel) (by decide +kernel) (t := 14) h13 rfl rfl (by decide) rfl (Nat.le_of_ble_eq_true rfl) dX6_isLike_14 k0
      replace h11 := (bte_i h11).2 h13
      by_cases h14 : bg s2 0 a1 0 = 16
      · have hq0 := (bte_i h11).1 h14
        exact r_callFD hκ (n' := 0) (index := 20) (C := "EditsMeet$Insert") (w_X5_on Γ0 l0 hq0) (lw_meth q949) q1379 q947 q137 (by decide +kernel) (by decide +kernel) (t := 15) h14 rfl rfl (by decide) rfl (Nat.le_of_ble_eq_true rfl) dX6_isLike_14 k0
      replace h11 := (bte_i h11).2 h14
      by_cases h15 : bg s2 0 a1 0 = 17
      · have hq0 := (bte_i h11).1 h15
        exact r_callF hκ (n' := 0) (index := 20) (C := "EditsMeet$Mark") (w_X18_on Γ0 l0 hq0) (lw_app (lw_l4 q1379 q944 q945 q166) (lw_meth q946)) (by decide +kernel) (by decide +kernel) (t := 16) h15 rfl rfl (by decide) rfl (Nat.le_of_ble_eq_true rfl) dX6_isLike_14 k0
      replace h11 := (bte_i h11).2 h15
      cases h11
    refine r_aload_n hκ 0 rfl rfl dX6_isLike_19 ?_
    obtain ⟨s4, v4, h16, h⟩ := bcl_i h
    refine r_seq (A := bJ κ s4 23 [(0, (2, a0)), (1, (2, a1))] [(0, v4), (0, v3)]) ?_ (fun k0 => ?_)
    case refine_2 =>
      by_cases h17 : bg s3 0 a0 0 = 6
      · have hq0 := (bte_i h16).1 h17
        exact r_callVD hκ (n' := 0) (index := 23) (C := "EditsMeet$Keep") (owner := "EditsMeet$Part") (w_X5_on Γ0 l0 hq0) (lw_meth q949) (List.mem_of_getElem? (i := 4) rfl) (List.mem_of_getElem? (i := 5) rfl) q947 q137 (by decide +kernel) (by decide +kernel) (t := 5) h17 rfl rfl (by decide) rfl (Nat.le_of_ble_eq_true rfl) dX6_isLike_20 k0
      replace h16 := (bte_i h16).2 h17
      by_cases h18 : bg s3 0 a0 0 = 15
      · have hq0 := (bte_i h16).1 h18
        exact r_callVD hκ (n' := 0) (index := 23) (C := "EditsMeet$Delete") (owner := "EditsMeet$Part") (w_X5_on Γ0 l0 hq0) (lw_meth q949) (List.mem_of_getElem? (i := 4) rfl) (List.mem_of_getElem? (i := 5) rfl) q947 q137 (by decide +kernel) (by decide +kernel) (t := 14) h18 rfl rfl (by decide) rfl (Nat.le_of_ble_eq_true rfl) dX6_isLike_20 k0
      replace h16 := (bte_i h16).2 h18
      cases h16
    refine r_icmp_ne hκ (tgt := 43) (by decide) dX6_isLike_23 (fun h19 => ?_) (fun h19 => ?_)
    · replace h := (bte_i h).2 h19
      refine r_iconst hκ dX6_isLike_43 ?_
      exact r_iretH hκ hf h (nar_bool (by decide)) dX6_isLike_44
    · replace h := (bte_i h).1 h19
      refine r_aload_n hκ 1 rfl rfl dX6_isLike_26 ?_
      obtain ⟨s5, v5, h20, h⟩ := bcl_i h
      refine r_seq (A := bJ κ s5 32 [(0, (2, a0)), (1, (2, a1))] [(0, v5)]) ?_ (fun k0 => ?_)
      case refine_2 =>
        by_cases h21 : bg s4 0 a1 0 = 6
        · have hq0 := (bte_i h20).1 h21
          exact r_callFD hκ (n' := 0) (index := 24) (C := "EditsMeet$Keep") (w_X5_off Γ0 l0 hq0) (lw_meth q966) q1387 q964 q137 (by decide +kernel) (by decide +kernel) (t := 5) h21 rfl rfl (by decide) rfl (Nat.le_of_ble_eq_true rfl) dX6_isLike_27 k0
        replace h20 := (bte_i h20).2 h21
        by_cases h22 : bg s4 0 a1 0 = 15
        · have hq0 := (bte_i h20).1 h22
          exact r_callFD hκ (n' := 0) (index := 24) (C := "EditsMeet$Delete") (w_X5_off Γ0 l0 hq0) (lw_meth q966) q1387 q964 q137 (by decide +kernel) (by decide +kernel) (t := 14) h22 rfl rfl (by decide) rfl (Nat.le_of_ble_eq_true rfl) dX6_isLike_27 k0
        replace h20 := (bte_i h20).2 h22
        by_cases h23 : bg s4 0 a1 0 = 16
        · have hq0 := (bte_i h20).1 h23
          exact r_callFD hκ (n' := 0) (index := 24) (C := "EditsMeet$Insert") (w_X5_off Γ0 l0 hq0) (lw_meth q966) q1387 q964 q137 (by decide +kernel) (by decide +kernel) (t := 15) h23 rfl rfl (by decide) rfl (Nat.le_of_ble_eq_true rfl) dX6_isLike_27 k0
        replace h20 := (bte_i h20).2 h23
        by_cases h24 : bg s4 0 a1 0 = 17
        · have hq0 := (bte_i h20).1 h24
          exact r_callF hκ (n' := 0) (index := 24) (C := "EditsMeet$Mark") (w_X18_off Γ0 l0 hq0) (lw_app (lw_l4 q1387 q961 q962 q166) (lw_meth q963)) (by decide +kernel) (by decide +kernel) (t := 16) h24 rfl rfl (by decide) rfl (Nat.le_of_ble_eq_true rfl) dX6_isLike_27 k0
        replace h20 := (bte_i h20).2 h24
        cases h20
      refine r_aload_n hκ 0 rfl rfl dX6_isLike_32 ?_
      obtain ⟨s6, v6, h25, h⟩ := bcl_i h
      refine r_seq (A := bJ κ s6 36 [(0, (2, a0)), (1, (2, a1))] [(0, v6), (0, v5)]) ?_ (fun k0 => ?_)
      case refine_2 =>
        by_cases h26 : bg s5 0 a0 0 = 6
        · have hq0 := (bte_i h25).1 h26
          exact r_callVD hκ (n' := 0) (index := 27) (C := "EditsMeet$Keep") (owner := "EditsMeet$Part") (w_X5_off Γ0 l0 hq0) (lw_meth q966) (List.mem_of_getElem? (i := 6) rfl) (List.mem_of_getElem? (i := 7) rfl) q964 q137 (by decide +kernel) (by decide +kernel) (t := 5) h26 rfl rfl (by decide) rfl (Nat.le_of_ble_eq_true rfl) dX6_isLike_33 k0
        replace h25 := (bte_i h25).2 h26
        by_cases h27 : bg s5 0 a0 0 = 15
        · have hq0 := (bte_i h25).1 h27
          exact r_callVD hκ (n' := 0) (index := 27) (C := "EditsMeet$Delete") (owner := "EditsMeet$Part") (w_X5_off Γ0 l0 hq0) (lw_meth q966) (List.mem_of_getElem? (i := 6) rfl) (List.mem_of_getElem? (i := 7) rfl) q964 q137 (by decide +kernel) (by decide +kernel) (t := 14) h27 rfl rfl (by decide) rfl (Nat.le_of_ble_eq_true rfl) dX6_isLike_33 k0
        replace h25 := (bte_i h25).2 h27
        cases h25
      refine r_icmp_ne hκ (tgt := 43) (by decide) dX6_isLike_36 (fun h28 => ?_) (fun h28 => ?_)
      · replace h := (bte_i h).2 h28
        refine r_iconst hκ dX6_isLike_43 ?_
        exact r_iretH hκ hf h (nar_bool (by decide)) dX6_isLike_44
      · replace h := (bte_i h).1 h28
        refine r_iconst hκ dX6_isLike_39 ?_
        refine r_goto hκ (tgt := 44) (by decide) dX6_isLike_40 ?_
        exact r_iretH hκ hf h (nar_bool (by decide)) dX6_isLike_44
/-- EditsMeet$Edit.ends()LEditsMeet$Edit; -/
def F_X8_ends (s0 : bS) (a0 : Int) : Option (bS × Int) :=
  bck (bg s0 0 a0 0 = 7) <|
  bte ((bg s0 138 a0 0) < 0)
  (some (s0, a0))
  (bck (bg s0 0 a0 0 = 7) <|
  bck (bg s0 0 a0 0 = 7) <|
  bck (bg s0 0 a0 0 = 7) <|
  bcl (bte (bg s0 0 (bg s0 138 a0 0) 0 = 6) (F_X6_so s0 (bg s0 138 a0 0) (bg s0 140 a0 0)) (bte (bg s0 0 (bg s0 138 a0 0) 0 = 15) (F_X6_so s0 (bg s0 138 a0 0) (bg s0 140 a0 0)) (bte (bg s0 0 (bg s0 138 a0 0) 0 = 17) (F_X6_so s0 (bg s0 138 a0 0) (bg s0 140 a0 0)) (none)))) fun s1 v1 =>
  bck (bg s1 0 (bg s0 134 a0 0) 0 = 21) <|
  bcl (F_J10_add s1 (bg s0 134 a0 0) v1) fun s2 v2 =>
  bck ((bg s2 0 a0 0 = 7)) <|
  bst (bw s2 138 a0 0 (-1)) fun s3 =>
  bck ((bg s3 0 a0 0 = 7)) <|
  bst (bw s3 140 a0 0 0) fun s4 =>
  some (s4, a0))
set_option maxHeartbeats 4000000 in
set_option maxRecDepth 100000 in
theorem w_X8_ends (Γ0 : bG) (l0 : Launch) {s0 st' : bS} {v a0 : Int} (h : F_X8_ends s0 a0 = some (st', v)) : bCt Γ0 l0 yX8_ends cX8_ends 1 (some (.object "EditsMeet$Edit")) 7 171 [(2, a0)] s0 st' (some (2, v)) := by
  refine b_ent (own := RX8) (by decide +kernel) rfl (Nat.le_of_ble_eq_true rfl) (L := [(0, (2, a0))]) rfl ?_
  intro κ hκ hi hf
  unfold F_X8_ends at h
  refine r_aload_n hκ 0 rfl rfl dX8_ends_0 ?_
  obtain ⟨h1, h⟩ := bck_i h
  refine r_get hκ (t := 6) (k := 1) (r := 138) h1 rfl in_X8 (by decide) rfl q409 (Or.inl rfl) dX8_ends_1 ?_
  refine r_ifnull hκ (tgt := 36) (by decide) dX8_ends_4 (fun h2 => ?_) (fun h2 => ?_)
  · replace h := (bte_i h).1 h2
    refine r_aload_n hκ 0 rfl rfl dX8_ends_36 ?_
    exact r_aretH hκ hf h rt_o dX8_ends_37
  · replace h := (bte_i h).2 h2
    refine r_aload_n hκ 0 rfl rfl dX8_ends_7 ?_
    obtain ⟨h3, h⟩ := bck_i h
    refine r_get hκ (t := 6) (k := 0) (r := 134) h3 rfl in_X8 (by decide) rfl q408 (Or.inl rfl) dX8_ends_8 ?_
    refine r_aload_n hκ 0 rfl rfl dX8_ends_11 ?_
    obtain ⟨h4, h⟩ := bck_i h
    refine r_get hκ (t := 6) (k := 1) (r := 138) h4 rfl in_X8 (by decide) rfl q409 (Or.inl rfl) dX8_ends_12 ?_
    refine r_aload_n hκ 0 rfl rfl dX8_ends_15 ?_
    obtain ⟨h5, h⟩ := bck_i h
    refine r_get hκ (t := 6) (k := 2) (r := 140) h5 rfl in_X8 (by decide) rfl q410 (Or.inl rfl) dX8_ends_16 ?_
    obtain ⟨s1, v1, h6, h⟩ := bcl_i h
    refine r_seq (A := bJ κ s1 22 [(0, (2, a0))] [(2, v1), (2, (bg s0 134 a0 0))]) ?_ (fun k0 => ?_)
    case refine_2 =>
      by_cases h7 : bg s0 0 (bg s0 138 a0 0) 0 = 6
      · have hq0 := (bte_i h6).1 h7
        exact r_callU hκ (index := 56) (C := "EditsMeet$Keep") (owner := "EditsMeet$Over") (n' := 1) (w_X6_so Γ0 l0 hq0) (fun R s args hts hRR => va_cwU 1 hts (lw_app (lw_l5 q1397 q1399 q1401 q1398 q138) (lw_meth q1403)) rfl rfl rfl rfl (by decide +kernel) hRR) (t := 5) h7 rfl rfl (by decide) rfl (Nat.le_of_ble_eq_true rfl) dX8_ends_19 k0
      replace h6 := (bte_i h6).2 h7
      by_cases h8 : bg s0 0 (bg s0 138 a0 0) 0 = 15
      · have hq0 := (bte_i h6).1 h8
        exact r_callU hκ (index := 56) (C := "EditsMeet$Delete") (owner := "EditsMeet$Over") (n' := 1) (w_X6_so Γ0 l0 hq0) (fun R s args hts hRR => va_cwU 1 hts (lw_app (lw_l5 q1397 q1399 q1400 q1398 q138) (lw_meth q1403)) rfl rfl rfl rfl (by decide +kernel) hRR) (t := 14) h8 rfl rfl (by decide) rfl (Nat.le_of_ble_eq_true rfl) dX8_ends_19 k0
      replace h6 := (bte_i h6).2 h8
      by_cases h9 : bg s0 0 (bg s0 138 a0 0) 0 = 17
      · have hq0 := (bte_i h6).1 h9
        exact r_callU hκ (index := 56) (C := "EditsMeet$Mark") (owner := "EditsMeet$Over") (n' := 1) (w_X6_so Γ0 l0 hq0) (fun R s args hts hRR => va_cwU 1 hts (lw_app (lw_l5 q1397 q1399 q1402 q1398 q138) (lw_meth q1403)) rfl rfl rfl rfl (by decide +kernel) hRR) (t := 16) h9 rfl rfl (by decide) rfl (Nat.le_of_ble_eq_true rfl) dX8_ends_19 k0
      replace h6 := (bte_i h6).2 h9
      cases h6
    obtain ⟨h10, h⟩ := bck_i h
    obtain ⟨s2, v2, h11, h⟩ := bcl_i h
    refine r_callV hκ (n' := 1) (index := 47) (w_J10_add Γ0 l0 h11) (lw_V q1419 q1420 q1421 q134 q1422) (by decide +kernel) (t := 20) h10 rfl rfl (by decide) rfl (Nat.le_of_ble_eq_true rfl) dX8_ends_22 ?_
    refine r_pop hκ (bd_cat0k _) dX8_ends_25 ?_
    refine r_aload_n hκ 0 rfl rfl dX8_ends_26 ?_
    refine r_null hκ dX8_ends_27 ?_
    obtain ⟨h12, h⟩ := bck_i h
    refine r_put hκ (t := 6) (k := 1) (r := 138) (ty := (.object "EditsMeet$Over")) tyX8 tyX8_ok nmX8 h12 rfl in_X8 (by decide) rfl q409 (Or.inl rfl) rfl rfl rfl trivial (Or.inl (by decide)) dX8_ends_28 (fun s3 es3 => ?_)
    replace h := bst_i h s3 es3
    refine r_aload_n hκ 0 rfl rfl dX8_ends_31 ?_
    refine r_iconst hκ dX8_ends_32 ?_
    obtain ⟨h13, h⟩ := bck_i h
    refine r_put hκ (t := 6) (k := 2) (r := 140) (ty := .int) tyX8 tyX8_ok nmX8 h13 rfl in_X8 (by decide) rfl q410 (Or.inl rfl) rfl rfl rfl trivial (Or.inl (by decide)) dX8_ends_33 (fun s4 es4 => ?_)
    replace h := bst_i h s4 es4
    refine r_aload_n hκ 0 rfl rfl dX8_ends_36 ?_
    exact r_aretH hκ hf h rt_o dX8_ends_37
/-- EditsMeet$Edit.goesOn(LEditsMeet$Over;I)V -/
def F_X8_goesOn_r (b : Nat) (x0 x1 x2 : Int) (s0 : bS) : Option (bS × Int) :=
  match b with
  | 0 =>
    bck (bg s0 0 x0 0 = 7) <|
    bcl (F_X8_ends s0 x0) fun s2 v2 =>
    bck ((bg s2 0 x0 0 = 7)) <|
    bst (bw s2 138 x0 0 x1) fun s3 =>
    F_X8_goesOn_r 1 x0 x2 0 s3
  | 1 =>
    bck (bg s0 0 x0 0 = 7) <|
    bck ((bg s0 0 x0 0 = 7)) <|
    bst (bw s0 140 x0 0 ((bg s0 140 x0 0) + x1)) fun s4 =>
    some (s4, 0)
  | _ => none
partial_fixpoint
def F_X8_goesOn (s0 : bS) (a0 a1 a2 : Int) : Option (bS × Int) :=
  bck (bg s0 0 a0 0 = 7) <|
  bte ((bg s0 138 a0 0) < 0)
  (F_X8_goesOn_r 0 a0 a1 a2 s0)
  (bck (bg s0 0 a0 0 = 7) <|
  bcl (bte (bg s0 0 (bg s0 138 a0 0) 0 = 6) (F_X6_isLike s0 (bg s0 138 a0 0) a1) (bte (bg s0 0 (bg s0 138 a0 0) 0 = 15) (F_X6_isLike s0 (bg s0 138 a0 0) a1) (bte (bg s0 0 (bg s0 138 a0 0) 0 = 17) (F_X6_isLike s0 (bg s0 138 a0 0) a1) (none)))) fun s1 v1 =>
  bte (i32 v1 = 0)
  (F_X8_goesOn_r 0 a0 a1 a2 s1)
  (F_X8_goesOn_r 1 a0 a2 0 s1))
set_option maxHeartbeats 4000000 in
set_option maxRecDepth 100000 in
set_option synthInstance.maxHeartbeats 4000000 in
theorem w_X8_goesOn_r {Γ0 : bG} {l0 : Launch} {κ : bK} {st' : bS} {v : Int} (hκ : bOk κ Γ0 l0 cX8_goesOn RX8 3 8 191) (hi : bIn κ yX8_goesOn) (hf : bFin κ none st' none) (b : Nat) (x0 x1 x2 : Int) (s0 : bS) (h : F_X8_goesOn_r b x0 x1 x2 s0 = some (st', v)) : match (generalizing := false) b with | 0 => bJ κ s0 18 [(0, (2, x0)), (1, (2, x1)), (2, (0, x2))] [] | 1 => bJ κ s0 28 [(0, (2, x0)), (2, (0, x1))] [] | _ => True := by
  refine F_X8_goesOn_r.partial_correctness x0 (fun b x1 x2 s0 r => r = (st', v) → match (generalizing := false) b with | 0 => bJ κ s0 18 [(0, (2, x0)), (1, (2, x1)), (2, (0, x2))] [] | 1 => bJ κ s0 28 [(0, (2, x0)), (2, (0, x1))] [] | _ => True) ?_ b x1 x2 s0 _ h rfl
  intro f' ih b x1 x2 s0 r h hr
  subst hr
  match b, h with
  | 0, h =>
      refine r_aload_n hκ 0 rfl rfl dX8_goesOn_18 ?_
      obtain ⟨h9, h⟩ := bck_i h
      obtain ⟨s2, v2, h10, h⟩ := bcl_i h
      refine r_callV hκ (n' := 0) (index := 65) (w_X8_ends Γ0 l0 h10) (lw_V q1393 q1394 q1395 q140 q1396) (by decide +kernel) (t := 6) h9 rfl rfl (by decide) rfl (Nat.le_of_ble_eq_true rfl) dX8_goesOn_19 ?_
      refine r_pop hκ (bd_cat2k _) dX8_goesOn_22 ?_
      refine r_aload_n hκ 0 rfl rfl dX8_goesOn_23 ?_
      refine r_aload_n hκ 1 rfl rfl dX8_goesOn_24 ?_
      obtain ⟨h11, h⟩ := bck_i h
      refine r_put hκ (t := 6) (k := 1) (r := 138) (ty := (.object "EditsMeet$Over")) tyX8 tyX8_ok nmX8 h11 rfl in_X8 (by decide) rfl q409 (Or.inl rfl) rfl rfl rfl trivial (Or.inl (by decide)) dX8_goesOn_25 (fun s3 es3 => ?_)
      replace h := bst_i h s3 es3
      exact r_sub [0, 2] rfl (ih 1 _ _ _ _ h rfl)
  | 1, h =>
      refine r_aload_n hκ 0 rfl rfl dX8_goesOn_28 ?_
      refine r_dup hκ (bd_cat2k _) dX8_goesOn_29 ?_
      obtain ⟨h12, h⟩ := bck_i h
      refine r_get hκ (t := 6) (k := 2) (r := 140) h12 rfl in_X8 (by decide) rfl q410 (Or.inl rfl) dX8_goesOn_30 ?_
      refine r_iload_n hκ 1 rfl rfl dX8_goesOn_33 ?_
      refine r_iadd hκ dX8_goesOn_34 ?_
      obtain ⟨h13, h⟩ := bck_i h
      refine r_put hκ (t := 6) (k := 2) (r := 140) (ty := .int) tyX8 tyX8_ok nmX8 h13 rfl in_X8 (by decide) rfl q410 (Or.inl rfl) rfl rfl rfl trivial (Or.inl (by decide)) dX8_goesOn_35 (fun s4 es4 => ?_)
      replace h := bst_i h s4 es4
      exact r_vretH hκ hf h dX8_goesOn_38
  | b + 2, h => trivial
set_option maxHeartbeats 4000000 in
set_option maxRecDepth 100000 in
theorem w_X8_goesOn (Γ0 : bG) (l0 : Launch) {s0 st' : bS} {v a0 a1 a2 : Int} (h : F_X8_goesOn s0 a0 a1 a2 = some (st', v)) : bCt Γ0 l0 yX8_goesOn cX8_goesOn 3 none 8 191 [(2, a0), (2, a1), (0, a2)] s0 st' none := by
  refine b_ent (own := RX8) (by decide +kernel) rfl (Nat.le_of_ble_eq_true rfl) (L := [(0, (2, a0)), (1, (2, a1)), (2, (0, a2))]) rfl ?_
  intro κ hκ hi hf
  unfold F_X8_goesOn at h
  refine r_aload_n hκ 0 rfl rfl dX8_goesOn_0 ?_
  obtain ⟨h1, h⟩ := bck_i h
  refine r_get hκ (t := 6) (k := 1) (r := 138) h1 rfl in_X8 (by decide) rfl q409 (Or.inl rfl) dX8_goesOn_1 ?_
  refine r_ifnull hκ (tgt := 18) (by decide) dX8_goesOn_4 (fun h2 => ?_) (fun h2 => ?_)
  · replace h := (bte_i h).1 h2
    exact r_sub [0, 1, 2] rfl (w_X8_goesOn_r hκ hi hf 0 _ _ _ _ h)
  · replace h := (bte_i h).2 h2
    refine r_aload_n hκ 0 rfl rfl dX8_goesOn_7 ?_
    obtain ⟨h3, h⟩ := bck_i h
    refine r_get hκ (t := 6) (k := 1) (r := 138) h3 rfl in_X8 (by decide) rfl q409 (Or.inl rfl) dX8_goesOn_8 ?_
    refine r_aload_n hκ 1 rfl rfl dX8_goesOn_11 ?_
    obtain ⟨s1, v1, h4, h⟩ := bcl_i h
    refine r_seq (A := bJ κ s1 15 [(0, (2, a0)), (1, (2, a1)), (2, (0, a2))] [(0, v1)]) ?_ (fun k0 => ?_)
    case refine_2 =>
      by_cases h5 : bg s0 0 (bg s0 138 a0 0) 0 = 6
      · have hq0 := (bte_i h4).1 h5
        exact r_callU hκ (index := 61) (C := "EditsMeet$Keep") (owner := "EditsMeet$Over") (n' := 1) (w_X6_isLike Γ0 l0 hq0) (fun R s args hts hRR => va_cwU 1 hts (lw_app (lw_l5 q1368 q1370 q1372 q1369 q138) (lw_meth q1374)) rfl rfl rfl rfl (by decide +kernel) hRR) (t := 5) h5 rfl rfl (by decide) rfl (Nat.le_of_ble_eq_true rfl) dX8_goesOn_12 k0
      replace h4 := (bte_i h4).2 h5
      by_cases h6 : bg s0 0 (bg s0 138 a0 0) 0 = 15
      · have hq0 := (bte_i h4).1 h6
        exact r_callU hκ (index := 61) (C := "EditsMeet$Delete") (owner := "EditsMeet$Over") (n' := 1) (w_X6_isLike Γ0 l0 hq0) (fun R s args hts hRR => va_cwU 1 hts (lw_app (lw_l5 q1368 q1370 q1371 q1369 q138) (lw_meth q1374)) rfl rfl rfl rfl (by decide +kernel) hRR) (t := 14) h6 rfl rfl (by decide) rfl (Nat.le_of_ble_eq_true rfl) dX8_goesOn_12 k0
      replace h4 := (bte_i h4).2 h6
      by_cases h7 : bg s0 0 (bg s0 138 a0 0) 0 = 17
      · have hq0 := (bte_i h4).1 h7
        exact r_callU hκ (index := 61) (C := "EditsMeet$Mark") (owner := "EditsMeet$Over") (n' := 1) (w_X6_isLike Γ0 l0 hq0) (fun R s args hts hRR => va_cwU 1 hts (lw_app (lw_l5 q1368 q1370 q1373 q1369 q138) (lw_meth q1374)) rfl rfl rfl rfl (by decide +kernel) hRR) (t := 16) h7 rfl rfl (by decide) rfl (Nat.le_of_ble_eq_true rfl) dX8_goesOn_12 k0
      replace h4 := (bte_i h4).2 h7
      cases h4
    refine r_if_ne hκ (tgt := 28) (by decide) dX8_goesOn_15 (fun h8 => ?_) (fun h8 => ?_)
    · replace h := (bte_i h).2 h8
      exact r_sub [0, 2] rfl (w_X8_goesOn_r hκ hi hf 1 _ _ _ _ h)
    · replace h := (bte_i h).1 h8
      exact r_sub [0, 1, 2] rfl (w_X8_goesOn_r hκ hi hf 0 _ _ _ _ h)
/-- EditsMeet$Over.joined(LEditsMeet$Part;)LEditsMeet$Part; -/
def F_X6_joined (s0 : bS) (a0 a1 : Int) : Option (bS × Int) :=
  bcl (bte (bg s0 0 a0 0 = 6) (F_X6_isLike s0 a0 a1) (bte (bg s0 0 a0 0 = 15) (F_X6_isLike s0 a0 a1) (bte (bg s0 0 a0 0 = 17) (F_X6_isLike s0 a0 a1) (none)))) fun s1 v1 =>
  bte (i32 v1 = 0)
  (some (s1, (-1)))
  (bck (bg s1 0 a0 0 = 6 ∨ bg s1 0 a0 0 = 15 ∨ bg s1 0 a0 0 = 17) <|
  bcl (bte (bg s1 0 a1 0 = 6) (F_X6_n s1 a1) (bte (bg s1 0 a1 0 = 15) (F_X6_n s1 a1) (bte (bg s1 0 a1 0 = 16) (F_X17_n s1 a1) (bte (bg s1 0 a1 0 = 17) (F_X6_n s1 a1) (none))))) fun s2 v2 =>
  bcl (bte (bg s2 0 a0 0 = 6) (F_X7_again s2 a0 ((bg s1 128 a0 0) + v2)) (bte (bg s2 0 a0 0 = 15) (F_X16_again s2 a0 ((bg s1 128 a0 0) + v2)) (bte (bg s2 0 a0 0 = 17) (F_X18_again s2 a0 ((bg s1 128 a0 0) + v2)) (none)))) fun s3 v3 =>
  some (s3, v3))
set_option maxHeartbeats 4000000 in
set_option maxRecDepth 100000 in
theorem w_X6_joined (Γ0 : bG) (l0 : Launch) {s0 st' : bS} {v a0 a1 : Int} (h : F_X6_joined s0 a0 a1 = some (st', v)) : bCt Γ0 l0 yX6_joined cX6_joined 2 (some (.object "EditsMeet$Part")) 6 128 [(2, a0), (2, a1)] s0 st' (some (2, v)) := by
  refine b_ent (own := RX6) (by decide +kernel) rfl (Nat.le_of_ble_eq_true rfl) (L := [(0, (2, a0)), (1, (2, a1))]) rfl ?_
  intro κ hκ hi hf
  unfold F_X6_joined at h
  refine r_aload_n hκ 0 rfl rfl dX6_joined_0 ?_
  refine r_aload_n hκ 1 rfl rfl dX6_joined_1 ?_
  obtain ⟨s1, v1, h1, h⟩ := bcl_i h
  refine r_seq (A := bJ κ s1 5 [(0, (2, a0)), (1, (2, a1))] [(0, v1)]) ?_ (fun k0 => ?_)
  case refine_2 =>
    by_cases h2 : bg s0 0 a0 0 = 6
    · have hq0 := (bte_i h1).1 h2
      exact r_callU hκ (index := 35) (C := "EditsMeet$Keep") (owner := "EditsMeet$Over") (n' := 1) (w_X6_isLike Γ0 l0 hq0) (fun R s args hts hRR => va_cwU 1 hts (lw_app (lw_l5 q1523 q1370 q1372 q1369 q138) (lw_meth q1374)) rfl rfl rfl rfl (by decide +kernel) hRR) (t := 5) h2 rfl rfl (by decide) rfl (Nat.le_of_ble_eq_true rfl) dX6_joined_2 k0
    replace h1 := (bte_i h1).2 h2
    by_cases h3 : bg s0 0 a0 0 = 15
    · have hq0 := (bte_i h1).1 h3
      exact r_callU hκ (index := 35) (C := "EditsMeet$Delete") (owner := "EditsMeet$Over") (n' := 1) (w_X6_isLike Γ0 l0 hq0) (fun R s args hts hRR => va_cwU 1 hts (lw_app (lw_l5 q1523 q1370 q1371 q1369 q138) (lw_meth q1374)) rfl rfl rfl rfl (by decide +kernel) hRR) (t := 14) h3 rfl rfl (by decide) rfl (Nat.le_of_ble_eq_true rfl) dX6_joined_2 k0
    replace h1 := (bte_i h1).2 h3
    by_cases h4 : bg s0 0 a0 0 = 17
    · have hq0 := (bte_i h1).1 h4
      exact r_callU hκ (index := 35) (C := "EditsMeet$Mark") (owner := "EditsMeet$Over") (n' := 1) (w_X6_isLike Γ0 l0 hq0) (fun R s args hts hRR => va_cwU 1 hts (lw_app (lw_l5 q1523 q1370 q1373 q1369 q138) (lw_meth q1374)) rfl rfl rfl rfl (by decide +kernel) hRR) (t := 16) h4 rfl rfl (by decide) rfl (Nat.le_of_ble_eq_true rfl) dX6_joined_2 k0
    replace h1 := (bte_i h1).2 h4
    cases h1
  refine r_if_eq hκ (tgt := 26) (by decide) dX6_joined_5 (fun h5 => ?_) (fun h5 => ?_)
  · replace h := (bte_i h).1 h5
    refine r_null hκ dX6_joined_26 ?_
    exact r_aretH hκ hf h rt_o dX6_joined_27
  · replace h := (bte_i h).2 h5
    refine r_aload_n hκ 0 rfl rfl dX6_joined_8 ?_
    refine r_aload_n hκ 0 rfl rfl dX6_joined_9 ?_
    obtain ⟨h6, h⟩ := bck_i h
    refine r_seq (A := bJ κ s1 13 [(0, (2, a0)), (1, (2, a1))] [(0, (bg s1 128 a0 0)), (2, a0)]) ?_ (fun k0 => Or.elim h6 (fun h6 => r_get hκ (t := 5) (k := 0) (r := 128) h6 rfl in_X7 (by decide) rfl q390 (Or.inl rfl) dX6_joined_10 k0) (fun h6 => Or.elim h6 (fun h6 => r_get hκ (t := 14) (k := 0) (r := 128) h6 rfl in_X16 (by decide) rfl q390 (Or.inl rfl) dX6_joined_10 k0) (fun h6 => r_get hκ (t := 16) (k := 0) (r := 128) h6 rfl in_X18 (by decide) rfl q390 (Or.inl rfl) dX6_joined_10 k0)))
    refine r_aload_n hκ 1 rfl rfl dX6_joined_13 ?_
    obtain ⟨s2, v2, h7, h⟩ := bcl_i h
    refine r_seq (A := bJ κ s2 19 [(0, (2, a0)), (1, (2, a1))] [(0, v2), (0, (bg s1 128 a0 0)), (2, a0)]) ?_ (fun k0 => ?_)
    case refine_2 =>
      by_cases h8 : bg s1 0 a1 0 = 6
      · have hq0 := (bte_i h7).1 h8
        exact r_callF hκ (n' := 0) (index := 39) (C := "EditsMeet$Keep") (w_X6_n Γ0 l0 hq0) (lw_app (lw_l4 q1525 q882 q865 q138) (lw_meth q867)) (by decide +kernel) (by decide +kernel) (t := 5) h8 rfl rfl (by decide) rfl (Nat.le_of_ble_eq_true rfl) dX6_joined_14 k0
      replace h7 := (bte_i h7).2 h8
      by_cases h9 : bg s1 0 a1 0 = 15
      · have hq0 := (bte_i h7).1 h9
        exact r_callF hκ (n' := 0) (index := 39) (C := "EditsMeet$Delete") (w_X6_n Γ0 l0 hq0) (lw_app (lw_l4 q1525 q863 q865 q138) (lw_meth q867)) (by decide +kernel) (by decide +kernel) (t := 14) h9 rfl rfl (by decide) rfl (Nat.le_of_ble_eq_true rfl) dX6_joined_14 k0
      replace h7 := (bte_i h7).2 h9
      by_cases h10 : bg s1 0 a1 0 = 16
      · have hq0 := (bte_i h7).1 h10
        exact r_callF hκ (n' := 0) (index := 39) (C := "EditsMeet$Insert") (w_X17_n Γ0 l0 hq0) (lw_app (lw_l4 q1525 q868 q870 q165) (lw_meth q872)) (by decide +kernel) (by decide +kernel) (t := 15) h10 rfl rfl (by decide) rfl (Nat.le_of_ble_eq_true rfl) dX6_joined_14 k0
      replace h7 := (bte_i h7).2 h10
      by_cases h11 : bg s1 0 a1 0 = 17
      · have hq0 := (bte_i h7).1 h11
        exact r_callF hκ (n' := 0) (index := 39) (C := "EditsMeet$Mark") (w_X6_n Γ0 l0 hq0) (lw_app (lw_l4 q1525 q884 q865 q138) (lw_meth q867)) (by decide +kernel) (by decide +kernel) (t := 16) h11 rfl rfl (by decide) rfl (Nat.le_of_ble_eq_true rfl) dX6_joined_14 k0
      replace h7 := (bte_i h7).2 h11
      cases h7
    refine r_iadd hκ dX6_joined_19 ?_
    obtain ⟨s3, v3, h12, h⟩ := bcl_i h
    refine r_seq (A := bJ κ s3 23 [(0, (2, a0)), (1, (2, a1))] [(2, v3)]) ?_ (fun k0 => ?_)
    case refine_2 =>
      by_cases h13 : bg s2 0 a0 0 = 6
      · have hq0 := (bte_i h12).1 h13
        exact r_callUA hκ (n' := 1) (index := 28) (C := "EditsMeet$Keep") (owner := "EditsMeet$Over") (w_X7_again Γ0 l0 hq0) (lw_app (lw_l5 q1404 q1406 q1411 q1412 q139) (lw_meth q1413)) (by decide +kernel) (by decide +kernel) (t := 5) h13 rfl rfl (by decide) rfl (Nat.le_of_ble_eq_true rfl) dX6_joined_20 k0
      replace h12 := (bte_i h12).2 h13
      by_cases h14 : bg s2 0 a0 0 = 15
      · have hq0 := (bte_i h12).1 h14
        exact r_callUA hκ (n' := 1) (index := 28) (C := "EditsMeet$Delete") (owner := "EditsMeet$Over") (w_X16_again Γ0 l0 hq0) (lw_app (lw_l5 q1404 q1406 q1407 q1408 q164) (lw_meth q1409)) (by decide +kernel) (by decide +kernel) (t := 14) h14 rfl rfl (by decide) rfl (Nat.le_of_ble_eq_true rfl) dX6_joined_20 k0
      replace h12 := (bte_i h12).2 h14
      by_cases h15 : bg s2 0 a0 0 = 17
      · have hq0 := (bte_i h12).1 h15
        exact r_callUA hκ (n' := 1) (index := 28) (C := "EditsMeet$Mark") (owner := "EditsMeet$Over") (w_X18_again Γ0 l0 hq0) (lw_app (lw_l5 q1404 q1406 q1415 q1416 q166) (lw_meth q1417)) (by decide +kernel) (by decide +kernel) (t := 16) h15 rfl rfl (by decide) rfl (Nat.le_of_ble_eq_true rfl) dX6_joined_20 k0
      replace h12 := (bte_i h12).2 h15
      cases h12
    refine r_goto hκ (tgt := 27) (by decide) dX6_joined_23 ?_
    exact r_aretH hκ hf h rt_o dX6_joined_27
/-- EditsMeet$Insert.joined(LEditsMeet$Part;)LEditsMeet$Part; -/
def F_X17_joined (s0 : bS) (a0 a1 : Int) : Option (bS × Int) :=
  bte (bg s0 0 a1 0 = 16) (bck (a1 < 0 ∨ bg s0 0 a1 0 = 16) <|
  bck (bc s0 + 1 ≤ bCM ∧ bk s0 + 4 ≤ bKM) <|
  bst (bnw s0 19 0 4) fun s1 =>
  bck (bg s1 0 (bnx s0 : Int) 0 = 19) <|
  bcl (F_J1_init s1 (bnx s0 : Int)) fun s2 v1 =>
  bck (bg s2 0 a0 0 = 16) <|
  bck (bg s2 0 (bnx s0 : Int) 0 = 19) <|
  bcl (F_J1_append s2 (bnx s0 : Int) (bg s2 386 a0 0)) fun s3 v2 =>
  bck (bg s3 0 a1 0 = 16) <|
  bck (bg s3 0 v2 0 = 19) <|
  bcl (F_J1_append s3 v2 (bg s3 386 a1 0)) fun s4 v3 =>
  bck (bg s4 0 v3 0 = 19) <|
  bcl (F_J1_toString s4 v3) fun s5 v4 =>
  bck (bc s5 + 1 ≤ bCM ∧ bk s5 + 4 ≤ bKM) <|
  bst (bnw s5 19 0 4) fun s6 =>
  bck (bg s6 0 (bnx s5 : Int) 0 = 19) <|
  bcl (F_J1_init s6 (bnx s5 : Int)) fun s7 v5 =>
  bck (bg s7 0 a0 0 = 16) <|
  bck (bg s7 0 (bnx s5 : Int) 0 = 19) <|
  bcl (F_J1_append s7 (bnx s5 : Int) (bg s7 390 a0 0)) fun s8 v6 =>
  bck (bg s8 0 a1 0 = 16) <|
  bck (bg s8 0 v6 0 = 19) <|
  bcl (F_J1_append s8 v6 (bg s8 390 a1 0)) fun s9 v7 =>
  bck (bg s9 0 v7 0 = 19) <|
  bcl (F_J1_toString s9 v7) fun s10 v8 =>
  bcl (F_X5_insert s10 v4 v8) fun s11 v9 =>
  some (s11, v9)) (bck (a1 < 0 ∨ bg s0 0 a1 0 = 6 ∨ bg s0 0 a1 0 = 15 ∨ bg s0 0 a1 0 = 17) <| some (s0, (-1)))
set_option maxHeartbeats 4000000 in
set_option maxRecDepth 100000 in
theorem w_X17_joined (Γ0 : bG) (l0 : Launch) {s0 st' : bS} {v a0 a1 : Int} (h : F_X17_joined s0 a0 a1 = some (st', v)) : bCt Γ0 l0 yX17_joined cX17_joined 3 (some (.object "EditsMeet$Part")) 7 172 [(2, a0), (2, a1)] s0 st' (some (2, v)) := by
  refine b_ent (own := RX17) (by decide +kernel) rfl (Nat.le_of_ble_eq_true rfl) (L := [(0, (2, a0)), (1, (2, a1))]) rfl ?_
  intro κ hκ hi hf
  unfold F_X17_joined at h
  refine r_aload_n hκ 1 rfl rfl dX17_joined_0 ?_
  by_cases h1 : bg s0 0 a1 0 = 16
  · replace h := (bte_i h).1 h1
    refine r_instGY hκ q1531 (⟨16, _, h1, by decide, rfl, Or.inl (by decide +kernel)⟩) dX17_joined_1 ?_
    refine r_if_eq hκ (tgt := 66) (by decide) dX17_joined_4 (fun hc => absurd hc (by decide)) (fun _ => ?_)
    refine r_aload_n hκ 1 rfl rfl dX17_joined_7 ?_
    obtain ⟨h3, h⟩ := bck_i h
    refine r_cast hκ q1531 (Or.elim h3 (fun h3 => Or.inl h3) (fun h3 => Or.inr ⟨15, _, h3, rfl, Or.inl rfl⟩)) dX17_joined_8 ?_
    refine r_astore_n hκ (L2 := [(2, (2, a1)), (0, (2, a0)), (1, (2, a1))]) (by decide) rfl rfl dX17_joined_11 ?_
    obtain ⟨h4, h⟩ := bck_i h
    refine r_new hκ (t := 18) tyJ1 tyJ1_ok dfJ1 rfl in_J1 q1532 q200 q125 h4 dX17_joined_12 (fun s1 es1 => ?_)
    replace h := bst_i h s1 es1
    refine r_dup hκ (bd_cat2k _) dX17_joined_15 ?_
    obtain ⟨h5, h⟩ := bck_i h
    obtain ⟨s2, v1, h6, h⟩ := bcl_i h
    refine r_callI hκ (n' := 0) (index := 37) (w_J1_init Γ0 l0 h6) (lw_meth q203) q125 q1533 q202 rfl (by decide +kernel) (t := 18) h5 rfl rfl (by decide) rfl (Nat.le_of_ble_eq_true rfl) dX17_joined_16 ?_
    refine r_aload_n hκ 1 rfl rfl dX17_joined_19 ?_
    obtain ⟨h7, h⟩ := bck_i h
    refine r_get hκ (t := 15) (k := 0) (r := 386) h7 rfl in_X17 (by decide) rfl q1317 (Or.inl rfl) dX17_joined_20 ?_
    obtain ⟨h8, h⟩ := bck_i h
    obtain ⟨s3, v2, h9, h⟩ := bcl_i h
    refine r_callV hκ (n' := 1) (index := 38) (w_J1_append Γ0 l0 h9) (lw_V q1534 q1015 q1016 q125 q1017) (by decide +kernel) (t := 18) h8 rfl rfl (by decide) rfl (Nat.le_of_ble_eq_true rfl) dX17_joined_23 ?_
    refine r_aload_n hκ 0 rfl rfl dX17_joined_26 ?_
    obtain ⟨h10, h⟩ := bck_i h
    refine r_get hκ (t := 15) (k := 0) (r := 386) h10 rfl in_X17 (by decide) rfl q1317 (Or.inl rfl) dX17_joined_27 ?_
    obtain ⟨h11, h⟩ := bck_i h
    obtain ⟨s4, v3, h12, h⟩ := bcl_i h
    refine r_callV hκ (n' := 1) (index := 38) (w_J1_append Γ0 l0 h12) (lw_V q1534 q1015 q1016 q125 q1017) (by decide +kernel) (t := 18) h11 rfl rfl (by decide) rfl (Nat.le_of_ble_eq_true rfl) dX17_joined_30 ?_
    obtain ⟨h13, h⟩ := bck_i h
    obtain ⟨s5, v4, h14, h⟩ := bcl_i h
    refine r_callV hκ (n' := 0) (index := 42) (w_J1_toString Γ0 l0 h14) (lw_V q1535 q1127 q1128 q125 q1129) (by decide +kernel) (t := 18) h13 rfl rfl (by decide) rfl (Nat.le_of_ble_eq_true rfl) dX17_joined_33 ?_
    obtain ⟨h15, h⟩ := bck_i h
    refine r_new hκ (t := 18) tyJ1 tyJ1_ok dfJ1 rfl in_J1 q1532 q200 q125 h15 dX17_joined_36 (fun s6 es6 => ?_)
    replace h := bst_i h s6 es6
    refine r_dup hκ (bd_cat2k _) dX17_joined_39 ?_
    obtain ⟨h16, h⟩ := bck_i h
    obtain ⟨s7, v5, h17, h⟩ := bcl_i h
    refine r_callI hκ (n' := 0) (index := 37) (w_J1_init Γ0 l0 h17) (lw_meth q203) q125 q1533 q202 rfl (by decide +kernel) (t := 18) h16 rfl rfl (by decide) rfl (Nat.le_of_ble_eq_true rfl) dX17_joined_40 ?_
    refine r_aload_n hκ 1 rfl rfl dX17_joined_43 ?_
    obtain ⟨h18, h⟩ := bck_i h
    refine r_get hκ (t := 15) (k := 1) (r := 390) h18 rfl in_X17 (by decide) rfl q1320 (Or.inl rfl) dX17_joined_44 ?_
    obtain ⟨h19, h⟩ := bck_i h
    obtain ⟨s8, v6, h20, h⟩ := bcl_i h
    refine r_callV hκ (n' := 1) (index := 38) (w_J1_append Γ0 l0 h20) (lw_V q1534 q1015 q1016 q125 q1017) (by decide +kernel) (t := 18) h19 rfl rfl (by decide) rfl (Nat.le_of_ble_eq_true rfl) dX17_joined_47 ?_
    refine r_aload_n hκ 0 rfl rfl dX17_joined_50 ?_
    obtain ⟨h21, h⟩ := bck_i h
    refine r_get hκ (t := 15) (k := 1) (r := 390) h21 rfl in_X17 (by decide) rfl q1320 (Or.inl rfl) dX17_joined_51 ?_
    obtain ⟨h22, h⟩ := bck_i h
    obtain ⟨s9, v7, h23, h⟩ := bcl_i h
    refine r_callV hκ (n' := 1) (index := 38) (w_J1_append Γ0 l0 h23) (lw_V q1534 q1015 q1016 q125 q1017) (by decide +kernel) (t := 18) h22 rfl rfl (by decide) rfl (Nat.le_of_ble_eq_true rfl) dX17_joined_54 ?_
    obtain ⟨h24, h⟩ := bck_i h
    obtain ⟨s10, v8, h25, h⟩ := bcl_i h
    refine r_callV hκ (n' := 0) (index := 42) (w_J1_toString Γ0 l0 h25) (lw_V q1535 q1127 q1128 q125 q1129) (by decide +kernel) (t := 18) h24 rfl rfl (by decide) rfl (Nat.le_of_ble_eq_true rfl) dX17_joined_57 ?_
    obtain ⟨s11, v9, h26, h⟩ := bcl_i h
    refine r_callS hκ (n' := 2) (index := 29) (w_X5_insert Γ0 l0 h26) (lw_S q1536 q1295 q137 q1296) (by decide +kernel) rfl (by decide) rfl (Nat.le_of_ble_eq_true rfl) dX17_joined_60 ?_
    refine r_goto hκ (tgt := 67) (by decide) dX17_joined_63 ?_
    exact r_aretH hκ hf h rt_o dX17_joined_67
  · replace h := (bte_i h).2 h1
    obtain ⟨h2, h⟩ := bck_i h
    refine r_instGN hκ q1531 (Or.elim h2 (fun h2 => Or.inl h2) (fun h2 => Or.elim h2 (fun h2 => Or.inr ⟨6, _, h2, by decide, rfl, by decide +kernel⟩) (fun h2 => Or.elim h2 (fun h2 => Or.inr ⟨15, _, h2, by decide, rfl, by decide +kernel⟩) (fun h2 => Or.inr ⟨17, _, h2, by decide, rfl, by decide +kernel⟩)))) dX17_joined_1 ?_
    refine r_if_eq hκ (tgt := 66) (by decide) dX17_joined_4 (fun _ => ?_) (fun hc => absurd hc (by decide))
    refine r_null hκ dX17_joined_66 ?_
    exact r_aretH hκ hf h rt_o dX17_joined_67
/-- EditsMeet$Edit.inserts(LEditsMeet$Insert;)V -/
def F_X8_inserts_r (b : Nat) (x0 x1 x2 x3 : Int) (s0 : bS) : Option (bS × Int) :=
  match b with
  | 0 =>
    bck (bg s0 0 x0 0 = 7) <|
    bck (bg s0 0 (bg s0 134 x0 0) 0 = 21) <|
    bcl (F_J10_size s0 (bg s0 134 x0 0)) fun s3 v3 =>
    bte (0 ≤ i32 (v3 - 1))
    (bck (bg s3 0 x0 0 = 7) <|
    bck (bg s3 0 (bg s3 134 x0 0) 0 = 21) <|
    bcl (F_J10_get s3 (bg s3 134 x0 0) (v3 - 1)) fun s4 v4 =>
    bck (v4 < 0 ∨ bg s4 0 v4 0 = 6 ∨ bg s4 0 v4 0 = 15 ∨ bg s4 0 v4 0 = 16 ∨ bg s4 0 v4 0 = 17) <|
    bcl (bte (bg s4 0 v4 0 = 6) (F_X6_joined s4 v4 x1) (bte (bg s4 0 v4 0 = 15) (F_X6_joined s4 v4 x1) (bte (bg s4 0 v4 0 = 16) (F_X17_joined s4 v4 x1) (bte (bg s4 0 v4 0 = 17) (F_X6_joined s4 v4 x1) (none))))) fun s5 v5 =>
    F_X8_inserts_r 1 x0 x1 (v3 - 1) v5 s5)
    (F_X8_inserts_r 1 x0 x1 (v3 - 1) (-1) s3)
  | 1 =>
    bte (x3 < 0)
    (bck (bg s0 0 x0 0 = 7) <|
    bck (bg s0 0 (bg s0 134 x0 0) 0 = 21) <|
    bcl (F_J10_add s0 (bg s0 134 x0 0) x1) fun s6 v6 =>
    some (s6, 0))
    (bck (bg s0 0 x0 0 = 7) <|
    bck (bg s0 0 (bg s0 134 x0 0) 0 = 21) <|
    bcl (F_J10_set s0 (bg s0 134 x0 0) x2 x3) fun s7 v7 =>
    some (s7, 0))
  | _ => none
partial_fixpoint
def F_X8_inserts (s0 : bS) (a0 a1 : Int) : Option (bS × Int) :=
  bck (bg s0 0 a0 0 = 7) <|
  bte ((bg s0 138 a0 0) < 0)
  (F_X8_inserts_r 0 a0 a1 0 0 s0)
  (bck (bg s0 0 a0 0 = 7) <|
  bcl (bte (bg s0 0 (bg s0 138 a0 0) 0 = 6) (F_X5_deletes s0 (bg s0 138 a0 0)) (bte (bg s0 0 (bg s0 138 a0 0) 0 = 15) (F_X5_deletes s0 (bg s0 138 a0 0)) (bte (bg s0 0 (bg s0 138 a0 0) 0 = 17) (F_X5_deletes s0 (bg s0 138 a0 0)) (none)))) fun s1 v1 =>
  bte (i32 v1 = 0)
  (bck (bg s1 0 a0 0 = 7) <|
  bcl (F_X8_ends s1 a0) fun s2 v2 =>
  F_X8_inserts_r 0 a0 a1 0 0 s2)
  (F_X8_inserts_r 0 a0 a1 0 0 s1))
set_option maxHeartbeats 4000000 in
set_option maxRecDepth 100000 in
set_option synthInstance.maxHeartbeats 4000000 in
theorem w_X8_inserts_r {Γ0 : bG} {l0 : Launch} {κ : bK} {st' : bS} {v : Int} (hκ : bOk κ Γ0 l0 cX8_inserts RX8 4 8 194) (hi : bIn κ yX8_inserts) (hf : bFin κ none st' none) (b : Nat) (x0 x1 x2 x3 : Int) (s0 : bS) (h : F_X8_inserts_r b x0 x1 x2 x3 s0 = some (st', v)) : match (generalizing := false) b with | 0 => bJ κ s0 22 [(0, (2, x0)), (1, (2, x1))] [] | 1 => bJ κ s0 57 [(0, (2, x0)), (1, (2, x1)), (2, (0, x2))] [(2, x3)] | _ => True := by
  refine F_X8_inserts_r.partial_correctness x0 x1 (fun b x2 x3 s0 r => r = (st', v) → match (generalizing := false) b with | 0 => bJ κ s0 22 [(0, (2, x0)), (1, (2, x1))] [] | 1 => bJ κ s0 57 [(0, (2, x0)), (1, (2, x1)), (2, (0, x2))] [(2, x3)] | _ => True) ?_ b x2 x3 s0 _ h rfl
  intro f' ih b x2 x3 s0 r h hr
  subst hr
  match b, h with
  | 0, h =>
      refine r_aload_n hκ 0 rfl rfl dX8_inserts_22 ?_
      obtain ⟨h11, h⟩ := bck_i h
      refine r_get hκ (t := 6) (k := 0) (r := 134) h11 rfl in_X8 (by decide) rfl q408 (Or.inl rfl) dX8_inserts_23 ?_
      obtain ⟨h12, h⟩ := bck_i h
      obtain ⟨s3, v3, h13, h⟩ := bcl_i h
      refine r_callV hκ (n' := 0) (index := 73) (w_J10_size Γ0 l0 h13) (lw_V q810 q811 q812 q134 q813) (by decide +kernel) (t := 20) h12 rfl rfl (by decide) rfl (Nat.le_of_ble_eq_true rfl) dX8_inserts_26 ?_
      refine r_iconst hκ dX8_inserts_29 ?_
      refine r_isub hκ dX8_inserts_30 ?_
      refine r_istore_n hκ (L2 := [(2, (0, (v3 - 1))), (0, (2, x0)), (1, (2, x1))]) (by decide) rfl rfl dX8_inserts_31 ?_
      refine r_iload_n hκ 0 rfl rfl dX8_inserts_32 ?_
      refine r_if_ge hκ (tgt := 40) (by decide) dX8_inserts_33 (fun h14 => ?_) (fun h14 => ?_)
      · replace h := (bte_i h).1 h14
        refine r_aload_n hκ 1 rfl rfl dX8_inserts_40 ?_
        obtain ⟨h15, h⟩ := bck_i h
        refine r_get hκ (t := 6) (k := 0) (r := 134) h15 rfl in_X8 (by decide) rfl q408 (Or.inl rfl) dX8_inserts_41 ?_
        refine r_iload_n hκ 0 rfl rfl dX8_inserts_44 ?_
        obtain ⟨h16, h⟩ := bck_i h
        obtain ⟨s4, v4, h17, h⟩ := bcl_i h
        refine r_callV hκ (n' := 1) (index := 76) (w_J10_get Γ0 l0 h17) (lw_V q818 q819 q820 q134 q821) (by decide +kernel) (t := 20) h16 rfl rfl (by decide) rfl (Nat.le_of_ble_eq_true rfl) dX8_inserts_45 ?_
        obtain ⟨h18, h⟩ := bck_i h
        refine r_cast hκ q832 (Or.elim h18 (fun h18 => Or.inl h18) (fun h18 => Or.elim h18 (fun h18 => Or.inr ⟨5, _, h18, rfl, Or.inr (by decide +kernel)⟩) (fun h18 => Or.elim h18 (fun h18 => Or.inr ⟨14, _, h18, rfl, Or.inr (by decide +kernel)⟩) (fun h18 => Or.elim h18 (fun h18 => Or.inr ⟨15, _, h18, rfl, Or.inr (by decide +kernel)⟩) (fun h18 => Or.inr ⟨16, _, h18, rfl, Or.inr (by decide +kernel)⟩))))) dX8_inserts_48 ?_
        refine r_aload_n hκ 2 rfl rfl dX8_inserts_51 ?_
        obtain ⟨s5, v5, h19, h⟩ := bcl_i h
        refine r_seq (A := bJ κ s5 57 [(2, (0, (v3 - 1))), (0, (2, x0)), (1, (2, x1))] [(2, v5)]) ?_ (fun k0 => ?_)
        case refine_2 =>
          by_cases h20 : bg s4 0 v4 0 = 6
          · have hq0 := (bte_i h19).1 h20
            exact r_callF hκ (n' := 1) (index := 81) (C := "EditsMeet$Keep") (w_X6_joined Γ0 l0 hq0) (lw_app (lw_l4 q1515 q1537 q1520 q138) (lw_meth q1522)) (by decide +kernel) (by decide +kernel) (t := 5) h20 rfl rfl (by decide) rfl (Nat.le_of_ble_eq_true rfl) dX8_inserts_52 k0
          replace h19 := (bte_i h19).2 h20
          by_cases h21 : bg s4 0 v4 0 = 15
          · have hq0 := (bte_i h19).1 h21
            exact r_callF hκ (n' := 1) (index := 81) (C := "EditsMeet$Delete") (w_X6_joined Γ0 l0 hq0) (lw_app (lw_l4 q1515 q1518 q1520 q138) (lw_meth q1522)) (by decide +kernel) (by decide +kernel) (t := 14) h21 rfl rfl (by decide) rfl (Nat.le_of_ble_eq_true rfl) dX8_inserts_52 k0
          replace h19 := (bte_i h19).2 h21
          by_cases h22 : bg s4 0 v4 0 = 16
          · have hq0 := (bte_i h19).1 h22
            exact r_callF hκ (n' := 1) (index := 81) (C := "EditsMeet$Insert") (w_X17_joined Γ0 l0 hq0) (lw_app (lw_l4 q1515 q1526 q1528 q165) (lw_meth q1530)) (by decide +kernel) (by decide +kernel) (t := 15) h22 rfl rfl (by decide) rfl (Nat.le_of_ble_eq_true rfl) dX8_inserts_52 k0
          replace h19 := (bte_i h19).2 h22
          by_cases h23 : bg s4 0 v4 0 = 17
          · have hq0 := (bte_i h19).1 h23
            exact r_callF hκ (n' := 1) (index := 81) (C := "EditsMeet$Mark") (w_X6_joined Γ0 l0 hq0) (lw_app (lw_l4 q1515 q1539 q1520 q138) (lw_meth q1522)) (by decide +kernel) (by decide +kernel) (t := 16) h23 rfl rfl (by decide) rfl (Nat.le_of_ble_eq_true rfl) dX8_inserts_52 k0
          replace h19 := (bte_i h19).2 h23
          cases h19
        exact r_sub [1, 2, 0] rfl (ih 1 _ _ _ _ h rfl)
      · replace h := (bte_i h).2 h14
        refine r_null hκ dX8_inserts_36 ?_
        refine r_goto hκ (tgt := 57) (by decide) dX8_inserts_37 ?_
        exact r_sub [1, 2, 0] rfl (ih 1 _ _ _ _ h rfl)
  | 1, h =>
      refine r_astore_n hκ (L2 := [(3, (2, x3)), (0, (2, x0)), (1, (2, x1)), (2, (0, x2))]) (by decide) rfl rfl dX8_inserts_57 ?_
      refine r_aload_n hκ 0 rfl rfl dX8_inserts_58 ?_
      refine r_ifnull hκ (tgt := 75) (by decide) dX8_inserts_59 (fun h24 => ?_) (fun h24 => ?_)
      · replace h := (bte_i h).1 h24
        refine r_aload_n hκ 1 rfl rfl dX8_inserts_75 ?_
        obtain ⟨h25, h⟩ := bck_i h
        refine r_get hκ (t := 6) (k := 0) (r := 134) h25 rfl in_X8 (by decide) rfl q408 (Or.inl rfl) dX8_inserts_76 ?_
        refine r_aload_n hκ 2 rfl rfl dX8_inserts_79 ?_
        obtain ⟨h26, h⟩ := bck_i h
        obtain ⟨s6, v6, h27, h⟩ := bcl_i h
        refine r_callV hκ (n' := 1) (index := 47) (w_J10_add Γ0 l0 h27) (lw_V q1419 q1420 q1421 q134 q1422) (by decide +kernel) (t := 20) h26 rfl rfl (by decide) rfl (Nat.le_of_ble_eq_true rfl) dX8_inserts_80 ?_
        refine r_pop hκ (bd_cat0k _) dX8_inserts_83 ?_
        exact r_vretH hκ hf h dX8_inserts_84
      · replace h := (bte_i h).2 h24
        refine r_aload_n hκ 1 rfl rfl dX8_inserts_62 ?_
        obtain ⟨h28, h⟩ := bck_i h
        refine r_get hκ (t := 6) (k := 0) (r := 134) h28 rfl in_X8 (by decide) rfl q408 (Or.inl rfl) dX8_inserts_63 ?_
        refine r_iload_n hκ 3 rfl rfl dX8_inserts_66 ?_
        refine r_aload_n hκ 0 rfl rfl dX8_inserts_67 ?_
        obtain ⟨h29, h⟩ := bck_i h
        obtain ⟨s7, v7, h30, h⟩ := bcl_i h
        refine r_callV hκ (n' := 2) (index := 85) (w_J10_set Γ0 l0 h30) (lw_V q1541 q1542 q1543 q134 q1544) (by decide +kernel) (t := 20) h29 rfl rfl (by decide) rfl (Nat.le_of_ble_eq_true rfl) dX8_inserts_68 ?_
        refine r_pop hκ (bd_cat2k _) dX8_inserts_71 ?_
        refine r_goto hκ (tgt := 84) (by decide) dX8_inserts_72 ?_
        exact r_vretH hκ hf h dX8_inserts_84
  | b + 2, h => trivial
set_option maxHeartbeats 4000000 in
set_option maxRecDepth 100000 in
theorem w_X8_inserts (Γ0 : bG) (l0 : Launch) {s0 st' : bS} {v a0 a1 : Int} (h : F_X8_inserts s0 a0 a1 = some (st', v)) : bCt Γ0 l0 yX8_inserts cX8_inserts 4 none 8 194 [(2, a0), (2, a1)] s0 st' none := by
  refine b_ent (own := RX8) (by decide +kernel) rfl (Nat.le_of_ble_eq_true rfl) (L := [(0, (2, a0)), (1, (2, a1))]) rfl ?_
  intro κ hκ hi hf
  unfold F_X8_inserts at h
  refine r_aload_n hκ 0 rfl rfl dX8_inserts_0 ?_
  obtain ⟨h1, h⟩ := bck_i h
  refine r_get hκ (t := 6) (k := 1) (r := 138) h1 rfl in_X8 (by decide) rfl q409 (Or.inl rfl) dX8_inserts_1 ?_
  refine r_ifnull hκ (tgt := 22) (by decide) dX8_inserts_4 (fun h2 => ?_) (fun h2 => ?_)
  · replace h := (bte_i h).1 h2
    exact r_sub [0, 1] rfl (w_X8_inserts_r hκ hi hf 0 _ _ _ _ _ h)
  · replace h := (bte_i h).2 h2
    refine r_aload_n hκ 0 rfl rfl dX8_inserts_7 ?_
    obtain ⟨h3, h⟩ := bck_i h
    refine r_get hκ (t := 6) (k := 1) (r := 138) h3 rfl in_X8 (by decide) rfl q409 (Or.inl rfl) dX8_inserts_8 ?_
    obtain ⟨s1, v1, h4, h⟩ := bcl_i h
    refine r_seq (A := bJ κ s1 14 [(0, (2, a0)), (1, (2, a1))] [(0, v1)]) ?_ (fun k0 => ?_)
    case refine_2 =>
      by_cases h5 : bg s0 0 (bg s0 138 a0 0) 0 = 6
      · have hq0 := (bte_i h4).1 h5
        exact r_callVD hκ (n' := 0) (index := 69) (C := "EditsMeet$Keep") (owner := "EditsMeet$Part") (w_X5_deletes Γ0 l0 hq0) (lw_meth q1496) (List.mem_of_getElem? (i := 8) rfl) (List.mem_of_getElem? (i := 9) rfl) q1494 q137 (by decide +kernel) (by decide +kernel) (t := 5) h5 rfl rfl (by decide) rfl (Nat.le_of_ble_eq_true rfl) dX8_inserts_11 k0
      replace h4 := (bte_i h4).2 h5
      by_cases h6 : bg s0 0 (bg s0 138 a0 0) 0 = 15
      · have hq0 := (bte_i h4).1 h6
        exact r_callVD hκ (n' := 0) (index := 69) (C := "EditsMeet$Delete") (owner := "EditsMeet$Part") (w_X5_deletes Γ0 l0 hq0) (lw_meth q1496) (List.mem_of_getElem? (i := 8) rfl) (List.mem_of_getElem? (i := 9) rfl) q1494 q137 (by decide +kernel) (by decide +kernel) (t := 14) h6 rfl rfl (by decide) rfl (Nat.le_of_ble_eq_true rfl) dX8_inserts_11 k0
      replace h4 := (bte_i h4).2 h6
      by_cases h7 : bg s0 0 (bg s0 138 a0 0) 0 = 17
      · have hq0 := (bte_i h4).1 h7
        exact r_callVD hκ (n' := 0) (index := 69) (C := "EditsMeet$Mark") (owner := "EditsMeet$Part") (w_X5_deletes Γ0 l0 hq0) (lw_meth q1496) (List.mem_of_getElem? (i := 8) rfl) (List.mem_of_getElem? (i := 9) rfl) q1494 q137 (by decide +kernel) (by decide +kernel) (t := 16) h7 rfl rfl (by decide) rfl (Nat.le_of_ble_eq_true rfl) dX8_inserts_11 k0
      replace h4 := (bte_i h4).2 h7
      cases h4
    refine r_if_ne hκ (tgt := 22) (by decide) dX8_inserts_14 (fun h8 => ?_) (fun h8 => ?_)
    · replace h := (bte_i h).2 h8
      exact r_sub [0, 1] rfl (w_X8_inserts_r hκ hi hf 0 _ _ _ _ _ h)
    · replace h := (bte_i h).1 h8
      refine r_aload_n hκ 0 rfl rfl dX8_inserts_17 ?_
      obtain ⟨h9, h⟩ := bck_i h
      obtain ⟨s2, v2, h10, h⟩ := bcl_i h
      refine r_callV hκ (n' := 0) (index := 65) (w_X8_ends Γ0 l0 h10) (lw_V q1393 q1394 q1395 q140 q1396) (by decide +kernel) (t := 6) h9 rfl rfl (by decide) rfl (Nat.le_of_ble_eq_true rfl) dX8_inserts_18 ?_
      refine r_pop hκ (bd_cat2k _) dX8_inserts_21 ?_
      exact r_sub [0, 1] rfl (w_X8_inserts_r hκ hi hf 0 _ _ _ _ _ h)
/-- EditsMeet$Edit.adds(LEditsMeet$Part;I)LEditsMeet$Edit; -/
def F_X8_adds_2 (s0 : bS) (a0 a1 a2 : Int) : Option (bS × Int) :=
  bte (i32 a2 = 0)
  (some (s0, a0))
  (bte (bg s0 0 a1 0 = 6 ∨ bg s0 0 a1 0 = 15 ∨ bg s0 0 a1 0 = 17) (bck (a1 < 0 ∨ bg s0 0 a1 0 = 6 ∨ bg s0 0 a1 0 = 15 ∨ bg s0 0 a1 0 = 17) <|
  bck (bg s0 0 a0 0 = 7) <|
  bcl (F_X8_goesOn s0 a0 a1 a2) fun s1 v1 =>
  some (s1, a0)) (bck (a1 < 0 ∨ bg s0 0 a1 0 = 16) <| bte (bg s0 0 a1 0 = 16) (bck (a1 < 0 ∨ bg s0 0 a1 0 = 16) <|
  bck (bg s0 0 a0 0 = 7) <|
  bcl (F_X8_inserts s0 a0 a1) fun s2 v2 =>
  some (s2, a0)) (bck (a1 < 0 ∨ bg s0 0 a1 0 = 6 ∨ bg s0 0 a1 0 = 15 ∨ bg s0 0 a1 0 = 17) <| some (s0, a0))))
set_option maxHeartbeats 4000000 in
set_option maxRecDepth 100000 in
theorem w_X8_adds_2 (Γ0 : bG) (l0 : Launch) {s0 st' : bS} {v a0 a1 a2 : Int} (h : F_X8_adds_2 s0 a0 a1 a2 = some (st', v)) : bCt Γ0 l0 yX8_adds_2 cX8_adds_2 5 (some (.object "EditsMeet$Edit")) 9 217 [(2, a0), (2, a1), (0, a2)] s0 st' (some (2, v)) := by
  refine b_ent (own := RX8) (by decide +kernel) rfl (Nat.le_of_ble_eq_true rfl) (L := [(0, (2, a0)), (1, (2, a1)), (2, (0, a2))]) rfl ?_
  intro κ hκ hi hf
  unfold F_X8_adds_2 at h
  refine r_iload_n hκ 2 rfl rfl dX8_adds_2_0 ?_
  refine r_if_ne hκ (tgt := 6) (by decide) dX8_adds_2_1 (fun h1 => ?_) (fun h1 => ?_)
  · replace h := (bte_i h).2 h1
    refine r_aload_n hκ 1 rfl rfl dX8_adds_2_6 ?_
    by_cases h2 : bg s0 0 a1 0 = 6 ∨ bg s0 0 a1 0 = 15 ∨ bg s0 0 a1 0 = 17
    · replace h := (bte_i h).1 h2
      refine r_instGY hκ q1363 (Or.elim h2 (fun h2 => ⟨6, _, h2, by decide, rfl, Or.inr (by decide +kernel)⟩) (fun h2 => Or.elim h2 (fun h2 => ⟨15, _, h2, by decide, rfl, Or.inr (by decide +kernel)⟩) (fun h2 => ⟨17, _, h2, by decide, rfl, Or.inr (by decide +kernel)⟩))) dX8_adds_2_7 ?_
      refine r_if_eq hκ (tgt := 27) (by decide) dX8_adds_2_10 (fun hc => absurd hc (by decide)) (fun _ => ?_)
      refine r_aload_n hκ 1 rfl rfl dX8_adds_2_13 ?_
      obtain ⟨h4, h⟩ := bck_i h
      refine r_cast hκ q1363 (Or.elim h4 (fun h4 => Or.inl h4) (fun h4 => Or.elim h4 (fun h4 => Or.inr ⟨5, _, h4, rfl, Or.inr (by decide +kernel)⟩) (fun h4 => Or.elim h4 (fun h4 => Or.inr ⟨14, _, h4, rfl, Or.inr (by decide +kernel)⟩) (fun h4 => Or.inr ⟨16, _, h4, rfl, Or.inr (by decide +kernel)⟩)))) dX8_adds_2_14 ?_
      refine r_astore_n hκ (L2 := [(3, (2, a1)), (0, (2, a0)), (1, (2, a1)), (2, (0, a2))]) (by decide) rfl rfl dX8_adds_2_17 ?_
      refine r_aload_n hκ 1 rfl rfl dX8_adds_2_18 ?_
      refine r_aload_n hκ 0 rfl rfl dX8_adds_2_19 ?_
      refine r_iload_n hκ 3 rfl rfl dX8_adds_2_20 ?_
      obtain ⟨h5, h⟩ := bck_i h
      obtain ⟨s1, v1, h6, h⟩ := bcl_i h
      refine r_callV hκ (n' := 2) (index := 89) (w_X8_goesOn Γ0 l0 h6) (lw_V q1364 q1366 qs15 q140 q1367) (by decide +kernel) (t := 6) h5 rfl rfl (by decide) rfl (Nat.le_of_ble_eq_true rfl) dX8_adds_2_21 ?_
      refine r_goto hκ (tgt := 46) (by decide) dX8_adds_2_24 ?_
      refine r_aload_n hκ 1 rfl rfl dX8_adds_2_46 ?_
      exact r_aretH hκ hf h rt_o dX8_adds_2_47
    · replace h := (bte_i h).2 h2
      obtain ⟨h3, h⟩ := bck_i h
      refine r_instGN hκ q1363 (Or.elim h3 (fun h3 => Or.inl h3) (fun h3 => Or.inr ⟨16, _, h3, by decide, rfl, by decide +kernel⟩)) dX8_adds_2_7 ?_
      refine r_if_eq hκ (tgt := 27) (by decide) dX8_adds_2_10 (fun _ => ?_) (fun hc => absurd hc (by decide))
      refine r_aload_n hκ 1 rfl rfl dX8_adds_2_27 ?_
      by_cases h7 : bg s0 0 a1 0 = 16
      · replace h := (bte_i h).1 h7
        refine r_instGY hκ q1485 (⟨16, _, h7, by decide, rfl, Or.inl (by decide +kernel)⟩) dX8_adds_2_28 ?_
        refine r_if_eq hκ (tgt := 46) (by decide) dX8_adds_2_31 (fun hc => absurd hc (by decide)) (fun _ => ?_)
        refine r_aload_n hκ 1 rfl rfl dX8_adds_2_34 ?_
        obtain ⟨h9, h⟩ := bck_i h
        refine r_cast hκ q1485 (Or.elim h9 (fun h9 => Or.inl h9) (fun h9 => Or.inr ⟨15, _, h9, rfl, Or.inl rfl⟩)) dX8_adds_2_35 ?_
        refine r_astore hκ (L2 := [(4, (2, a1)), (0, (2, a0)), (1, (2, a1)), (2, (0, a2))]) (by decide) rfl dX8_adds_2_38 ?_
        refine r_aload_n hκ 1 rfl rfl dX8_adds_2_40 ?_
        refine r_aload hκ 0 rfl dX8_adds_2_41 ?_
        obtain ⟨h10, h⟩ := bck_i h
        obtain ⟨s2, v2, h11, h⟩ := bcl_i h
        refine r_callV hκ (n' := 1) (index := 95) (w_X8_inserts Γ0 l0 h11) (lw_V q1486 q1488 qs19 q140 q1489) (by decide +kernel) (t := 6) h10 rfl rfl (by decide) rfl (Nat.le_of_ble_eq_true rfl) dX8_adds_2_43 ?_
        refine r_aload_n hκ 1 rfl rfl dX8_adds_2_46 ?_
        exact r_aretH hκ hf h rt_o dX8_adds_2_47
      · replace h := (bte_i h).2 h7
        obtain ⟨h8, h⟩ := bck_i h
        refine r_instGN hκ q1485 (Or.elim h8 (fun h8 => Or.inl h8) (fun h8 => Or.elim h8 (fun h8 => Or.inr ⟨6, _, h8, by decide, rfl, by decide +kernel⟩) (fun h8 => Or.elim h8 (fun h8 => Or.inr ⟨15, _, h8, by decide, rfl, by decide +kernel⟩) (fun h8 => Or.inr ⟨17, _, h8, by decide, rfl, by decide +kernel⟩)))) dX8_adds_2_28 ?_
        refine r_if_eq hκ (tgt := 46) (by decide) dX8_adds_2_31 (fun _ => ?_) (fun hc => absurd hc (by decide))
        refine r_aload_n hκ 0 rfl rfl dX8_adds_2_46 ?_
        exact r_aretH hκ hf h rt_o dX8_adds_2_47
  · replace h := (bte_i h).1 h1
    refine r_aload_n hκ 0 rfl rfl dX8_adds_2_4 ?_
    exact r_aretH hκ hf h rt_o dX8_adds_2_5
/-- EditsMeet$Goes.isInsert()Z -/
def F_X4_isInsert (s0 : bS) (a0 : Int) : Option (bS × Int) :=
  bck (bg s0 0 a0 0 = 5) <|
  bcl (F_X4_hasNext s0 a0) fun s1 v1 =>
  bte (i32 v1 = 0)
  (some (s1, 0))
  (bck (bg s1 0 a0 0 = 5) <|
  bcl (F_X4_here s1 a0) fun s2 v2 =>
  bcl (bte (bg s2 0 v2 0 = 6) (F_X5_inserts s2 v2) (bte (bg s2 0 v2 0 = 15) (F_X5_inserts s2 v2) (bte (bg s2 0 v2 0 = 16) (F_X5_inserts s2 v2) (bte (bg s2 0 v2 0 = 17) (F_X5_inserts s2 v2) (none))))) fun s3 v3 =>
  bte (i32 v3 = 0)
  (some (s3, 0))
  (some (s3, 1)))
set_option maxHeartbeats 4000000 in
set_option maxRecDepth 100000 in
theorem w_X4_isInsert (Γ0 : bG) (l0 : Launch) {s0 st' : bS} {v a0 : Int} (h : F_X4_isInsert s0 a0 = some (st', v)) : bCt Γ0 l0 yX4_isInsert cX4_isInsert 1 (some .boolean) 5 105 [(2, a0)] s0 st' (some (0, v)) := by
  refine b_ent (own := RX4) (by decide +kernel) rfl (Nat.le_of_ble_eq_true rfl) (L := [(0, (2, a0))]) rfl ?_
  intro κ hκ hi hf
  unfold F_X4_isInsert at h
  refine r_aload_n hκ 0 rfl rfl dX4_isInsert_0 ?_
  obtain ⟨h1, h⟩ := bck_i h
  obtain ⟨s1, v1, h2, h⟩ := bcl_i h
  refine r_callV hκ (n' := 0) (index := 30) (w_X4_hasNext Γ0 l0 h2) (lw_V q2069 q1678 q3600 q136 q1680) (by decide +kernel) (t := 4) h1 rfl rfl (by decide) rfl (Nat.le_of_ble_eq_true rfl) dX4_isInsert_1 ?_
  refine r_if_eq hκ (tgt := 23) (by decide) dX4_isInsert_4 (fun h3 => ?_) (fun h3 => ?_)
  · replace h := (bte_i h).1 h3
    refine r_iconst hκ dX4_isInsert_23 ?_
    exact r_iretH hκ hf h (nar_bool (by decide)) dX4_isInsert_24
  · replace h := (bte_i h).2 h3
    refine r_aload_n hκ 0 rfl rfl dX4_isInsert_7 ?_
    obtain ⟨h4, h⟩ := bck_i h
    obtain ⟨s2, v2, h5, h⟩ := bcl_i h
    refine r_callV hκ (n' := 0) (index := 34) (w_X4_here Γ0 l0 h5) (lw_V q1734 q1735 q1736 q136 q1737) (by decide +kernel) (t := 4) h4 rfl rfl (by decide) rfl (Nat.le_of_ble_eq_true rfl) dX4_isInsert_8 ?_
    obtain ⟨s3, v3, h6, h⟩ := bcl_i h
    refine r_seq (A := bJ κ s3 16 [(0, (2, a0))] [(0, v3)]) ?_ (fun k0 => ?_)
    case refine_2 =>
      by_cases h7 : bg s2 0 v2 0 = 6
      · have hq0 := (bte_i h6).1 h7
        exact r_callFD hκ (n' := 0) (index := 38) (C := "EditsMeet$Keep") (w_X5_inserts Γ0 l0 hq0) (lw_meth q1607) q2081 q1605 q137 (by decide +kernel) (by decide +kernel) (t := 5) h7 rfl rfl (by decide) rfl (Nat.le_of_ble_eq_true rfl) dX4_isInsert_11 k0
      replace h6 := (bte_i h6).2 h7
      by_cases h8 : bg s2 0 v2 0 = 15
      · have hq0 := (bte_i h6).1 h8
        exact r_callFD hκ (n' := 0) (index := 38) (C := "EditsMeet$Delete") (w_X5_inserts Γ0 l0 hq0) (lw_meth q1607) q2081 q1605 q137 (by decide +kernel) (by decide +kernel) (t := 14) h8 rfl rfl (by decide) rfl (Nat.le_of_ble_eq_true rfl) dX4_isInsert_11 k0
      replace h6 := (bte_i h6).2 h8
      by_cases h9 : bg s2 0 v2 0 = 16
      · have hq0 := (bte_i h6).1 h9
        exact r_callFD hκ (n' := 0) (index := 38) (C := "EditsMeet$Insert") (w_X5_inserts Γ0 l0 hq0) (lw_meth q1607) q2081 q1605 q137 (by decide +kernel) (by decide +kernel) (t := 15) h9 rfl rfl (by decide) rfl (Nat.le_of_ble_eq_true rfl) dX4_isInsert_11 k0
      replace h6 := (bte_i h6).2 h9
      by_cases h10 : bg s2 0 v2 0 = 17
      · have hq0 := (bte_i h6).1 h10
        exact r_callFD hκ (n' := 0) (index := 38) (C := "EditsMeet$Mark") (w_X5_inserts Γ0 l0 hq0) (lw_meth q1607) q2081 q1605 q137 (by decide +kernel) (by decide +kernel) (t := 16) h10 rfl rfl (by decide) rfl (Nat.le_of_ble_eq_true rfl) dX4_isInsert_11 k0
      replace h6 := (bte_i h6).2 h10
      cases h6
    refine r_if_eq hκ (tgt := 23) (by decide) dX4_isInsert_16 (fun h11 => ?_) (fun h11 => ?_)
    · replace h := (bte_i h).1 h11
      refine r_iconst hκ dX4_isInsert_23 ?_
      exact r_iretH hκ hf h (nar_bool (by decide)) dX4_isInsert_24
    · replace h := (bte_i h).2 h11
      refine r_iconst hκ dX4_isInsert_19 ?_
      refine r_goto hκ (tgt := 24) (by decide) dX4_isInsert_20 ?_
      exact r_iretH hκ hf h (nar_bool (by decide)) dX4_isInsert_24
/-- EditsMeet$Edit.adds(LEditsMeet$Part;)LEditsMeet$Edit; -/
def F_X8_adds (s0 : bS) (a0 a1 : Int) : Option (bS × Int) :=
  bcl (bte (bg s0 0 a1 0 = 6) (F_X6_n s0 a1) (bte (bg s0 0 a1 0 = 15) (F_X6_n s0 a1) (bte (bg s0 0 a1 0 = 16) (F_X17_n s0 a1) (bte (bg s0 0 a1 0 = 17) (F_X6_n s0 a1) (none))))) fun s1 v1 =>
  bck (bg s1 0 a0 0 = 7) <|
  bcl (F_X8_adds_2 s1 a0 a1 v1) fun s2 v2 =>
  some (s2, v2)
set_option maxHeartbeats 4000000 in
set_option maxRecDepth 100000 in
theorem w_X8_adds (Γ0 : bG) (l0 : Launch) {s0 st' : bS} {v a0 a1 : Int} (h : F_X8_adds s0 a0 a1 = some (st', v)) : bCt Γ0 l0 yX8_adds cX8_adds 2 (some (.object "EditsMeet$Edit")) 10 241 [(2, a0), (2, a1)] s0 st' (some (2, v)) := by
  refine b_ent (own := RX8) (by decide +kernel) rfl (Nat.le_of_ble_eq_true rfl) (L := [(0, (2, a0)), (1, (2, a1))]) rfl ?_
  intro κ hκ hi hf
  unfold F_X8_adds at h
  refine r_aload_n hκ 0 rfl rfl dX8_adds_0 ?_
  refine r_aload_n hκ 1 rfl rfl dX8_adds_1 ?_
  refine r_aload_n hκ 1 rfl rfl dX8_adds_2 ?_
  obtain ⟨s1, v1, h1, h⟩ := bcl_i h
  refine r_seq (A := bJ κ s1 8 [(0, (2, a0)), (1, (2, a1))] [(0, v1), (2, a1), (2, a0)]) ?_ (fun k0 => ?_)
  case refine_2 =>
    by_cases h2 : bg s0 0 a1 0 = 6
    · have hq0 := (bte_i h1).1 h2
      exact r_callF hκ (n' := 0) (index := 99) (C := "EditsMeet$Keep") (w_X6_n Γ0 l0 hq0) (lw_app (lw_l4 q1358 q882 q865 q138) (lw_meth q867)) (by decide +kernel) (by decide +kernel) (t := 5) h2 rfl rfl (by decide) rfl (Nat.le_of_ble_eq_true rfl) dX8_adds_3 k0
    replace h1 := (bte_i h1).2 h2
    by_cases h3 : bg s0 0 a1 0 = 15
    · have hq0 := (bte_i h1).1 h3
      exact r_callF hκ (n' := 0) (index := 99) (C := "EditsMeet$Delete") (w_X6_n Γ0 l0 hq0) (lw_app (lw_l4 q1358 q863 q865 q138) (lw_meth q867)) (by decide +kernel) (by decide +kernel) (t := 14) h3 rfl rfl (by decide) rfl (Nat.le_of_ble_eq_true rfl) dX8_adds_3 k0
    replace h1 := (bte_i h1).2 h3
    by_cases h4 : bg s0 0 a1 0 = 16
    · have hq0 := (bte_i h1).1 h4
      exact r_callF hκ (n' := 0) (index := 99) (C := "EditsMeet$Insert") (w_X17_n Γ0 l0 hq0) (lw_app (lw_l4 q1358 q868 q870 q165) (lw_meth q872)) (by decide +kernel) (by decide +kernel) (t := 15) h4 rfl rfl (by decide) rfl (Nat.le_of_ble_eq_true rfl) dX8_adds_3 k0
    replace h1 := (bte_i h1).2 h4
    by_cases h5 : bg s0 0 a1 0 = 17
    · have hq0 := (bte_i h1).1 h5
      exact r_callF hκ (n' := 0) (index := 99) (C := "EditsMeet$Mark") (w_X6_n Γ0 l0 hq0) (lw_app (lw_l4 q1358 q884 q865 q138) (lw_meth q867)) (by decide +kernel) (by decide +kernel) (t := 16) h5 rfl rfl (by decide) rfl (Nat.le_of_ble_eq_true rfl) dX8_adds_3 k0
    replace h1 := (bte_i h1).2 h5
    cases h1
  obtain ⟨h6, h⟩ := bck_i h
  obtain ⟨s2, v2, h7, h⟩ := bcl_i h
  refine r_callV hκ (n' := 2) (index := 102) (w_X8_adds_2 Γ0 l0 h7) (lw_V q1359 q1360 q1361 q140 q1362) (by decide +kernel) (t := 6) h6 rfl rfl (by decide) rfl (Nat.le_of_ble_eq_true rfl) dX8_adds_8 ?_
  exact r_aretH hκ hf h rt_o dX8_adds_11
/-- EditsMeet$Part.marks(I)I -/
def F_X5_marks (s0 : bS) (a0 a1 : Int) : Option (bS × Int) :=
  bcl (bte (bg s0 0 a0 0 = 6) (F_X5_on s0 a0) (bte (bg s0 0 a0 0 = 15) (F_X5_on s0 a0) (bte (bg s0 0 a0 0 = 16) (F_X5_on s0 a0) (bte (bg s0 0 a0 0 = 17) (F_X18_on s0 a0) (none))))) fun s1 v1 =>
  bcl (bte (bg s1 0 a0 0 = 6) (F_X5_off s1 a0) (bte (bg s1 0 a0 0 = 15) (F_X5_off s1 a0) (bte (bg s1 0 a0 0 = 16) (F_X5_off s1 a0) (bte (bg s1 0 a0 0 = 17) (F_X18_off s1 a0) (none))))) fun s2 v2 =>
  some (s2, (b_iand (b_ior a1 v1) (b_ixor v2 (-1))))
set_option maxHeartbeats 4000000 in
set_option maxRecDepth 100000 in
theorem w_X5_marks (Γ0 : bG) (l0 : Launch) {s0 st' : bS} {v a0 a1 : Int} (h : F_X5_marks s0 a0 a1 = some (st', v)) : bCt Γ0 l0 yX5_marks cX5_marks 2 (some .int) 1 20 [(2, a0), (0, a1)] s0 st' (some (0, v)) := by
  refine b_ent (own := RX5) (by decide +kernel) rfl (Nat.le_of_ble_eq_true rfl) (L := [(0, (2, a0)), (1, (0, a1))]) rfl ?_
  intro κ hκ hi hf
  unfold F_X5_marks at h
  refine r_iload_n hκ 1 rfl rfl dX5_marks_0 ?_
  refine r_aload_n hκ 0 rfl rfl dX5_marks_1 ?_
  obtain ⟨s1, v1, h1, h⟩ := bcl_i h
  refine r_seq (A := bJ κ s1 7 [(0, (2, a0)), (1, (0, a1))] [(0, v1), (0, a1)]) ?_ (fun k0 => ?_)
  case refine_2 =>
    by_cases h2 : bg s0 0 a0 0 = 6
    · have hq0 := (bte_i h1).1 h2
      exact r_callFD hκ (n' := 0) (index := 13) (C := "EditsMeet$Keep") (w_X5_on Γ0 l0 hq0) (lw_meth q949) q2111 q947 q137 (by decide +kernel) (by decide +kernel) (t := 5) h2 rfl rfl (by decide) rfl (Nat.le_of_ble_eq_true rfl) dX5_marks_2 k0
    replace h1 := (bte_i h1).2 h2
    by_cases h3 : bg s0 0 a0 0 = 15
    · have hq0 := (bte_i h1).1 h3
      exact r_callFD hκ (n' := 0) (index := 13) (C := "EditsMeet$Delete") (w_X5_on Γ0 l0 hq0) (lw_meth q949) q2111 q947 q137 (by decide +kernel) (by decide +kernel) (t := 14) h3 rfl rfl (by decide) rfl (Nat.le_of_ble_eq_true rfl) dX5_marks_2 k0
    replace h1 := (bte_i h1).2 h3
    by_cases h4 : bg s0 0 a0 0 = 16
    · have hq0 := (bte_i h1).1 h4
      exact r_callFD hκ (n' := 0) (index := 13) (C := "EditsMeet$Insert") (w_X5_on Γ0 l0 hq0) (lw_meth q949) q2111 q947 q137 (by decide +kernel) (by decide +kernel) (t := 15) h4 rfl rfl (by decide) rfl (Nat.le_of_ble_eq_true rfl) dX5_marks_2 k0
    replace h1 := (bte_i h1).2 h4
    by_cases h5 : bg s0 0 a0 0 = 17
    · have hq0 := (bte_i h1).1 h5
      exact r_callF hκ (n' := 0) (index := 13) (C := "EditsMeet$Mark") (w_X18_on Γ0 l0 hq0) (lw_app (lw_l4 q2111 q944 q945 q166) (lw_meth q946)) (by decide +kernel) (by decide +kernel) (t := 16) h5 rfl rfl (by decide) rfl (Nat.le_of_ble_eq_true rfl) dX5_marks_2 k0
    replace h1 := (bte_i h1).2 h5
    cases h1
  refine r_ior hκ dX5_marks_7 ?_
  refine r_aload_n hκ 0 rfl rfl dX5_marks_8 ?_
  obtain ⟨s2, v2, h6, h⟩ := bcl_i h
  refine r_seq (A := bJ κ s2 14 [(0, (2, a0)), (1, (0, a1))] [(0, v2), (0, (b_ior a1 v1))]) ?_ (fun k0 => ?_)
  case refine_2 =>
    by_cases h7 : bg s1 0 a0 0 = 6
    · have hq0 := (bte_i h6).1 h7
      exact r_callFD hκ (n' := 0) (index := 16) (C := "EditsMeet$Keep") (w_X5_off Γ0 l0 hq0) (lw_meth q966) q2113 q964 q137 (by decide +kernel) (by decide +kernel) (t := 5) h7 rfl rfl (by decide) rfl (Nat.le_of_ble_eq_true rfl) dX5_marks_9 k0
    replace h6 := (bte_i h6).2 h7
    by_cases h8 : bg s1 0 a0 0 = 15
    · have hq0 := (bte_i h6).1 h8
      exact r_callFD hκ (n' := 0) (index := 16) (C := "EditsMeet$Delete") (w_X5_off Γ0 l0 hq0) (lw_meth q966) q2113 q964 q137 (by decide +kernel) (by decide +kernel) (t := 14) h8 rfl rfl (by decide) rfl (Nat.le_of_ble_eq_true rfl) dX5_marks_9 k0
    replace h6 := (bte_i h6).2 h8
    by_cases h9 : bg s1 0 a0 0 = 16
    · have hq0 := (bte_i h6).1 h9
      exact r_callFD hκ (n' := 0) (index := 16) (C := "EditsMeet$Insert") (w_X5_off Γ0 l0 hq0) (lw_meth q966) q2113 q964 q137 (by decide +kernel) (by decide +kernel) (t := 15) h9 rfl rfl (by decide) rfl (Nat.le_of_ble_eq_true rfl) dX5_marks_9 k0
    replace h6 := (bte_i h6).2 h9
    by_cases h10 : bg s1 0 a0 0 = 17
    · have hq0 := (bte_i h6).1 h10
      exact r_callF hκ (n' := 0) (index := 16) (C := "EditsMeet$Mark") (w_X18_off Γ0 l0 hq0) (lw_app (lw_l4 q2113 q961 q962 q166) (lw_meth q963)) (by decide +kernel) (by decide +kernel) (t := 16) h10 rfl rfl (by decide) rfl (Nat.le_of_ble_eq_true rfl) dX5_marks_9 k0
    replace h6 := (bte_i h6).2 h10
    cases h6
  refine r_iconst hκ dX5_marks_14 ?_
  refine r_ixor hκ dX5_marks_15 ?_
  refine r_iand hκ dX5_marks_16 ?_
  exact r_iretH hκ hf h (nar_int _) dX5_marks_17
/-- EditsMeet$Insert.turned(LEditsMeet$Part;)LEditsMeet$Part; -/
def F_X17_turned_r (b : Nat) (x0 x1 x2 x3 : Int) (s0 : bS) : Option (bS × Int) :=
  match b with
  | 0 =>
    bck (bc s0 + 1 ≤ bCM ∧ bk s0 + 4 ≤ bKM) <|
    bst (bnw s0 19 0 4) fun s3 =>
    bck (bg s3 0 (bnx s0 : Int) 0 = 19) <|
    bcl (F_J1_init s3 (bnx s0 : Int)) fun s4 v3 =>
    F_X17_turned_r 1 x0 x1 (bnx s0 : Int) 0 s4
  | 1 =>
    bck (bg s0 0 x0 0 = 16) <|
    bck (bg s0 0 (bg s0 390 x0 0) 0 = 20) <|
    bcl (F_J2_length s0 (bg s0 390 x0 0)) fun s5 v4 =>
    bte (i32 v4 ≤ i32 x3)
    (bck (bg s5 0 x0 0 = 16) <|
    bcl (F_X5_insert s5 (bg s5 386 x0 0) x2) fun s6 v5 =>
    some (s6, v5))
    (bck (bg s5 0 x0 0 = 16) <|
    bcl (F_X17_mark s5 x0 x3) fun s7 v6 =>
    bcl (bte (bg s7 0 x1 0 = 6) (F_X5_marks s7 x1 v6) (bte (bg s7 0 x1 0 = 15) (F_X5_marks s7 x1 v6) (bte (bg s7 0 x1 0 = 16) (F_X5_marks s7 x1 v6) (bte (bg s7 0 x1 0 = 17) (F_X5_marks s7 x1 v6) (none))))) fun s8 v7 =>
    bck (bg s8 0 x2 0 = 19) <|
    bcl (F_J1_append_2 s8 x2 (b_i2c v7)) fun s9 v8 =>
    F_X17_turned_r 1 x0 x1 x2 (x3 + 1) s9)
  | _ => none
partial_fixpoint
def F_X17_turned (s0 : bS) (a0 a1 : Int) : Option (bS × Int) :=
  bcl (bte (bg s0 0 a1 0 = 6) (F_X5_on s0 a1) (bte (bg s0 0 a1 0 = 15) (F_X5_on s0 a1) (bte (bg s0 0 a1 0 = 16) (F_X5_on s0 a1) (bte (bg s0 0 a1 0 = 17) (F_X18_on s0 a1) (none))))) fun s1 v1 =>
  bte (i32 v1 = 0)
  (bcl (bte (bg s1 0 a1 0 = 6) (F_X5_off s1 a1) (bte (bg s1 0 a1 0 = 15) (F_X5_off s1 a1) (bte (bg s1 0 a1 0 = 16) (F_X5_off s1 a1) (bte (bg s1 0 a1 0 = 17) (F_X18_off s1 a1) (none))))) fun s2 v2 =>
  bte (i32 v2 = 0)
  (some (s2, a0))
  (F_X17_turned_r 0 a0 a1 0 0 s2))
  (F_X17_turned_r 0 a0 a1 0 0 s1)
set_option maxHeartbeats 4000000 in
set_option maxRecDepth 100000 in
set_option synthInstance.maxHeartbeats 4000000 in
theorem w_X17_turned_r {Γ0 : bG} {l0 : Launch} {κ : bK} {st' : bS} {v : Int} (hκ : bOk κ Γ0 l0 cX17_turned RX17 4 7 172) (hi : bIn κ yX17_turned) (hf : bFin κ (some (.object "EditsMeet$Part")) st' (some (2, v))) (b : Nat) (x0 x1 x2 x3 : Int) (s0 : bS) (h : F_X17_turned_r b x0 x1 x2 x3 s0 = some (st', v)) : match (generalizing := false) b with | 0 => bJ κ s0 20 [(0, (2, x0)), (1, (2, x1))] [] | 1 => bJ κ s0 30 [(0, (2, x0)), (1, (2, x1)), (2, (2, x2)), (3, (0, x3))] [] | _ => True := by
  refine F_X17_turned_r.partial_correctness x0 x1 (fun b x2 x3 s0 r => r = (st', v) → match (generalizing := false) b with | 0 => bJ κ s0 20 [(0, (2, x0)), (1, (2, x1))] [] | 1 => bJ κ s0 30 [(0, (2, x0)), (1, (2, x1)), (2, (2, x2)), (3, (0, x3))] [] | _ => True) ?_ b x2 x3 s0 _ h rfl
  intro f' ih b x2 x3 s0 r h hr
  subst hr
  match b, h with
  | 0, h =>
      obtain ⟨h13, h⟩ := bck_i h
      refine r_new hκ (t := 18) tyJ1 tyJ1_ok dfJ1 rfl in_J1 q1532 q200 q125 h13 dX17_turned_20 (fun s3 es3 => ?_)
      replace h := bst_i h s3 es3
      refine r_dup hκ (bd_cat2k _) dX17_turned_23 ?_
      obtain ⟨h14, h⟩ := bck_i h
      obtain ⟨s4, v3, h15, h⟩ := bcl_i h
      refine r_callI hκ (n' := 0) (index := 37) (w_J1_init Γ0 l0 h15) (lw_meth q203) q125 q1533 q202 rfl (by decide +kernel) (t := 18) h14 rfl rfl (by decide) rfl (Nat.le_of_ble_eq_true rfl) dX17_turned_24 ?_
      refine r_astore_n hκ (L2 := [(2, (2, (bnx s0 : Int))), (0, (2, x0)), (1, (2, x1))]) (by decide) rfl rfl dX17_turned_27 ?_
      refine r_iconst hκ dX17_turned_28 ?_
      refine r_istore_n hκ (L2 := [(3, (0, 0)), (2, (2, (bnx s0 : Int))), (0, (2, x0)), (1, (2, x1))]) (by decide) rfl rfl dX17_turned_29 ?_
      exact r_sub [2, 3, 1, 0] rfl (ih 1 _ _ _ _ h rfl)
  | 1, h =>
      refine r_iload_n hκ 3 rfl rfl dX17_turned_30 ?_
      refine r_aload_n hκ 0 rfl rfl dX17_turned_31 ?_
      obtain ⟨h16, h⟩ := bck_i h
      refine r_get hκ (t := 15) (k := 1) (r := 390) h16 rfl in_X17 (by decide) rfl q1320 (Or.inl rfl) dX17_turned_32 ?_
      obtain ⟨h17, h⟩ := bck_i h
      obtain ⟨s5, v4, h18, h⟩ := bcl_i h
      refine r_callV hκ (n' := 0) (index := 16) (w_J2_length Γ0 l0 h18) (lw_V q873 q874 q875 q126 q876) (by decide +kernel) (t := 19) h17 rfl rfl (by decide) rfl (Nat.le_of_ble_eq_true rfl) dX17_turned_35 ?_
      refine r_icmp_ge hκ (tgt := 64) (by decide) dX17_turned_38 (fun h19 => ?_) (fun h19 => ?_)
      · replace h := (bte_i h).1 h19
        refine r_aload_n hκ 0 rfl rfl dX17_turned_64 ?_
        obtain ⟨h20, h⟩ := bck_i h
        refine r_get hκ (t := 15) (k := 0) (r := 386) h20 rfl in_X17 (by decide) rfl q1317 (Or.inl rfl) dX17_turned_65 ?_
        refine r_aload_n hκ 2 rfl rfl dX17_turned_68 ?_
        obtain ⟨s6, v5, h21, h⟩ := bcl_i h
        refine r_callS hκ (n' := 2) (index := 29) (w_X5_insert Γ0 l0 h21) (lw_S q1536 q1295 q137 q1296) (by decide +kernel) rfl (by decide) rfl (Nat.le_of_ble_eq_true rfl) dX17_turned_69 ?_
        exact r_aretH hκ hf h rt_o dX17_turned_72
      · replace h := (bte_i h).2 h19
        refine r_aload_n hκ 2 rfl rfl dX17_turned_41 ?_
        refine r_aload_n hκ 1 rfl rfl dX17_turned_42 ?_
        refine r_aload_n hκ 0 rfl rfl dX17_turned_43 ?_
        refine r_iload_n hκ 3 rfl rfl dX17_turned_44 ?_
        obtain ⟨h22, h⟩ := bck_i h
        obtain ⟨s7, v6, h23, h⟩ := bcl_i h
        refine r_callV hκ (n' := 1) (index := 59) (w_X17_mark Γ0 l0 h23) (lw_V q2101 q1645 q1646 q165 q1647) (by decide +kernel) (t := 15) h22 rfl rfl (by decide) rfl (Nat.le_of_ble_eq_true rfl) dX17_turned_45 ?_
        obtain ⟨s8, v7, h24, h⟩ := bcl_i h
        refine r_seq (A := bJ κ s8 53 [(0, (2, x0)), (1, (2, x1)), (2, (2, x2)), (3, (0, x3))] [(0, v7), (2, x2)]) ?_ (fun k0 => ?_)
        case refine_2 =>
          by_cases h25 : bg s7 0 x1 0 = 6
          · have hq0 := (bte_i h24).1 h25
            exact r_callFD hκ (n' := 1) (index := 63) (C := "EditsMeet$Keep") (w_X5_marks Γ0 l0 hq0) (lw_meth q2109) q2103 q2107 q137 (by decide +kernel) (by decide +kernel) (t := 5) h25 rfl rfl (by decide) rfl (Nat.le_of_ble_eq_true rfl) dX17_turned_48 k0
          replace h24 := (bte_i h24).2 h25
          by_cases h26 : bg s7 0 x1 0 = 15
          · have hq0 := (bte_i h24).1 h26
            exact r_callFD hκ (n' := 1) (index := 63) (C := "EditsMeet$Delete") (w_X5_marks Γ0 l0 hq0) (lw_meth q2109) q2103 q2107 q137 (by decide +kernel) (by decide +kernel) (t := 14) h26 rfl rfl (by decide) rfl (Nat.le_of_ble_eq_true rfl) dX17_turned_48 k0
          replace h24 := (bte_i h24).2 h26
          by_cases h27 : bg s7 0 x1 0 = 16
          · have hq0 := (bte_i h24).1 h27
            exact r_callFD hκ (n' := 1) (index := 63) (C := "EditsMeet$Insert") (w_X5_marks Γ0 l0 hq0) (lw_meth q2109) q2103 q2107 q137 (by decide +kernel) (by decide +kernel) (t := 15) h27 rfl rfl (by decide) rfl (Nat.le_of_ble_eq_true rfl) dX17_turned_48 k0
          replace h24 := (bte_i h24).2 h27
          by_cases h28 : bg s7 0 x1 0 = 17
          · have hq0 := (bte_i h24).1 h28
            exact r_callFD hκ (n' := 1) (index := 63) (C := "EditsMeet$Mark") (w_X5_marks Γ0 l0 hq0) (lw_meth q2109) q2103 q2107 q137 (by decide +kernel) (by decide +kernel) (t := 16) h28 rfl rfl (by decide) rfl (Nat.le_of_ble_eq_true rfl) dX17_turned_48 k0
          replace h24 := (bte_i h24).2 h28
          cases h24
        refine r_i2c hκ dX17_turned_53 ?_
        obtain ⟨h29, h⟩ := bck_i h
        obtain ⟨s9, v8, h30, h⟩ := bcl_i h
        refine r_callV hκ (n' := 1) (index := 46) (w_J1_append_2 Γ0 l0 h30) (lw_V q1992 q1114 q1115 q125 q1116) (by decide +kernel) (t := 18) h29 rfl rfl (by decide) rfl (Nat.le_of_ble_eq_true rfl) dX17_turned_54 ?_
        refine r_pop hκ (bd_cat2k _) dX17_turned_57 ?_
        refine r_iinc hκ (L2 := [(3, (0, (x3 + 1))), (0, (2, x0)), (1, (2, x1)), (2, (2, x2))]) 3 rfl (by decide) rfl dX17_turned_58 ?_
        refine r_goto hκ (tgt := 30) (by decide) dX17_turned_61 ?_
        exact r_sub [1, 2, 3, 0] rfl (ih 1 _ _ _ _ h rfl)
  | b + 2, h => trivial
set_option maxHeartbeats 4000000 in
set_option maxRecDepth 100000 in
theorem w_X17_turned (Γ0 : bG) (l0 : Launch) {s0 st' : bS} {v a0 a1 : Int} (h : F_X17_turned s0 a0 a1 = some (st', v)) : bCt Γ0 l0 yX17_turned cX17_turned 4 (some (.object "EditsMeet$Part")) 7 172 [(2, a0), (2, a1)] s0 st' (some (2, v)) := by
  refine b_ent (own := RX17) (by decide +kernel) rfl (Nat.le_of_ble_eq_true rfl) (L := [(0, (2, a0)), (1, (2, a1))]) rfl ?_
  intro κ hκ hi hf
  unfold F_X17_turned at h
  refine r_aload_n hκ 1 rfl rfl dX17_turned_0 ?_
  obtain ⟨s1, v1, h1, h⟩ := bcl_i h
  refine r_seq (A := bJ κ s1 6 [(0, (2, a0)), (1, (2, a1))] [(0, v1)]) ?_ (fun k0 => ?_)
  case refine_2 =>
    by_cases h2 : bg s0 0 a1 0 = 6
    · have hq0 := (bte_i h1).1 h2
      exact r_callFD hκ (n' := 0) (index := 53) (C := "EditsMeet$Keep") (w_X5_on Γ0 l0 hq0) (lw_meth q949) q2098 q947 q137 (by decide +kernel) (by decide +kernel) (t := 5) h2 rfl rfl (by decide) rfl (Nat.le_of_ble_eq_true rfl) dX17_turned_1 k0
    replace h1 := (bte_i h1).2 h2
    by_cases h3 : bg s0 0 a1 0 = 15
    · have hq0 := (bte_i h1).1 h3
      exact r_callFD hκ (n' := 0) (index := 53) (C := "EditsMeet$Delete") (w_X5_on Γ0 l0 hq0) (lw_meth q949) q2098 q947 q137 (by decide +kernel) (by decide +kernel) (t := 14) h3 rfl rfl (by decide) rfl (Nat.le_of_ble_eq_true rfl) dX17_turned_1 k0
    replace h1 := (bte_i h1).2 h3
    by_cases h4 : bg s0 0 a1 0 = 16
    · have hq0 := (bte_i h1).1 h4
      exact r_callFD hκ (n' := 0) (index := 53) (C := "EditsMeet$Insert") (w_X5_on Γ0 l0 hq0) (lw_meth q949) q2098 q947 q137 (by decide +kernel) (by decide +kernel) (t := 15) h4 rfl rfl (by decide) rfl (Nat.le_of_ble_eq_true rfl) dX17_turned_1 k0
    replace h1 := (bte_i h1).2 h4
    by_cases h5 : bg s0 0 a1 0 = 17
    · have hq0 := (bte_i h1).1 h5
      exact r_callF hκ (n' := 0) (index := 53) (C := "EditsMeet$Mark") (w_X18_on Γ0 l0 hq0) (lw_app (lw_l4 q2098 q944 q945 q166) (lw_meth q946)) (by decide +kernel) (by decide +kernel) (t := 16) h5 rfl rfl (by decide) rfl (Nat.le_of_ble_eq_true rfl) dX17_turned_1 k0
    replace h1 := (bte_i h1).2 h5
    cases h1
  refine r_if_ne hκ (tgt := 20) (by decide) dX17_turned_6 (fun h6 => ?_) (fun h6 => ?_)
  · replace h := (bte_i h).2 h6
    exact r_sub [0, 1] rfl (w_X17_turned_r hκ hi hf 0 _ _ _ _ _ h)
  · replace h := (bte_i h).1 h6
    refine r_aload_n hκ 1 rfl rfl dX17_turned_9 ?_
    obtain ⟨s2, v2, h7, h⟩ := bcl_i h
    refine r_seq (A := bJ κ s2 15 [(0, (2, a0)), (1, (2, a1))] [(0, v2)]) ?_ (fun k0 => ?_)
    case refine_2 =>
      by_cases h8 : bg s1 0 a1 0 = 6
      · have hq0 := (bte_i h7).1 h8
        exact r_callFD hκ (n' := 0) (index := 56) (C := "EditsMeet$Keep") (w_X5_off Γ0 l0 hq0) (lw_meth q966) q2100 q964 q137 (by decide +kernel) (by decide +kernel) (t := 5) h8 rfl rfl (by decide) rfl (Nat.le_of_ble_eq_true rfl) dX17_turned_10 k0
      replace h7 := (bte_i h7).2 h8
      by_cases h9 : bg s1 0 a1 0 = 15
      · have hq0 := (bte_i h7).1 h9
        exact r_callFD hκ (n' := 0) (index := 56) (C := "EditsMeet$Delete") (w_X5_off Γ0 l0 hq0) (lw_meth q966) q2100 q964 q137 (by decide +kernel) (by decide +kernel) (t := 14) h9 rfl rfl (by decide) rfl (Nat.le_of_ble_eq_true rfl) dX17_turned_10 k0
      replace h7 := (bte_i h7).2 h9
      by_cases h10 : bg s1 0 a1 0 = 16
      · have hq0 := (bte_i h7).1 h10
        exact r_callFD hκ (n' := 0) (index := 56) (C := "EditsMeet$Insert") (w_X5_off Γ0 l0 hq0) (lw_meth q966) q2100 q964 q137 (by decide +kernel) (by decide +kernel) (t := 15) h10 rfl rfl (by decide) rfl (Nat.le_of_ble_eq_true rfl) dX17_turned_10 k0
      replace h7 := (bte_i h7).2 h10
      by_cases h11 : bg s1 0 a1 0 = 17
      · have hq0 := (bte_i h7).1 h11
        exact r_callF hκ (n' := 0) (index := 56) (C := "EditsMeet$Mark") (w_X18_off Γ0 l0 hq0) (lw_app (lw_l4 q2100 q961 q962 q166) (lw_meth q963)) (by decide +kernel) (by decide +kernel) (t := 16) h11 rfl rfl (by decide) rfl (Nat.le_of_ble_eq_true rfl) dX17_turned_10 k0
      replace h7 := (bte_i h7).2 h11
      cases h7
    refine r_if_ne hκ (tgt := 20) (by decide) dX17_turned_15 (fun h12 => ?_) (fun h12 => ?_)
    · replace h := (bte_i h).2 h12
      exact r_sub [0, 1] rfl (w_X17_turned_r hκ hi hf 0 _ _ _ _ _ h)
    · replace h := (bte_i h).1 h12
      refine r_aload_n hκ 0 rfl rfl dX17_turned_18 ?_
      exact r_aretH hκ hf h rt_o dX17_turned_19
/-- EditsMeet$Weaver.both(LEditsMeet$Part;LEditsMeet$Part;)LEditsMeet$Part; -/
def F_X3_both_r (b : Nat) (x0 x1 x2 x3 : Int) (s0 : bS) : Option (bS × Int) :=
  match b with
  | 0 =>
    bcl (bte (bg s0 0 x1 0 = 6) (F_X5_on s0 x1) (bte (bg s0 0 x1 0 = 15) (F_X5_on s0 x1) (bte (bg s0 0 x1 0 = 16) (F_X5_on s0 x1) (bte (bg s0 0 x1 0 = 17) (F_X18_on s0 x1) (none))))) fun s9 v9 =>
    bte (i32 v9 = i32 x2)
    (bcl (bte (bg s9 0 x1 0 = 6) (F_X5_off s9 x1) (bte (bg s9 0 x1 0 = 15) (F_X5_off s9 x1) (bte (bg s9 0 x1 0 = 16) (F_X5_off s9 x1) (bte (bg s9 0 x1 0 = 17) (F_X18_off s9 x1) (none))))) fun s10 v10 =>
    bte (i32 v10 = i32 x3)
    (some (s10, x1))
    (F_X3_both_r 1 x0 x2 x3 0 s10))
    (F_X3_both_r 1 x0 x2 x3 0 s9)
  | 1 =>
    bcl (bte (bg s0 0 x0 0 = 6) (F_X6_n s0 x0) (bte (bg s0 0 x0 0 = 15) (F_X6_n s0 x0) (bte (bg s0 0 x0 0 = 16) (F_X17_n s0 x0) (bte (bg s0 0 x0 0 = 17) (F_X6_n s0 x0) (none))))) fun s11 v11 =>
    bcl (F_X5_mark s11 v11 x1 x2) fun s12 v12 =>
    some (s12, v12)
  | _ => none
partial_fixpoint
def F_X3_both (s0 : bS) (a0 a1 : Int) : Option (bS × Int) :=
  bcl (bte (bg s0 0 a0 0 = 6) (F_X5_on s0 a0) (bte (bg s0 0 a0 0 = 15) (F_X5_on s0 a0) (bte (bg s0 0 a0 0 = 16) (F_X5_on s0 a0) (bte (bg s0 0 a0 0 = 17) (F_X18_on s0 a0) (none))))) fun s1 v1 =>
  bcl (bte (bg s1 0 a1 0 = 6) (F_X5_off s1 a1) (bte (bg s1 0 a1 0 = 15) (F_X5_off s1 a1) (bte (bg s1 0 a1 0 = 16) (F_X5_off s1 a1) (bte (bg s1 0 a1 0 = 17) (F_X18_off s1 a1) (none))))) fun s2 v2 =>
  bcl (bte (bg s2 0 a1 0 = 6) (F_X5_on s2 a1) (bte (bg s2 0 a1 0 = 15) (F_X5_on s2 a1) (bte (bg s2 0 a1 0 = 16) (F_X5_on s2 a1) (bte (bg s2 0 a1 0 = 17) (F_X18_on s2 a1) (none))))) fun s3 v3 =>
  bvl ((b_ior (b_iand v1 (b_ixor v2 (-1))) v3)) fun t1 =>
  bcl (bte (bg s3 0 a0 0 = 6) (F_X5_off s3 a0) (bte (bg s3 0 a0 0 = 15) (F_X5_off s3 a0) (bte (bg s3 0 a0 0 = 16) (F_X5_off s3 a0) (bte (bg s3 0 a0 0 = 17) (F_X18_off s3 a0) (none))))) fun s4 v4 =>
  bcl (bte (bg s4 0 a1 0 = 6) (F_X5_on s4 a1) (bte (bg s4 0 a1 0 = 15) (F_X5_on s4 a1) (bte (bg s4 0 a1 0 = 16) (F_X5_on s4 a1) (bte (bg s4 0 a1 0 = 17) (F_X18_on s4 a1) (none))))) fun s5 v5 =>
  bcl (bte (bg s5 0 a1 0 = 6) (F_X5_off s5 a1) (bte (bg s5 0 a1 0 = 15) (F_X5_off s5 a1) (bte (bg s5 0 a1 0 = 16) (F_X5_off s5 a1) (bte (bg s5 0 a1 0 = 17) (F_X18_off s5 a1) (none))))) fun s6 v6 =>
  bvl ((b_ior (b_iand v4 (b_ixor v5 (-1))) v6)) fun t2 =>
  bcl (bte (bg s6 0 a0 0 = 6) (F_X5_on s6 a0) (bte (bg s6 0 a0 0 = 15) (F_X5_on s6 a0) (bte (bg s6 0 a0 0 = 16) (F_X5_on s6 a0) (bte (bg s6 0 a0 0 = 17) (F_X18_on s6 a0) (none))))) fun s7 v7 =>
  bte (i32 v7 = i32 t1)
  (bcl (bte (bg s7 0 a0 0 = 6) (F_X5_off s7 a0) (bte (bg s7 0 a0 0 = 15) (F_X5_off s7 a0) (bte (bg s7 0 a0 0 = 16) (F_X5_off s7 a0) (bte (bg s7 0 a0 0 = 17) (F_X18_off s7 a0) (none))))) fun s8 v8 =>
  bte (i32 v8 = i32 t2)
  (some (s8, a0))
  (F_X3_both_r 0 a0 a1 t1 t2 s8))
  (F_X3_both_r 0 a0 a1 t1 t2 s7)
set_option maxHeartbeats 4000000 in
set_option maxRecDepth 100000 in
set_option synthInstance.maxHeartbeats 4000000 in
theorem w_X3_both_r {Γ0 : bG} {l0 : Launch} {κ : bK} {st' : bS} {v : Int} (hκ : bOk κ Γ0 l0 cX3_both RX3 4 5 107) (hi : bIn κ yX3_both) (hf : bFin κ (some (.object "EditsMeet$Part")) st' (some (2, v))) (b : Nat) (x0 x1 x2 x3 : Int) (s0 : bS) (h : F_X3_both_r b x0 x1 x2 x3 s0 = some (st', v)) : match (generalizing := false) b with | 0 => bJ κ s0 70 [(0, (2, x0)), (1, (2, x1)), (2, (0, x2)), (3, (0, x3))] [] | 1 => bJ κ s0 94 [(0, (2, x0)), (2, (0, x1)), (3, (0, x2))] [] | _ => True := by
  refine F_X3_both_r.partial_correctness x0 (fun b x1 x2 x3 s0 r => r = (st', v) → match (generalizing := false) b with | 0 => bJ κ s0 70 [(0, (2, x0)), (1, (2, x1)), (2, (0, x2)), (3, (0, x3))] [] | 1 => bJ κ s0 94 [(0, (2, x0)), (2, (0, x1)), (3, (0, x2))] [] | _ => True) ?_ b x1 x2 x3 s0 _ h rfl
  intro f' ih b x1 x2 x3 s0 r h hr
  subst hr
  match b, h with
  | 0, h =>
      refine r_aload_n hκ 1 rfl rfl dX3_both_70 ?_
      obtain ⟨s9, v9, h43, h⟩ := bcl_i h
      refine r_seq (A := bJ κ s9 76 [(0, (2, x0)), (1, (2, x1)), (2, (0, x2)), (3, (0, x3))] [(0, v9)]) ?_ (fun k0 => ?_)
      case refine_2 =>
        by_cases h44 : bg s0 0 x1 0 = 6
        · have hq0 := (bte_i h43).1 h44
          exact r_callFD hκ (n' := 0) (index := 42) (C := "EditsMeet$Keep") (w_X5_on Γ0 l0 hq0) (lw_meth q949) q2121 q947 q137 (by decide +kernel) (by decide +kernel) (t := 5) h44 rfl rfl (by decide) rfl (Nat.le_of_ble_eq_true rfl) dX3_both_71 k0
        replace h43 := (bte_i h43).2 h44
        by_cases h45 : bg s0 0 x1 0 = 15
        · have hq0 := (bte_i h43).1 h45
          exact r_callFD hκ (n' := 0) (index := 42) (C := "EditsMeet$Delete") (w_X5_on Γ0 l0 hq0) (lw_meth q949) q2121 q947 q137 (by decide +kernel) (by decide +kernel) (t := 14) h45 rfl rfl (by decide) rfl (Nat.le_of_ble_eq_true rfl) dX3_both_71 k0
        replace h43 := (bte_i h43).2 h45
        by_cases h46 : bg s0 0 x1 0 = 16
        · have hq0 := (bte_i h43).1 h46
          exact r_callFD hκ (n' := 0) (index := 42) (C := "EditsMeet$Insert") (w_X5_on Γ0 l0 hq0) (lw_meth q949) q2121 q947 q137 (by decide +kernel) (by decide +kernel) (t := 15) h46 rfl rfl (by decide) rfl (Nat.le_of_ble_eq_true rfl) dX3_both_71 k0
        replace h43 := (bte_i h43).2 h46
        by_cases h47 : bg s0 0 x1 0 = 17
        · have hq0 := (bte_i h43).1 h47
          exact r_callF hκ (n' := 0) (index := 42) (C := "EditsMeet$Mark") (w_X18_on Γ0 l0 hq0) (lw_app (lw_l4 q2121 q944 q945 q166) (lw_meth q946)) (by decide +kernel) (by decide +kernel) (t := 16) h47 rfl rfl (by decide) rfl (Nat.le_of_ble_eq_true rfl) dX3_both_71 k0
        replace h43 := (bte_i h43).2 h47
        cases h43
      refine r_iload_n hκ 2 rfl rfl dX3_both_76 ?_
      refine r_icmp_ne hκ (tgt := 94) (by decide) dX3_both_77 (fun h48 => ?_) (fun h48 => ?_)
      · replace h := (bte_i h).2 h48
        exact r_sub [0, 2, 3] rfl (ih 1 _ _ _ _ _ h rfl)
      · replace h := (bte_i h).1 h48
        refine r_aload_n hκ 1 rfl rfl dX3_both_80 ?_
        obtain ⟨s10, v10, h49, h⟩ := bcl_i h
        refine r_seq (A := bJ κ s10 86 [(0, (2, x0)), (1, (2, x1)), (2, (0, x2)), (3, (0, x3))] [(0, v10)]) ?_ (fun k0 => ?_)
        case refine_2 =>
          by_cases h50 : bg s9 0 x1 0 = 6
          · have hq0 := (bte_i h49).1 h50
            exact r_callFD hκ (n' := 0) (index := 46) (C := "EditsMeet$Keep") (w_X5_off Γ0 l0 hq0) (lw_meth q966) q2123 q964 q137 (by decide +kernel) (by decide +kernel) (t := 5) h50 rfl rfl (by decide) rfl (Nat.le_of_ble_eq_true rfl) dX3_both_81 k0
          replace h49 := (bte_i h49).2 h50
          by_cases h51 : bg s9 0 x1 0 = 15
          · have hq0 := (bte_i h49).1 h51
            exact r_callFD hκ (n' := 0) (index := 46) (C := "EditsMeet$Delete") (w_X5_off Γ0 l0 hq0) (lw_meth q966) q2123 q964 q137 (by decide +kernel) (by decide +kernel) (t := 14) h51 rfl rfl (by decide) rfl (Nat.le_of_ble_eq_true rfl) dX3_both_81 k0
          replace h49 := (bte_i h49).2 h51
          by_cases h52 : bg s9 0 x1 0 = 16
          · have hq0 := (bte_i h49).1 h52
            exact r_callFD hκ (n' := 0) (index := 46) (C := "EditsMeet$Insert") (w_X5_off Γ0 l0 hq0) (lw_meth q966) q2123 q964 q137 (by decide +kernel) (by decide +kernel) (t := 15) h52 rfl rfl (by decide) rfl (Nat.le_of_ble_eq_true rfl) dX3_both_81 k0
          replace h49 := (bte_i h49).2 h52
          by_cases h53 : bg s9 0 x1 0 = 17
          · have hq0 := (bte_i h49).1 h53
            exact r_callF hκ (n' := 0) (index := 46) (C := "EditsMeet$Mark") (w_X18_off Γ0 l0 hq0) (lw_app (lw_l4 q2123 q961 q962 q166) (lw_meth q963)) (by decide +kernel) (by decide +kernel) (t := 16) h53 rfl rfl (by decide) rfl (Nat.le_of_ble_eq_true rfl) dX3_both_81 k0
          replace h49 := (bte_i h49).2 h53
          cases h49
        refine r_iload_n hκ 3 rfl rfl dX3_both_86 ?_
        refine r_icmp_ne hκ (tgt := 94) (by decide) dX3_both_87 (fun h54 => ?_) (fun h54 => ?_)
        · replace h := (bte_i h).2 h54
          exact r_sub [0, 2, 3] rfl (ih 1 _ _ _ _ _ h rfl)
        · replace h := (bte_i h).1 h54
          refine r_aload_n hκ 1 rfl rfl dX3_both_90 ?_
          refine r_goto hκ (tgt := 105) (by decide) dX3_both_91 ?_
          exact r_aretH hκ hf h rt_o dX3_both_105
  | 1, h =>
      refine r_aload_n hκ 0 rfl rfl dX3_both_94 ?_
      obtain ⟨s11, v11, h55, h⟩ := bcl_i h
      refine r_seq (A := bJ κ s11 100 [(0, (2, x0)), (2, (0, x1)), (3, (0, x2))] [(0, v11)]) ?_ (fun k0 => ?_)
      case refine_2 =>
        by_cases h56 : bg s0 0 x0 0 = 6
        · have hq0 := (bte_i h55).1 h56
          exact r_callF hκ (n' := 0) (index := 49) (C := "EditsMeet$Keep") (w_X6_n Γ0 l0 hq0) (lw_app (lw_l4 q2125 q882 q865 q138) (lw_meth q867)) (by decide +kernel) (by decide +kernel) (t := 5) h56 rfl rfl (by decide) rfl (Nat.le_of_ble_eq_true rfl) dX3_both_95 k0
        replace h55 := (bte_i h55).2 h56
        by_cases h57 : bg s0 0 x0 0 = 15
        · have hq0 := (bte_i h55).1 h57
          exact r_callF hκ (n' := 0) (index := 49) (C := "EditsMeet$Delete") (w_X6_n Γ0 l0 hq0) (lw_app (lw_l4 q2125 q863 q865 q138) (lw_meth q867)) (by decide +kernel) (by decide +kernel) (t := 14) h57 rfl rfl (by decide) rfl (Nat.le_of_ble_eq_true rfl) dX3_both_95 k0
        replace h55 := (bte_i h55).2 h57
        by_cases h58 : bg s0 0 x0 0 = 16
        · have hq0 := (bte_i h55).1 h58
          exact r_callF hκ (n' := 0) (index := 49) (C := "EditsMeet$Insert") (w_X17_n Γ0 l0 hq0) (lw_app (lw_l4 q2125 q868 q870 q165) (lw_meth q872)) (by decide +kernel) (by decide +kernel) (t := 15) h58 rfl rfl (by decide) rfl (Nat.le_of_ble_eq_true rfl) dX3_both_95 k0
        replace h55 := (bte_i h55).2 h58
        by_cases h59 : bg s0 0 x0 0 = 17
        · have hq0 := (bte_i h55).1 h59
          exact r_callF hκ (n' := 0) (index := 49) (C := "EditsMeet$Mark") (w_X6_n Γ0 l0 hq0) (lw_app (lw_l4 q2125 q884 q865 q138) (lw_meth q867)) (by decide +kernel) (by decide +kernel) (t := 16) h59 rfl rfl (by decide) rfl (Nat.le_of_ble_eq_true rfl) dX3_both_95 k0
        replace h55 := (bte_i h55).2 h59
        cases h55
      refine r_iload_n hκ 1 rfl rfl dX3_both_100 ?_
      refine r_iload_n hκ 2 rfl rfl dX3_both_101 ?_
      obtain ⟨s12, v12, h60, h⟩ := bcl_i h
      refine r_callS hκ (n' := 3) (index := 52) (w_X5_mark Γ0 l0 h60) (lw_S q2126 q1337 q137 q1338) (by decide +kernel) rfl (by decide) rfl (Nat.le_of_ble_eq_true rfl) dX3_both_102 ?_
      exact r_aretH hκ hf h rt_o dX3_both_105
  | b + 2, h => trivial
set_option maxHeartbeats 4000000 in
set_option maxRecDepth 100000 in
theorem w_X3_both (Γ0 : bG) (l0 : Launch) {s0 st' : bS} {v a0 a1 : Int} (h : F_X3_both s0 a0 a1 = some (st', v)) : bCt Γ0 l0 yX3_both cX3_both 4 (some (.object "EditsMeet$Part")) 5 107 [(2, a0), (2, a1)] s0 st' (some (2, v)) := by
  refine b_ent (own := RX3) (by decide +kernel) rfl (Nat.le_of_ble_eq_true rfl) (L := [(0, (2, a0)), (1, (2, a1))]) rfl ?_
  intro κ hκ hi hf
  unfold F_X3_both at h
  refine r_aload_n hκ 0 rfl rfl dX3_both_0 ?_
  obtain ⟨s1, v1, h1, h⟩ := bcl_i h
  refine r_seq (A := bJ κ s1 6 [(0, (2, a0)), (1, (2, a1))] [(0, v1)]) ?_ (fun k0 => ?_)
  case refine_2 =>
    by_cases h2 : bg s0 0 a0 0 = 6
    · have hq0 := (bte_i h1).1 h2
      exact r_callFD hκ (n' := 0) (index := 42) (C := "EditsMeet$Keep") (w_X5_on Γ0 l0 hq0) (lw_meth q949) q2121 q947 q137 (by decide +kernel) (by decide +kernel) (t := 5) h2 rfl rfl (by decide) rfl (Nat.le_of_ble_eq_true rfl) dX3_both_1 k0
    replace h1 := (bte_i h1).2 h2
    by_cases h3 : bg s0 0 a0 0 = 15
    · have hq0 := (bte_i h1).1 h3
      exact r_callFD hκ (n' := 0) (index := 42) (C := "EditsMeet$Delete") (w_X5_on Γ0 l0 hq0) (lw_meth q949) q2121 q947 q137 (by decide +kernel) (by decide +kernel) (t := 14) h3 rfl rfl (by decide) rfl (Nat.le_of_ble_eq_true rfl) dX3_both_1 k0
    replace h1 := (bte_i h1).2 h3
    by_cases h4 : bg s0 0 a0 0 = 16
    · have hq0 := (bte_i h1).1 h4
      exact r_callFD hκ (n' := 0) (index := 42) (C := "EditsMeet$Insert") (w_X5_on Γ0 l0 hq0) (lw_meth q949) q2121 q947 q137 (by decide +kernel) (by decide +kernel) (t := 15) h4 rfl rfl (by decide) rfl (Nat.le_of_ble_eq_true rfl) dX3_both_1 k0
    replace h1 := (bte_i h1).2 h4
    by_cases h5 : bg s0 0 a0 0 = 17
    · have hq0 := (bte_i h1).1 h5
      exact r_callF hκ (n' := 0) (index := 42) (C := "EditsMeet$Mark") (w_X18_on Γ0 l0 hq0) (lw_app (lw_l4 q2121 q944 q945 q166) (lw_meth q946)) (by decide +kernel) (by decide +kernel) (t := 16) h5 rfl rfl (by decide) rfl (Nat.le_of_ble_eq_true rfl) dX3_both_1 k0
    replace h1 := (bte_i h1).2 h5
    cases h1
  refine r_aload_n hκ 1 rfl rfl dX3_both_6 ?_
  obtain ⟨s2, v2, h6, h⟩ := bcl_i h
  refine r_seq (A := bJ κ s2 12 [(0, (2, a0)), (1, (2, a1))] [(0, v2), (0, v1)]) ?_ (fun k0 => ?_)
  case refine_2 =>
    by_cases h7 : bg s1 0 a1 0 = 6
    · have hq0 := (bte_i h6).1 h7
      exact r_callFD hκ (n' := 0) (index := 46) (C := "EditsMeet$Keep") (w_X5_off Γ0 l0 hq0) (lw_meth q966) q2123 q964 q137 (by decide +kernel) (by decide +kernel) (t := 5) h7 rfl rfl (by decide) rfl (Nat.le_of_ble_eq_true rfl) dX3_both_7 k0
    replace h6 := (bte_i h6).2 h7
    by_cases h8 : bg s1 0 a1 0 = 15
    · have hq0 := (bte_i h6).1 h8
      exact r_callFD hκ (n' := 0) (index := 46) (C := "EditsMeet$Delete") (w_X5_off Γ0 l0 hq0) (lw_meth q966) q2123 q964 q137 (by decide +kernel) (by decide +kernel) (t := 14) h8 rfl rfl (by decide) rfl (Nat.le_of_ble_eq_true rfl) dX3_both_7 k0
    replace h6 := (bte_i h6).2 h8
    by_cases h9 : bg s1 0 a1 0 = 16
    · have hq0 := (bte_i h6).1 h9
      exact r_callFD hκ (n' := 0) (index := 46) (C := "EditsMeet$Insert") (w_X5_off Γ0 l0 hq0) (lw_meth q966) q2123 q964 q137 (by decide +kernel) (by decide +kernel) (t := 15) h9 rfl rfl (by decide) rfl (Nat.le_of_ble_eq_true rfl) dX3_both_7 k0
    replace h6 := (bte_i h6).2 h9
    by_cases h10 : bg s1 0 a1 0 = 17
    · have hq0 := (bte_i h6).1 h10
      exact r_callF hκ (n' := 0) (index := 46) (C := "EditsMeet$Mark") (w_X18_off Γ0 l0 hq0) (lw_app (lw_l4 q2123 q961 q962 q166) (lw_meth q963)) (by decide +kernel) (by decide +kernel) (t := 16) h10 rfl rfl (by decide) rfl (Nat.le_of_ble_eq_true rfl) dX3_both_7 k0
    replace h6 := (bte_i h6).2 h10
    cases h6
  refine r_iconst hκ dX3_both_12 ?_
  refine r_ixor hκ dX3_both_13 ?_
  refine r_iand hκ dX3_both_14 ?_
  refine r_aload_n hκ 1 rfl rfl dX3_both_15 ?_
  obtain ⟨s3, v3, h11, h⟩ := bcl_i h
  refine r_seq (A := bJ κ s3 21 [(0, (2, a0)), (1, (2, a1))] [(0, v3), (0, (b_iand v1 (b_ixor v2 (-1))))]) ?_ (fun k0 => ?_)
  case refine_2 =>
    by_cases h12 : bg s2 0 a1 0 = 6
    · have hq0 := (bte_i h11).1 h12
      exact r_callFD hκ (n' := 0) (index := 42) (C := "EditsMeet$Keep") (w_X5_on Γ0 l0 hq0) (lw_meth q949) q2121 q947 q137 (by decide +kernel) (by decide +kernel) (t := 5) h12 rfl rfl (by decide) rfl (Nat.le_of_ble_eq_true rfl) dX3_both_16 k0
    replace h11 := (bte_i h11).2 h12
    by_cases h13 : bg s2 0 a1 0 = 15
    · have hq0 := (bte_i h11).1 h13
      exact r_callFD hκ (n' := 0) (index := 42) (C := "EditsMeet$Delete") (w_X5_on Γ0 l0 hq0) (lw_meth q949) q2121 q947 q137 (by decide +kernel) (by decide +kernel) (t := 14) h13 rfl rfl (by decide) rfl (Nat.le_of_ble_eq_true rfl) dX3_both_16 k0
    replace h11 := (bte_i h11).2 h13
    by_cases h14 : bg s2 0 a1 0 = 16
    · have hq0 := (bte_i h11).1 h14
      exact r_callFD hκ (n' := 0) (index := 42) (C := "EditsMeet$Insert") (w_X5_on Γ0 l0 hq0) (lw_meth q949) q2121 q947 q137 (by decide +kernel) (by decide +kernel) (t := 15) h14 rfl rfl (by decide) rfl (Nat.le_of_ble_eq_true rfl) dX3_both_16 k0
    replace h11 := (bte_i h11).2 h14
    by_cases h15 : bg s2 0 a1 0 = 17
    · have hq0 := (bte_i h11).1 h15
      exact r_callF hκ (n' := 0) (index := 42) (C := "EditsMeet$Mark") (w_X18_on Γ0 l0 hq0) (lw_app (lw_l4 q2121 q944 q945 q166) (lw_meth q946)) (by decide +kernel) (by decide +kernel) (t := 16) h15 rfl rfl (by decide) rfl (Nat.le_of_ble_eq_true rfl) dX3_both_16 k0
    replace h11 := (bte_i h11).2 h15
    cases h11
  refine r_ior hκ dX3_both_21 ?_
  refine r_nm (fun t1 et1 => ?_)
  replace h := bvl_i h t1 et1
  refine r_istore_n hκ (L2 := [(2, (0, t1)), (0, (2, a0)), (1, (2, a1))]) (by decide) rfl rfl dX3_both_22 ?_
  refine r_aload_n hκ 1 rfl rfl dX3_both_23 ?_
  obtain ⟨s4, v4, h16, h⟩ := bcl_i h
  refine r_seq (A := bJ κ s4 29 [(2, (0, t1)), (0, (2, a0)), (1, (2, a1))] [(0, v4)]) ?_ (fun k0 => ?_)
  case refine_2 =>
    by_cases h17 : bg s3 0 a0 0 = 6
    · have hq0 := (bte_i h16).1 h17
      exact r_callFD hκ (n' := 0) (index := 46) (C := "EditsMeet$Keep") (w_X5_off Γ0 l0 hq0) (lw_meth q966) q2123 q964 q137 (by decide +kernel) (by decide +kernel) (t := 5) h17 rfl rfl (by decide) rfl (Nat.le_of_ble_eq_true rfl) dX3_both_24 k0
    replace h16 := (bte_i h16).2 h17
    by_cases h18 : bg s3 0 a0 0 = 15
    · have hq0 := (bte_i h16).1 h18
      exact r_callFD hκ (n' := 0) (index := 46) (C := "EditsMeet$Delete") (w_X5_off Γ0 l0 hq0) (lw_meth q966) q2123 q964 q137 (by decide +kernel) (by decide +kernel) (t := 14) h18 rfl rfl (by decide) rfl (Nat.le_of_ble_eq_true rfl) dX3_both_24 k0
    replace h16 := (bte_i h16).2 h18
    by_cases h19 : bg s3 0 a0 0 = 16
    · have hq0 := (bte_i h16).1 h19
      exact r_callFD hκ (n' := 0) (index := 46) (C := "EditsMeet$Insert") (w_X5_off Γ0 l0 hq0) (lw_meth q966) q2123 q964 q137 (by decide +kernel) (by decide +kernel) (t := 15) h19 rfl rfl (by decide) rfl (Nat.le_of_ble_eq_true rfl) dX3_both_24 k0
    replace h16 := (bte_i h16).2 h19
    by_cases h20 : bg s3 0 a0 0 = 17
    · have hq0 := (bte_i h16).1 h20
      exact r_callF hκ (n' := 0) (index := 46) (C := "EditsMeet$Mark") (w_X18_off Γ0 l0 hq0) (lw_app (lw_l4 q2123 q961 q962 q166) (lw_meth q963)) (by decide +kernel) (by decide +kernel) (t := 16) h20 rfl rfl (by decide) rfl (Nat.le_of_ble_eq_true rfl) dX3_both_24 k0
    replace h16 := (bte_i h16).2 h20
    cases h16
  refine r_aload_n hκ 2 rfl rfl dX3_both_29 ?_
  obtain ⟨s5, v5, h21, h⟩ := bcl_i h
  refine r_seq (A := bJ κ s5 35 [(2, (0, t1)), (0, (2, a0)), (1, (2, a1))] [(0, v5), (0, v4)]) ?_ (fun k0 => ?_)
  case refine_2 =>
    by_cases h22 : bg s4 0 a1 0 = 6
    · have hq0 := (bte_i h21).1 h22
      exact r_callFD hκ (n' := 0) (index := 42) (C := "EditsMeet$Keep") (w_X5_on Γ0 l0 hq0) (lw_meth q949) q2121 q947 q137 (by decide +kernel) (by decide +kernel) (t := 5) h22 rfl rfl (by decide) rfl (Nat.le_of_ble_eq_true rfl) dX3_both_30 k0
    replace h21 := (bte_i h21).2 h22
    by_cases h23 : bg s4 0 a1 0 = 15
    · have hq0 := (bte_i h21).1 h23
      exact r_callFD hκ (n' := 0) (index := 42) (C := "EditsMeet$Delete") (w_X5_on Γ0 l0 hq0) (lw_meth q949) q2121 q947 q137 (by decide +kernel) (by decide +kernel) (t := 14) h23 rfl rfl (by decide) rfl (Nat.le_of_ble_eq_true rfl) dX3_both_30 k0
    replace h21 := (bte_i h21).2 h23
    by_cases h24 : bg s4 0 a1 0 = 16
    · have hq0 := (bte_i h21).1 h24
      exact r_callFD hκ (n' := 0) (index := 42) (C := "EditsMeet$Insert") (w_X5_on Γ0 l0 hq0) (lw_meth q949) q2121 q947 q137 (by decide +kernel) (by decide +kernel) (t := 15) h24 rfl rfl (by decide) rfl (Nat.le_of_ble_eq_true rfl) dX3_both_30 k0
    replace h21 := (bte_i h21).2 h24
    by_cases h25 : bg s4 0 a1 0 = 17
    · have hq0 := (bte_i h21).1 h25
      exact r_callF hκ (n' := 0) (index := 42) (C := "EditsMeet$Mark") (w_X18_on Γ0 l0 hq0) (lw_app (lw_l4 q2121 q944 q945 q166) (lw_meth q946)) (by decide +kernel) (by decide +kernel) (t := 16) h25 rfl rfl (by decide) rfl (Nat.le_of_ble_eq_true rfl) dX3_both_30 k0
    replace h21 := (bte_i h21).2 h25
    cases h21
  refine r_iconst hκ dX3_both_35 ?_
  refine r_ixor hκ dX3_both_36 ?_
  refine r_iand hκ dX3_both_37 ?_
  refine r_aload_n hκ 2 rfl rfl dX3_both_38 ?_
  obtain ⟨s6, v6, h26, h⟩ := bcl_i h
  refine r_seq (A := bJ κ s6 44 [(2, (0, t1)), (0, (2, a0)), (1, (2, a1))] [(0, v6), (0, (b_iand v4 (b_ixor v5 (-1))))]) ?_ (fun k0 => ?_)
  case refine_2 =>
    by_cases h27 : bg s5 0 a1 0 = 6
    · have hq0 := (bte_i h26).1 h27
      exact r_callFD hκ (n' := 0) (index := 46) (C := "EditsMeet$Keep") (w_X5_off Γ0 l0 hq0) (lw_meth q966) q2123 q964 q137 (by decide +kernel) (by decide +kernel) (t := 5) h27 rfl rfl (by decide) rfl (Nat.le_of_ble_eq_true rfl) dX3_both_39 k0
    replace h26 := (bte_i h26).2 h27
    by_cases h28 : bg s5 0 a1 0 = 15
    · have hq0 := (bte_i h26).1 h28
      exact r_callFD hκ (n' := 0) (index := 46) (C := "EditsMeet$Delete") (w_X5_off Γ0 l0 hq0) (lw_meth q966) q2123 q964 q137 (by decide +kernel) (by decide +kernel) (t := 14) h28 rfl rfl (by decide) rfl (Nat.le_of_ble_eq_true rfl) dX3_both_39 k0
    replace h26 := (bte_i h26).2 h28
    by_cases h29 : bg s5 0 a1 0 = 16
    · have hq0 := (bte_i h26).1 h29
      exact r_callFD hκ (n' := 0) (index := 46) (C := "EditsMeet$Insert") (w_X5_off Γ0 l0 hq0) (lw_meth q966) q2123 q964 q137 (by decide +kernel) (by decide +kernel) (t := 15) h29 rfl rfl (by decide) rfl (Nat.le_of_ble_eq_true rfl) dX3_both_39 k0
    replace h26 := (bte_i h26).2 h29
    by_cases h30 : bg s5 0 a1 0 = 17
    · have hq0 := (bte_i h26).1 h30
      exact r_callF hκ (n' := 0) (index := 46) (C := "EditsMeet$Mark") (w_X18_off Γ0 l0 hq0) (lw_app (lw_l4 q2123 q961 q962 q166) (lw_meth q963)) (by decide +kernel) (by decide +kernel) (t := 16) h30 rfl rfl (by decide) rfl (Nat.le_of_ble_eq_true rfl) dX3_both_39 k0
    replace h26 := (bte_i h26).2 h30
    cases h26
  refine r_ior hκ dX3_both_44 ?_
  refine r_nm (fun t2 et2 => ?_)
  replace h := bvl_i h t2 et2
  refine r_istore_n hκ (L2 := [(3, (0, t2)), (2, (0, t1)), (0, (2, a0)), (1, (2, a1))]) (by decide) rfl rfl dX3_both_45 ?_
  refine r_aload_n hκ 2 rfl rfl dX3_both_46 ?_
  obtain ⟨s7, v7, h31, h⟩ := bcl_i h
  refine r_seq (A := bJ κ s7 52 [(3, (0, t2)), (2, (0, t1)), (0, (2, a0)), (1, (2, a1))] [(0, v7)]) ?_ (fun k0 => ?_)
  case refine_2 =>
    by_cases h32 : bg s6 0 a0 0 = 6
    · have hq0 := (bte_i h31).1 h32
      exact r_callFD hκ (n' := 0) (index := 42) (C := "EditsMeet$Keep") (w_X5_on Γ0 l0 hq0) (lw_meth q949) q2121 q947 q137 (by decide +kernel) (by decide +kernel) (t := 5) h32 rfl rfl (by decide) rfl (Nat.le_of_ble_eq_true rfl) dX3_both_47 k0
    replace h31 := (bte_i h31).2 h32
    by_cases h33 : bg s6 0 a0 0 = 15
    · have hq0 := (bte_i h31).1 h33
      exact r_callFD hκ (n' := 0) (index := 42) (C := "EditsMeet$Delete") (w_X5_on Γ0 l0 hq0) (lw_meth q949) q2121 q947 q137 (by decide +kernel) (by decide +kernel) (t := 14) h33 rfl rfl (by decide) rfl (Nat.le_of_ble_eq_true rfl) dX3_both_47 k0
    replace h31 := (bte_i h31).2 h33
    by_cases h34 : bg s6 0 a0 0 = 16
    · have hq0 := (bte_i h31).1 h34
      exact r_callFD hκ (n' := 0) (index := 42) (C := "EditsMeet$Insert") (w_X5_on Γ0 l0 hq0) (lw_meth q949) q2121 q947 q137 (by decide +kernel) (by decide +kernel) (t := 15) h34 rfl rfl (by decide) rfl (Nat.le_of_ble_eq_true rfl) dX3_both_47 k0
    replace h31 := (bte_i h31).2 h34
    by_cases h35 : bg s6 0 a0 0 = 17
    · have hq0 := (bte_i h31).1 h35
      exact r_callF hκ (n' := 0) (index := 42) (C := "EditsMeet$Mark") (w_X18_on Γ0 l0 hq0) (lw_app (lw_l4 q2121 q944 q945 q166) (lw_meth q946)) (by decide +kernel) (by decide +kernel) (t := 16) h35 rfl rfl (by decide) rfl (Nat.le_of_ble_eq_true rfl) dX3_both_47 k0
    replace h31 := (bte_i h31).2 h35
    cases h31
  refine r_iload_n hκ 1 rfl rfl dX3_both_52 ?_
  refine r_icmp_ne hκ (tgt := 70) (by decide) dX3_both_53 (fun h36 => ?_) (fun h36 => ?_)
  · replace h := (bte_i h).2 h36
    exact r_sub [2, 3, 1, 0] rfl (w_X3_both_r hκ hi hf 0 _ _ _ _ _ h)
  · replace h := (bte_i h).1 h36
    refine r_aload_n hκ 2 rfl rfl dX3_both_56 ?_
    obtain ⟨s8, v8, h37, h⟩ := bcl_i h
    refine r_seq (A := bJ κ s8 62 [(3, (0, t2)), (2, (0, t1)), (0, (2, a0)), (1, (2, a1))] [(0, v8)]) ?_ (fun k0 => ?_)
    case refine_2 =>
      by_cases h38 : bg s7 0 a0 0 = 6
      · have hq0 := (bte_i h37).1 h38
        exact r_callFD hκ (n' := 0) (index := 46) (C := "EditsMeet$Keep") (w_X5_off Γ0 l0 hq0) (lw_meth q966) q2123 q964 q137 (by decide +kernel) (by decide +kernel) (t := 5) h38 rfl rfl (by decide) rfl (Nat.le_of_ble_eq_true rfl) dX3_both_57 k0
      replace h37 := (bte_i h37).2 h38
      by_cases h39 : bg s7 0 a0 0 = 15
      · have hq0 := (bte_i h37).1 h39
        exact r_callFD hκ (n' := 0) (index := 46) (C := "EditsMeet$Delete") (w_X5_off Γ0 l0 hq0) (lw_meth q966) q2123 q964 q137 (by decide +kernel) (by decide +kernel) (t := 14) h39 rfl rfl (by decide) rfl (Nat.le_of_ble_eq_true rfl) dX3_both_57 k0
      replace h37 := (bte_i h37).2 h39
      by_cases h40 : bg s7 0 a0 0 = 16
      · have hq0 := (bte_i h37).1 h40
        exact r_callFD hκ (n' := 0) (index := 46) (C := "EditsMeet$Insert") (w_X5_off Γ0 l0 hq0) (lw_meth q966) q2123 q964 q137 (by decide +kernel) (by decide +kernel) (t := 15) h40 rfl rfl (by decide) rfl (Nat.le_of_ble_eq_true rfl) dX3_both_57 k0
      replace h37 := (bte_i h37).2 h40
      by_cases h41 : bg s7 0 a0 0 = 17
      · have hq0 := (bte_i h37).1 h41
        exact r_callF hκ (n' := 0) (index := 46) (C := "EditsMeet$Mark") (w_X18_off Γ0 l0 hq0) (lw_app (lw_l4 q2123 q961 q962 q166) (lw_meth q963)) (by decide +kernel) (by decide +kernel) (t := 16) h41 rfl rfl (by decide) rfl (Nat.le_of_ble_eq_true rfl) dX3_both_57 k0
      replace h37 := (bte_i h37).2 h41
      cases h37
    refine r_iload_n hκ 0 rfl rfl dX3_both_62 ?_
    refine r_icmp_ne hκ (tgt := 70) (by decide) dX3_both_63 (fun h42 => ?_) (fun h42 => ?_)
    · replace h := (bte_i h).2 h42
      exact r_sub [2, 3, 1, 0] rfl (w_X3_both_r hκ hi hf 0 _ _ _ _ _ h)
    · replace h := (bte_i h).1 h42
      refine r_aload_n hκ 2 rfl rfl dX3_both_66 ?_
      refine r_goto hκ (tgt := 105) (by decide) dX3_both_67 ?_
      exact r_aretH hκ hf h rt_o dX3_both_105
/-- EditsMeet$Weaver.pairs(LEditsMeet$Edit;)V -/
def F_X3_pairs_r (b : Nat) (x0 x1 x2 x3 : Int) (s0 : bS) : Option (bS × Int) :=
  match b with
  | 0 =>
    F_X3_pairs_r 2 x0 x1 0 0 s0
  | 1 =>
    bck (bg s0 0 x3 0 = 7) <|
    bcl (F_X8_adds_2 s0 x3 x2 x1) fun s12 v12 =>
    bck (bg s12 0 x0 0 = 4) <|
    bck (bg s12 0 (bg s12 94 x0 0) 0 = 5) <|
    bcl (F_X4_skips s12 (bg s12 94 x0 0) x1) fun s13 v13 =>
    F_X3_pairs_r 2 x0 x1 0 0 s13
  | 2 =>
    bck (bg s0 0 x0 0 = 4) <|
    bck (bg s0 0 (bg s0 98 x0 0) 0 = 5) <|
    bcl (F_X4_skips s0 (bg s0 98 x0 0) x1) fun s14 v14 =>
    some (s14, 0)
  | _ => none
partial_fixpoint
def F_X3_pairs (s0 : bS) (a0 a1 : Int) : Option (bS × Int) :=
  bck (bg s0 0 a0 0 = 4) <|
  bck (bg s0 0 (bg s0 94 a0 0) 0 = 5) <|
  bcl (F_X4_left s0 (bg s0 94 a0 0)) fun s1 v1 =>
  bck (bg s1 0 a0 0 = 4) <|
  bck (bg s1 0 (bg s1 98 a0 0) 0 = 5) <|
  bcl (F_X4_left s1 (bg s1 98 a0 0)) fun s2 v2 =>
  bck (bg s2 0 a0 0 = 4) <|
  bck (bg s2 0 (bg s2 98 a0 0) 0 = 5) <|
  bcl (F_X4_here s2 (bg s2 98 a0 0)) fun s3 v3 =>
  bck (bg s3 0 a0 0 = 4) <|
  bck (bg s3 0 (bg s3 94 a0 0) 0 = 5) <|
  bcl (F_X4_here s3 (bg s3 94 a0 0)) fun s4 v4 =>
  bte (bg s4 0 v4 0 = 16) (bck (bg s4 0 a0 0 = 4) <|
  bck (bg s4 0 (bg s4 94 a0 0) 0 = 5) <|
  bcl (F_X4_takes s4 (bg s4 94 a0 0) (b_min v1 v2)) fun s5 v5 =>
  bcl (bte (bg s5 0 v3 0 = 6) (F_X5_deletes s5 v3) (bte (bg s5 0 v3 0 = 15) (F_X5_deletes s5 v3) (bte (bg s5 0 v3 0 = 16) (F_X5_deletes s5 v3) (bte (bg s5 0 v3 0 = 17) (F_X5_deletes s5 v3) (none))))) fun s6 v6 =>
  bte (i32 v6 = 0)
  (bte (bg s6 0 v5 0 = 16) (bck (v5 < 0 ∨ bg s6 0 v5 0 = 16) <|
  bck (bg s6 0 v5 0 = 16) <|
  bcl (F_X17_turned s6 v5 v3) fun s7 v7 =>
  bck (bg s7 0 a1 0 = 7) <|
  bcl (F_X8_adds s7 a1 v7) fun s8 v8 =>
  F_X3_pairs_r 0 a0 (b_min v1 v2) 0 0 s8) (bck (v5 < 0 ∨ bg s6 0 v5 0 = 6 ∨ bg s6 0 v5 0 = 15 ∨ bg s6 0 v5 0 = 17) <| F_X3_pairs_r 0 a0 (b_min v1 v2) 0 0 s6))
  (F_X3_pairs_r 0 a0 (b_min v1 v2) 0 0 s6)) (bck (v4 < 0 ∨ bg s4 0 v4 0 = 6 ∨ bg s4 0 v4 0 = 15 ∨ bg s4 0 v4 0 = 17) <| bcl (bte (bg s4 0 v3 0 = 6) (F_X5_deletes s4 v3) (bte (bg s4 0 v3 0 = 15) (F_X5_deletes s4 v3) (bte (bg s4 0 v3 0 = 16) (F_X5_deletes s4 v3) (bte (bg s4 0 v3 0 = 17) (F_X5_deletes s4 v3) (none))))) fun s9 v9 =>
  bte (i32 v9 = 0)
  (bck (bg s9 0 a0 0 = 4) <|
  bck (bg s9 0 (bg s9 94 a0 0) 0 = 5) <|
  bcl (F_X4_here s9 (bg s9 94 a0 0)) fun s10 v10 =>
  bcl (F_X3_both s10 v10 v3) fun s11 v11 =>
  F_X3_pairs_r 1 a0 (b_min v1 v2) v11 a1 s11)
  (F_X3_pairs_r 1 a0 (b_min v1 v2) v3 a1 s9))
set_option maxHeartbeats 4000000 in
set_option maxRecDepth 100000 in
set_option synthInstance.maxHeartbeats 4000000 in
theorem w_X3_pairs_r {Γ0 : bG} {l0 : Launch} {κ : bK} {st' : bS} {v : Int} (hκ : bOk κ Γ0 l0 cX3_pairs RX3 6 11 262) (hi : bIn κ yX3_pairs) (hf : bFin κ none st' none) (b : Nat) (x0 x1 x2 x3 : Int) (s0 : bS) (h : F_X3_pairs_r b x0 x1 x2 x3 s0 = some (st', v)) : match (generalizing := false) b with | 0 => bJ κ s0 84 [(0, (2, x0)), (2, (0, x1))] [] | 1 => bJ κ s0 112 [(0, (2, x0)), (2, (0, x1))] [(2, x2), (2, x3)] | 2 => bJ κ s0 125 [(0, (2, x0)), (2, (0, x1))] [] | _ => True := by
  refine F_X3_pairs_r.partial_correctness x0 x1 (fun b x2 x3 s0 r => r = (st', v) → match (generalizing := false) b with | 0 => bJ κ s0 84 [(0, (2, x0)), (2, (0, x1))] [] | 1 => bJ κ s0 112 [(0, (2, x0)), (2, (0, x1))] [(2, x2), (2, x3)] | 2 => bJ κ s0 125 [(0, (2, x0)), (2, (0, x1))] [] | _ => True) ?_ b x2 x3 s0 _ h rfl
  intro f' ih b x2 x3 s0 r h hr
  subst hr
  match b, h with
  | 0, h =>
      refine r_goto hκ (tgt := 125) (by decide) dX3_pairs_84 ?_
      exact r_sub [0, 1] rfl (ih 2 _ _ _ _ h rfl)
  | 1, h =>
      refine r_iload_n hκ 1 rfl rfl dX3_pairs_112 ?_
      obtain ⟨h41, h⟩ := bck_i h
      obtain ⟨s12, v12, h42, h⟩ := bcl_i h
      refine r_callV hκ (n' := 2) (index := 90) (w_X8_adds_2 Γ0 l0 h42) (lw_V q2074 q1360 q1361 q140 q1362) (by decide +kernel) (t := 6) h41 rfl rfl (by decide) rfl (Nat.le_of_ble_eq_true rfl) dX3_pairs_113 ?_
      refine r_pop hκ (bd_cat2k _) dX3_pairs_116 ?_
      refine r_aload_n hκ 0 rfl rfl dX3_pairs_117 ?_
      obtain ⟨h43, h⟩ := bck_i h
      refine r_get hκ (t := 3) (k := 0) (r := 94) h43 rfl in_X3 (by decide) rfl q418 (Or.inl rfl) dX3_pairs_118 ?_
      refine r_iload_n hκ 1 rfl rfl dX3_pairs_121 ?_
      obtain ⟨h44, h⟩ := bck_i h
      obtain ⟨s13, v13, h45, h⟩ := bcl_i h
      refine r_callV hκ (n' := 1) (index := 93) (w_X4_skips Γ0 l0 h45) (lw_V q2075 q1790 q1791 q136 q1792) (by decide +kernel) (t := 4) h44 rfl rfl (by decide) rfl (Nat.le_of_ble_eq_true rfl) dX3_pairs_122 ?_
      exact r_sub [0, 1] rfl (ih 2 _ _ _ _ h rfl)
  | 2, h =>
      refine r_aload_n hκ 0 rfl rfl dX3_pairs_125 ?_
      obtain ⟨h46, h⟩ := bck_i h
      refine r_get hκ (t := 3) (k := 1) (r := 98) h46 rfl in_X3 (by decide) rfl q419 (Or.inl rfl) dX3_pairs_126 ?_
      refine r_iload_n hκ 1 rfl rfl dX3_pairs_129 ?_
      obtain ⟨h47, h⟩ := bck_i h
      obtain ⟨s14, v14, h48, h⟩ := bcl_i h
      refine r_callV hκ (n' := 1) (index := 93) (w_X4_skips Γ0 l0 h48) (lw_V q2075 q1790 q1791 q136 q1792) (by decide +kernel) (t := 4) h47 rfl rfl (by decide) rfl (Nat.le_of_ble_eq_true rfl) dX3_pairs_130 ?_
      exact r_vretH hκ hf h dX3_pairs_133
  | b + 3, h => trivial
set_option maxHeartbeats 4000000 in
set_option maxRecDepth 100000 in
theorem w_X3_pairs (Γ0 : bG) (l0 : Launch) {s0 st' : bS} {v a0 a1 : Int} (h : F_X3_pairs s0 a0 a1 = some (st', v)) : bCt Γ0 l0 yX3_pairs cX3_pairs 6 none 11 262 [(2, a0), (2, a1)] s0 st' none := by
  refine b_ent (own := RX3) (by decide +kernel) rfl (Nat.le_of_ble_eq_true rfl) (L := [(0, (2, a0)), (1, (2, a1))]) rfl ?_
  intro κ hκ hi hf
  unfold F_X3_pairs at h
  refine r_aload_n hκ 0 rfl rfl dX3_pairs_0 ?_
  obtain ⟨h1, h⟩ := bck_i h
  refine r_get hκ (t := 3) (k := 0) (r := 94) h1 rfl in_X3 (by decide) rfl q418 (Or.inl rfl) dX3_pairs_1 ?_
  obtain ⟨h2, h⟩ := bck_i h
  obtain ⟨s1, v1, h3, h⟩ := bcl_i h
  refine r_callV hκ (n' := 0) (index := 56) (w_X4_left Γ0 l0 h3) (lw_V q2073 q1731 q1732 q136 q1733) (by decide +kernel) (t := 4) h2 rfl rfl (by decide) rfl (Nat.le_of_ble_eq_true rfl) dX3_pairs_4 ?_
  refine r_aload_n hκ 0 rfl rfl dX3_pairs_7 ?_
  obtain ⟨h4, h⟩ := bck_i h
  refine r_get hκ (t := 3) (k := 1) (r := 98) h4 rfl in_X3 (by decide) rfl q419 (Or.inl rfl) dX3_pairs_8 ?_
  obtain ⟨h5, h⟩ := bck_i h
  obtain ⟨s2, v2, h6, h⟩ := bcl_i h
  refine r_callV hκ (n' := 0) (index := 56) (w_X4_left Γ0 l0 h6) (lw_V q2073 q1731 q1732 q136 q1733) (by decide +kernel) (t := 4) h5 rfl rfl (by decide) rfl (Nat.le_of_ble_eq_true rfl) dX3_pairs_11 ?_
  refine r_mmin hκ q2088 q1055 q161 q1056 (by decide) (Nat.le_of_ble_eq_true rfl) dX3_pairs_14 ?_
  refine r_istore_n hκ (L2 := [(2, (0, (b_min v1 v2))), (0, (2, a0)), (1, (2, a1))]) (by decide) rfl rfl dX3_pairs_17 ?_
  refine r_aload_n hκ 1 rfl rfl dX3_pairs_18 ?_
  obtain ⟨h7, h⟩ := bck_i h
  refine r_get hκ (t := 3) (k := 1) (r := 98) h7 rfl in_X3 (by decide) rfl q419 (Or.inl rfl) dX3_pairs_19 ?_
  obtain ⟨h8, h⟩ := bck_i h
  obtain ⟨s3, v3, h9, h⟩ := bcl_i h
  refine r_callV hκ (n' := 0) (index := 65) (w_X4_here Γ0 l0 h9) (lw_V q2072 q1735 q1736 q136 q1737) (by decide +kernel) (t := 4) h8 rfl rfl (by decide) rfl (Nat.le_of_ble_eq_true rfl) dX3_pairs_22 ?_
  refine r_astore_n hκ (L2 := [(3, (2, v3)), (2, (0, (b_min v1 v2))), (0, (2, a0)), (1, (2, a1))]) (by decide) rfl rfl dX3_pairs_25 ?_
  refine r_aload_n hκ 2 rfl rfl dX3_pairs_26 ?_
  obtain ⟨h10, h⟩ := bck_i h
  refine r_get hκ (t := 3) (k := 0) (r := 94) h10 rfl in_X3 (by decide) rfl q418 (Or.inl rfl) dX3_pairs_27 ?_
  obtain ⟨h11, h⟩ := bck_i h
  obtain ⟨s4, v4, h12, h⟩ := bcl_i h
  refine r_callV hκ (n' := 0) (index := 65) (w_X4_here Γ0 l0 h12) (lw_V q2072 q1735 q1736 q136 q1737) (by decide +kernel) (t := 4) h11 rfl rfl (by decide) rfl (Nat.le_of_ble_eq_true rfl) dX3_pairs_30 ?_
  by_cases h13 : bg s4 0 v4 0 = 16
  · replace h := (bte_i h).1 h13
    refine r_instGY hκ q2089 (⟨16, _, h13, by decide, rfl, Or.inl (by decide +kernel)⟩) dX3_pairs_33 ?_
    refine r_if_eq hκ (tgt := 87) (by decide) dX3_pairs_36 (fun hc => absurd hc (by decide)) (fun _ => ?_)
    refine r_aload_n hκ 2 rfl rfl dX3_pairs_39 ?_
    obtain ⟨h15, h⟩ := bck_i h
    refine r_get hκ (t := 3) (k := 0) (r := 94) h15 rfl in_X3 (by decide) rfl q418 (Or.inl rfl) dX3_pairs_40 ?_
    refine r_iload_n hκ 1 rfl rfl dX3_pairs_43 ?_
    obtain ⟨h16, h⟩ := bck_i h
    obtain ⟨s5, v5, h17, h⟩ := bcl_i h
    refine r_callV hκ (n' := 1) (index := 71) (w_X4_takes Γ0 l0 h17) (lw_V q2090 q1742 q1743 q136 q1744) (by decide +kernel) (t := 4) h16 rfl rfl (by decide) rfl (Nat.le_of_ble_eq_true rfl) dX3_pairs_44 ?_
    refine r_astore hκ (L2 := [(4, (2, v5)), (3, (2, v3)), (2, (0, (b_min v1 v2))), (0, (2, a0)), (1, (2, a1))]) (by decide) rfl dX3_pairs_47 ?_
    refine r_aload_n hκ 1 rfl rfl dX3_pairs_49 ?_
    obtain ⟨s6, v6, h18, h⟩ := bcl_i h
    refine r_seq (A := bJ κ s6 55 [(4, (2, v5)), (3, (2, v3)), (2, (0, (b_min v1 v2))), (0, (2, a0)), (1, (2, a1))] [(0, v6)]) ?_ (fun k0 => ?_)
    case refine_2 =>
      by_cases h19 : bg s5 0 v3 0 = 6
      · have hq0 := (bte_i h18).1 h19
        exact r_callFD hκ (n' := 0) (index := 74) (C := "EditsMeet$Keep") (w_X5_deletes Γ0 l0 hq0) (lw_meth q1496) q2092 q1494 q137 (by decide +kernel) (by decide +kernel) (t := 5) h19 rfl rfl (by decide) rfl (Nat.le_of_ble_eq_true rfl) dX3_pairs_50 k0
      replace h18 := (bte_i h18).2 h19
      by_cases h20 : bg s5 0 v3 0 = 15
      · have hq0 := (bte_i h18).1 h20
        exact r_callFD hκ (n' := 0) (index := 74) (C := "EditsMeet$Delete") (w_X5_deletes Γ0 l0 hq0) (lw_meth q1496) q2092 q1494 q137 (by decide +kernel) (by decide +kernel) (t := 14) h20 rfl rfl (by decide) rfl (Nat.le_of_ble_eq_true rfl) dX3_pairs_50 k0
      replace h18 := (bte_i h18).2 h20
      by_cases h21 : bg s5 0 v3 0 = 16
      · have hq0 := (bte_i h18).1 h21
        exact r_callFD hκ (n' := 0) (index := 74) (C := "EditsMeet$Insert") (w_X5_deletes Γ0 l0 hq0) (lw_meth q1496) q2092 q1494 q137 (by decide +kernel) (by decide +kernel) (t := 15) h21 rfl rfl (by decide) rfl (Nat.le_of_ble_eq_true rfl) dX3_pairs_50 k0
      replace h18 := (bte_i h18).2 h21
      by_cases h22 : bg s5 0 v3 0 = 17
      · have hq0 := (bte_i h18).1 h22
        exact r_callFD hκ (n' := 0) (index := 74) (C := "EditsMeet$Mark") (w_X5_deletes Γ0 l0 hq0) (lw_meth q1496) q2092 q1494 q137 (by decide +kernel) (by decide +kernel) (t := 16) h22 rfl rfl (by decide) rfl (Nat.le_of_ble_eq_true rfl) dX3_pairs_50 k0
      replace h18 := (bte_i h18).2 h22
      cases h18
    refine r_if_ne hκ (tgt := 84) (by decide) dX3_pairs_55 (fun h23 => ?_) (fun h23 => ?_)
    · replace h := (bte_i h).2 h23
      exact r_sub [3, 2] rfl (w_X3_pairs_r hκ hi hf 0 _ _ _ _ _ h)
    · replace h := (bte_i h).1 h23
      refine r_aload hκ 0 rfl dX3_pairs_58 ?_
      by_cases h24 : bg s6 0 v5 0 = 16
      · replace h := (bte_i h).1 h24
        refine r_instGY hκ q2089 (⟨16, _, h24, by decide, rfl, Or.inl (by decide +kernel)⟩) dX3_pairs_60 ?_
        refine r_if_eq hκ (tgt := 84) (by decide) dX3_pairs_63 (fun hc => absurd hc (by decide)) (fun _ => ?_)
        refine r_aload hκ 0 rfl dX3_pairs_66 ?_
        obtain ⟨h26, h⟩ := bck_i h
        refine r_cast hκ q2089 (Or.elim h26 (fun h26 => Or.inl h26) (fun h26 => Or.inr ⟨15, _, h26, rfl, Or.inl rfl⟩)) dX3_pairs_68 ?_
        refine r_astore hκ (L2 := [(5, (2, v5)), (4, (2, v5)), (3, (2, v3)), (2, (0, (b_min v1 v2))), (0, (2, a0)), (1, (2, a1))]) (by decide) rfl dX3_pairs_71 ?_
        refine r_aload_n hκ 5 rfl rfl dX3_pairs_73 ?_
        refine r_aload hκ 0 rfl dX3_pairs_74 ?_
        refine r_aload_n hκ 2 rfl rfl dX3_pairs_76 ?_
        obtain ⟨h27, h⟩ := bck_i h
        obtain ⟨s7, v7, h28, h⟩ := bcl_i h
        refine r_callV hκ (n' := 1) (index := 78) (w_X17_turned Γ0 l0 h28) (lw_V q2093 q2094 q2095 q165 q2096) (by decide +kernel) (t := 15) h27 rfl rfl (by decide) rfl (Nat.le_of_ble_eq_true rfl) dX3_pairs_77 ?_
        obtain ⟨h29, h⟩ := bck_i h
        obtain ⟨s8, v8, h30, h⟩ := bcl_i h
        refine r_callV hκ (n' := 1) (index := 82) (w_X8_adds Γ0 l0 h30) (lw_V q2083 q1354 q1355 q140 q1356) (by decide +kernel) (t := 6) h29 rfl rfl (by decide) rfl (Nat.le_of_ble_eq_true rfl) dX3_pairs_80 ?_
        refine r_pop hκ (bd_cat2k _) dX3_pairs_83 ?_
        exact r_sub [4, 3] rfl (w_X3_pairs_r hκ hi hf 0 _ _ _ _ _ h)
      · replace h := (bte_i h).2 h24
        obtain ⟨h25, h⟩ := bck_i h
        refine r_instGN hκ q2089 (Or.elim h25 (fun h25 => Or.inl h25) (fun h25 => Or.elim h25 (fun h25 => Or.inr ⟨6, _, h25, by decide, rfl, by decide +kernel⟩) (fun h25 => Or.elim h25 (fun h25 => Or.inr ⟨15, _, h25, by decide, rfl, by decide +kernel⟩) (fun h25 => Or.inr ⟨17, _, h25, by decide, rfl, by decide +kernel⟩)))) dX3_pairs_60 ?_
        refine r_if_eq hκ (tgt := 84) (by decide) dX3_pairs_63 (fun _ => ?_) (fun hc => absurd hc (by decide))
        exact r_sub [3, 2] rfl (w_X3_pairs_r hκ hi hf 0 _ _ _ _ _ h)
  · replace h := (bte_i h).2 h13
    obtain ⟨h14, h⟩ := bck_i h
    refine r_instGN hκ q2089 (Or.elim h14 (fun h14 => Or.inl h14) (fun h14 => Or.elim h14 (fun h14 => Or.inr ⟨6, _, h14, by decide, rfl, by decide +kernel⟩) (fun h14 => Or.elim h14 (fun h14 => Or.inr ⟨15, _, h14, by decide, rfl, by decide +kernel⟩) (fun h14 => Or.inr ⟨17, _, h14, by decide, rfl, by decide +kernel⟩)))) dX3_pairs_33 ?_
    refine r_if_eq hκ (tgt := 87) (by decide) dX3_pairs_36 (fun _ => ?_) (fun hc => absurd hc (by decide))
    refine r_aload_n hκ 3 rfl rfl dX3_pairs_87 ?_
    refine r_aload_n hκ 0 rfl rfl dX3_pairs_88 ?_
    obtain ⟨s9, v9, h31, h⟩ := bcl_i h
    refine r_seq (A := bJ κ s9 94 [(3, (2, v3)), (2, (0, (b_min v1 v2))), (0, (2, a0)), (1, (2, a1))] [(0, v9), (2, a1)]) ?_ (fun k0 => ?_)
    case refine_2 =>
      by_cases h32 : bg s4 0 v3 0 = 6
      · have hq0 := (bte_i h31).1 h32
        exact r_callFD hκ (n' := 0) (index := 74) (C := "EditsMeet$Keep") (w_X5_deletes Γ0 l0 hq0) (lw_meth q1496) q2092 q1494 q137 (by decide +kernel) (by decide +kernel) (t := 5) h32 rfl rfl (by decide) rfl (Nat.le_of_ble_eq_true rfl) dX3_pairs_89 k0
      replace h31 := (bte_i h31).2 h32
      by_cases h33 : bg s4 0 v3 0 = 15
      · have hq0 := (bte_i h31).1 h33
        exact r_callFD hκ (n' := 0) (index := 74) (C := "EditsMeet$Delete") (w_X5_deletes Γ0 l0 hq0) (lw_meth q1496) q2092 q1494 q137 (by decide +kernel) (by decide +kernel) (t := 14) h33 rfl rfl (by decide) rfl (Nat.le_of_ble_eq_true rfl) dX3_pairs_89 k0
      replace h31 := (bte_i h31).2 h33
      by_cases h34 : bg s4 0 v3 0 = 16
      · have hq0 := (bte_i h31).1 h34
        exact r_callFD hκ (n' := 0) (index := 74) (C := "EditsMeet$Insert") (w_X5_deletes Γ0 l0 hq0) (lw_meth q1496) q2092 q1494 q137 (by decide +kernel) (by decide +kernel) (t := 15) h34 rfl rfl (by decide) rfl (Nat.le_of_ble_eq_true rfl) dX3_pairs_89 k0
      replace h31 := (bte_i h31).2 h34
      by_cases h35 : bg s4 0 v3 0 = 17
      · have hq0 := (bte_i h31).1 h35
        exact r_callFD hκ (n' := 0) (index := 74) (C := "EditsMeet$Mark") (w_X5_deletes Γ0 l0 hq0) (lw_meth q1496) q2092 q1494 q137 (by decide +kernel) (by decide +kernel) (t := 16) h35 rfl rfl (by decide) rfl (Nat.le_of_ble_eq_true rfl) dX3_pairs_89 k0
      replace h31 := (bte_i h31).2 h35
      cases h31
    refine r_if_eq hκ (tgt := 101) (by decide) dX3_pairs_94 (fun h36 => ?_) (fun h36 => ?_)
    · replace h := (bte_i h).1 h36
      refine r_aload_n hκ 2 rfl rfl dX3_pairs_101 ?_
      obtain ⟨h37, h⟩ := bck_i h
      refine r_get hκ (t := 3) (k := 0) (r := 94) h37 rfl in_X3 (by decide) rfl q418 (Or.inl rfl) dX3_pairs_102 ?_
      obtain ⟨h38, h⟩ := bck_i h
      obtain ⟨s10, v10, h39, h⟩ := bcl_i h
      refine r_callV hκ (n' := 0) (index := 65) (w_X4_here Γ0 l0 h39) (lw_V q2072 q1735 q1736 q136 q1737) (by decide +kernel) (t := 4) h38 rfl rfl (by decide) rfl (Nat.le_of_ble_eq_true rfl) dX3_pairs_105 ?_
      refine r_aload_n hκ 0 rfl rfl dX3_pairs_108 ?_
      obtain ⟨s11, v11, h40, h⟩ := bcl_i h
      refine r_callS hκ (n' := 2) (index := 86) (w_X3_both Γ0 l0 h40) (lw_S q2117 q2118 q135 q2119) (by decide +kernel) rfl (by decide) rfl (Nat.le_of_ble_eq_true rfl) dX3_pairs_109 ?_
      exact r_sub [2, 1] rfl (w_X3_pairs_r hκ hi hf 1 _ _ _ _ _ h)
    · replace h := (bte_i h).2 h36
      refine r_aload_n hκ 0 rfl rfl dX3_pairs_97 ?_
      refine r_goto hκ (tgt := 112) (by decide) dX3_pairs_98 ?_
      exact r_sub [2, 1] rfl (w_X3_pairs_r hκ hi hf 1 _ _ _ _ _ h)
/-- EditsMeet$Weaver.behind(LEditsMeet$Edit;LEditsMeet$Edit;LEditsMeet$Edit;)LEditsMeet$Edit; -/
def F_X3_behind_r (b : Nat) (x0 x1 : Int) (s0 : bS) : Option (bS × Int) :=
  match b with
  | 0 =>
    bck (bg s0 0 x0 0 = 4) <|
    bck (bg s0 0 (bg s0 94 x0 0) 0 = 5) <|
    bcl (F_X4_hasNext s0 (bg s0 94 x0 0)) fun s4 v4 =>
    bte (i32 v4 = 0)
    (bck (bg s4 0 x0 0 = 4) <|
    bck (bg s4 0 (bg s4 98 x0 0) 0 = 5) <|
    bcl (F_X4_hasNext s4 (bg s4 98 x0 0)) fun s5 v5 =>
    bte (i32 v5 = 0)
    (bck (bg s5 0 x1 0 = 7) <|
    bcl (F_X8_ends s5 x1) fun s6 v6 =>
    some (s6, v6))
    (F_X3_behind_r 1 x0 x1 s5))
    (F_X3_behind_r 1 x0 x1 s4)
  | 1 =>
    bck (bg s0 0 x0 0 = 4) <|
    bck (bg s0 0 (bg s0 94 x0 0) 0 = 5) <|
    bcl (F_X4_isDelete s0 (bg s0 94 x0 0)) fun s7 v7 =>
    bte (i32 v7 = 0)
    (bck (bg s7 0 x0 0 = 4) <|
    bck (bg s7 0 (bg s7 98 x0 0) 0 = 5) <|
    bcl (F_X4_isInsert s7 (bg s7 98 x0 0)) fun s8 v8 =>
    bte (i32 v8 = 0)
    (bck (bg s8 0 x0 0 = 4) <|
    bcl (F_X3_pairs s8 x0 x1) fun s9 v9 =>
    F_X3_behind_r 0 x0 x1 s9)
    (bck (bg s8 0 x0 0 = 4) <|
    bck (bg s8 0 (bg s8 98 x0 0) 0 = 5) <|
    bcl (F_X4_next_2 s8 (bg s8 98 x0 0)) fun s10 v10 =>
    bck (bg s10 0 x1 0 = 7) <|
    bcl (F_X8_adds s10 x1 v10) fun s11 v11 =>
    F_X3_behind_r 0 x0 x1 s11))
    (bck (bg s7 0 x0 0 = 4) <|
    bck (bg s7 0 (bg s7 94 x0 0) 0 = 5) <|
    bcl (F_X4_here s7 (bg s7 94 x0 0)) fun s12 v12 =>
    bck (bg s12 0 x0 0 = 4) <|
    bck (bg s12 0 (bg s12 94 x0 0) 0 = 5) <|
    bcl (F_X4_left s12 (bg s12 94 x0 0)) fun s13 v13 =>
    bck (bg s13 0 x1 0 = 7) <|
    bcl (F_X8_adds_2 s13 x1 v12 v13) fun s14 v14 =>
    bck (bg s14 0 x0 0 = 4) <|
    bck (bg s14 0 x0 0 = 4) <|
    bck (bg s14 0 (bg s14 94 x0 0) 0 = 5) <|
    bcl (F_X4_left s14 (bg s14 94 x0 0)) fun s15 v15 =>
    bck (bg s15 0 (bg s14 94 x0 0) 0 = 5) <|
    bcl (F_X4_skips s15 (bg s14 94 x0 0) v15) fun s16 v16 =>
    F_X3_behind_r 0 x0 x1 s16)
  | _ => none
partial_fixpoint
def F_X3_behind (s0 : bS) (a0 a1 a2 a3 : Int) : Option (bS × Int) :=
  bck (bg s0 0 a1 0 = 7) <|
  bcl (F_X8_empties s0 a1) fun s1 v1 =>
  bck (bg s1 0 a0 0 = 4) <|
  bck (bg s1 0 (bg s1 94 a0 0) 0 = 5) <|
  bcl (F_X4_along s1 (bg s1 94 a0 0) a2) fun s2 v2 =>
  bck (bg s2 0 a0 0 = 4) <|
  bck (bg s2 0 (bg s2 98 a0 0) 0 = 5) <|
  bcl (F_X4_along s2 (bg s2 98 a0 0) a3) fun s3 v3 =>
  F_X3_behind_r 0 a0 a1 s3
set_option maxHeartbeats 4000000 in
set_option maxRecDepth 100000 in
set_option synthInstance.maxHeartbeats 4000000 in
theorem w_X3_behind_r {Γ0 : bG} {l0 : Launch} {κ : bK} {st' : bS} {v : Int} (hκ : bOk κ Γ0 l0 cX3_behind RX3 4 12 287) (hi : bIn κ yX3_behind) (hf : bFin κ (some (.object "EditsMeet$Edit")) st' (some (2, v))) (b : Nat) (x0 x1 : Int) (s0 : bS) (h : F_X3_behind_r b x0 x1 s0 = some (st', v)) : match (generalizing := false) b with | 0 => bJ κ s0 22 [(0, (2, x0)), (1, (2, x1))] [] | 1 => bJ κ s0 42 [(0, (2, x0)), (1, (2, x1))] [] | _ => True := by
  refine F_X3_behind_r.partial_correctness x0 x1 (fun b s0 r => r = (st', v) → match (generalizing := false) b with | 0 => bJ κ s0 22 [(0, (2, x0)), (1, (2, x1))] [] | 1 => bJ κ s0 42 [(0, (2, x0)), (1, (2, x1))] [] | _ => True) ?_ b s0 _ h rfl
  intro f' ih b s0 r h hr
  subst hr
  match b, h with
  | 0, h =>
      refine r_aload_n hκ 0 rfl rfl dX3_behind_22 ?_
      obtain ⟨h9, h⟩ := bck_i h
      refine r_get hκ (t := 3) (k := 0) (r := 94) h9 rfl in_X3 (by decide) rfl q418 (Or.inl rfl) dX3_behind_23 ?_
      obtain ⟨h10, h⟩ := bck_i h
      obtain ⟨s4, v4, h11, h⟩ := bcl_i h
      refine r_callV hκ (n' := 0) (index := 104) (w_X4_hasNext Γ0 l0 h11) (lw_V q2064 q1678 q3600 q136 q1680) (by decide +kernel) (t := 4) h10 rfl rfl (by decide) rfl (Nat.le_of_ble_eq_true rfl) dX3_behind_26 ?_
      refine r_if_ne hκ (tgt := 42) (by decide) dX3_behind_29 (fun h12 => ?_) (fun h12 => ?_)
      · replace h := (bte_i h).2 h12
        exact r_sub [0, 1] rfl (ih 1  _ _ h rfl)
      · replace h := (bte_i h).1 h12
        refine r_aload_n hκ 0 rfl rfl dX3_behind_32 ?_
        obtain ⟨h13, h⟩ := bck_i h
        refine r_get hκ (t := 3) (k := 1) (r := 98) h13 rfl in_X3 (by decide) rfl q419 (Or.inl rfl) dX3_behind_33 ?_
        obtain ⟨h14, h⟩ := bck_i h
        obtain ⟨s5, v5, h15, h⟩ := bcl_i h
        refine r_callV hκ (n' := 0) (index := 104) (w_X4_hasNext Γ0 l0 h15) (lw_V q2064 q1678 q3600 q136 q1680) (by decide +kernel) (t := 4) h14 rfl rfl (by decide) rfl (Nat.le_of_ble_eq_true rfl) dX3_behind_36 ?_
        refine r_if_eq hκ (tgt := 121) (by decide) dX3_behind_39 (fun h16 => ?_) (fun h16 => ?_)
        · replace h := (bte_i h).1 h16
          refine r_aload_n hκ 1 rfl rfl dX3_behind_121 ?_
          obtain ⟨h17, h⟩ := bck_i h
          obtain ⟨s6, v6, h18, h⟩ := bcl_i h
          refine r_callV hκ (n' := 0) (index := 120) (w_X8_ends Γ0 l0 h18) (lw_V q2127 q1394 q1395 q140 q1396) (by decide +kernel) (t := 6) h17 rfl rfl (by decide) rfl (Nat.le_of_ble_eq_true rfl) dX3_behind_122 ?_
          exact r_aretH hκ hf h rt_o dX3_behind_125
        · replace h := (bte_i h).2 h16
          exact r_sub [0, 1] rfl (ih 1  _ _ h rfl)
  | 1, h =>
      refine r_aload_n hκ 0 rfl rfl dX3_behind_42 ?_
      obtain ⟨h19, h⟩ := bck_i h
      refine r_get hκ (t := 3) (k := 0) (r := 94) h19 rfl in_X3 (by decide) rfl q418 (Or.inl rfl) dX3_behind_43 ?_
      obtain ⟨h20, h⟩ := bck_i h
      obtain ⟨s7, v7, h21, h⟩ := bcl_i h
      refine r_callV hκ (n' := 0) (index := 107) (w_X4_isDelete Γ0 l0 h21) (lw_V q2065 q2066 q2067 q136 q2068) (by decide +kernel) (t := 4) h20 rfl rfl (by decide) rfl (Nat.le_of_ble_eq_true rfl) dX3_behind_46 ?_
      refine r_if_eq hκ (tgt := 88) (by decide) dX3_behind_49 (fun h22 => ?_) (fun h22 => ?_)
      · replace h := (bte_i h).1 h22
        refine r_aload_n hκ 0 rfl rfl dX3_behind_88 ?_
        obtain ⟨h23, h⟩ := bck_i h
        refine r_get hκ (t := 3) (k := 1) (r := 98) h23 rfl in_X3 (by decide) rfl q419 (Or.inl rfl) dX3_behind_89 ?_
        obtain ⟨h24, h⟩ := bck_i h
        obtain ⟨s8, v8, h25, h⟩ := bcl_i h
        refine r_callV hκ (n' := 0) (index := 110) (w_X4_isInsert Γ0 l0 h25) (lw_V q2076 q2077 q2078 q136 q2079) (by decide +kernel) (t := 4) h24 rfl rfl (by decide) rfl (Nat.le_of_ble_eq_true rfl) dX3_behind_92 ?_
        refine r_if_eq hκ (tgt := 113) (by decide) dX3_behind_95 (fun h26 => ?_) (fun h26 => ?_)
        · replace h := (bte_i h).1 h26
          refine r_aload_n hκ 0 rfl rfl dX3_behind_113 ?_
          refine r_aload_n hκ 1 rfl rfl dX3_behind_114 ?_
          obtain ⟨h27, h⟩ := bck_i h
          obtain ⟨s9, v9, h28, h⟩ := bcl_i h
          refine r_callV hκ (n' := 1) (index := 116) (w_X3_pairs Γ0 l0 h28) (lw_V q2084 q2086 qs30 q135 q2087) (by decide +kernel) (t := 3) h27 rfl rfl (by decide) rfl (Nat.le_of_ble_eq_true rfl) dX3_behind_115 ?_
          refine r_goto hκ (tgt := 22) (by decide) dX3_behind_118 ?_
          exact r_sub [0, 1] rfl (ih 0  _ _ h rfl)
        · replace h := (bte_i h).2 h26
          refine r_aload_n hκ 1 rfl rfl dX3_behind_98 ?_
          refine r_aload_n hκ 0 rfl rfl dX3_behind_99 ?_
          obtain ⟨h29, h⟩ := bck_i h
          refine r_get hκ (t := 3) (k := 1) (r := 98) h29 rfl in_X3 (by decide) rfl q419 (Or.inl rfl) dX3_behind_100 ?_
          obtain ⟨h30, h⟩ := bck_i h
          obtain ⟨s10, v10, h31, h⟩ := bcl_i h
          refine r_callV hκ (n' := 0) (index := 113) (w_X4_next_2 Γ0 l0 h31) (lw_V q2082 q1727 q1728 q136 q1729) (by decide +kernel) (t := 4) h30 rfl rfl (by decide) rfl (Nat.le_of_ble_eq_true rfl) dX3_behind_103 ?_
          obtain ⟨h32, h⟩ := bck_i h
          obtain ⟨s11, v11, h33, h⟩ := bcl_i h
          refine r_callV hκ (n' := 1) (index := 82) (w_X8_adds Γ0 l0 h33) (lw_V q2083 q1354 q1355 q140 q1356) (by decide +kernel) (t := 6) h32 rfl rfl (by decide) rfl (Nat.le_of_ble_eq_true rfl) dX3_behind_106 ?_
          refine r_pop hκ (bd_cat2k _) dX3_behind_109 ?_
          refine r_goto hκ (tgt := 22) (by decide) dX3_behind_110 ?_
          exact r_sub [0, 1] rfl (ih 0  _ _ h rfl)
      · replace h := (bte_i h).2 h22
        refine r_aload_n hκ 1 rfl rfl dX3_behind_52 ?_
        refine r_aload_n hκ 0 rfl rfl dX3_behind_53 ?_
        obtain ⟨h34, h⟩ := bck_i h
        refine r_get hκ (t := 3) (k := 0) (r := 94) h34 rfl in_X3 (by decide) rfl q418 (Or.inl rfl) dX3_behind_54 ?_
        obtain ⟨h35, h⟩ := bck_i h
        obtain ⟨s12, v12, h36, h⟩ := bcl_i h
        refine r_callV hκ (n' := 0) (index := 65) (w_X4_here Γ0 l0 h36) (lw_V q2072 q1735 q1736 q136 q1737) (by decide +kernel) (t := 4) h35 rfl rfl (by decide) rfl (Nat.le_of_ble_eq_true rfl) dX3_behind_57 ?_
        refine r_aload_n hκ 0 rfl rfl dX3_behind_60 ?_
        obtain ⟨h37, h⟩ := bck_i h
        refine r_get hκ (t := 3) (k := 0) (r := 94) h37 rfl in_X3 (by decide) rfl q418 (Or.inl rfl) dX3_behind_61 ?_
        obtain ⟨h38, h⟩ := bck_i h
        obtain ⟨s13, v13, h39, h⟩ := bcl_i h
        refine r_callV hκ (n' := 0) (index := 56) (w_X4_left Γ0 l0 h39) (lw_V q2073 q1731 q1732 q136 q1733) (by decide +kernel) (t := 4) h38 rfl rfl (by decide) rfl (Nat.le_of_ble_eq_true rfl) dX3_behind_64 ?_
        obtain ⟨h40, h⟩ := bck_i h
        obtain ⟨s14, v14, h41, h⟩ := bcl_i h
        refine r_callV hκ (n' := 2) (index := 90) (w_X8_adds_2 Γ0 l0 h41) (lw_V q2074 q1360 q1361 q140 q1362) (by decide +kernel) (t := 6) h40 rfl rfl (by decide) rfl (Nat.le_of_ble_eq_true rfl) dX3_behind_67 ?_
        refine r_pop hκ (bd_cat2k _) dX3_behind_70 ?_
        refine r_aload_n hκ 0 rfl rfl dX3_behind_71 ?_
        obtain ⟨h42, h⟩ := bck_i h
        refine r_get hκ (t := 3) (k := 0) (r := 94) h42 rfl in_X3 (by decide) rfl q418 (Or.inl rfl) dX3_behind_72 ?_
        refine r_aload_n hκ 0 rfl rfl dX3_behind_75 ?_
        obtain ⟨h43, h⟩ := bck_i h
        refine r_get hκ (t := 3) (k := 0) (r := 94) h43 rfl in_X3 (by decide) rfl q418 (Or.inl rfl) dX3_behind_76 ?_
        obtain ⟨h44, h⟩ := bck_i h
        obtain ⟨s15, v15, h45, h⟩ := bcl_i h
        refine r_callV hκ (n' := 0) (index := 56) (w_X4_left Γ0 l0 h45) (lw_V q2073 q1731 q1732 q136 q1733) (by decide +kernel) (t := 4) h44 rfl rfl (by decide) rfl (Nat.le_of_ble_eq_true rfl) dX3_behind_79 ?_
        obtain ⟨h46, h⟩ := bck_i h
        obtain ⟨s16, v16, h47, h⟩ := bcl_i h
        refine r_callV hκ (n' := 1) (index := 93) (w_X4_skips Γ0 l0 h47) (lw_V q2075 q1790 q1791 q136 q1792) (by decide +kernel) (t := 4) h46 rfl rfl (by decide) rfl (Nat.le_of_ble_eq_true rfl) dX3_behind_82 ?_
        refine r_goto hκ (tgt := 22) (by decide) dX3_behind_85 ?_
        exact r_sub [0, 1] rfl (ih 0  _ _ h rfl)
  | b + 2, h => trivial
set_option maxHeartbeats 4000000 in
set_option maxRecDepth 100000 in
theorem w_X3_behind (Γ0 : bG) (l0 : Launch) {s0 st' : bS} {v a0 a1 a2 a3 : Int} (h : F_X3_behind s0 a0 a1 a2 a3 = some (st', v)) : bCt Γ0 l0 yX3_behind cX3_behind 4 (some (.object "EditsMeet$Edit")) 12 287 [(2, a0), (2, a1), (2, a2), (2, a3)] s0 st' (some (2, v)) := by
  refine b_ent (own := RX3) (by decide +kernel) rfl (Nat.le_of_ble_eq_true rfl) (L := [(0, (2, a0)), (1, (2, a1)), (2, (2, a2)), (3, (2, a3))]) rfl ?_
  intro κ hκ hi hf
  unfold F_X3_behind at h
  refine r_aload_n hκ 1 rfl rfl dX3_behind_0 ?_
  obtain ⟨h1, h⟩ := bck_i h
  obtain ⟨s1, v1, h2, h⟩ := bcl_i h
  refine r_callV hκ (n' := 0) (index := 97) (w_X8_empties Γ0 l0 h2) (lw_V q2055 q2056 q2057 q140 q2058) (by decide +kernel) (t := 6) h1 rfl rfl (by decide) rfl (Nat.le_of_ble_eq_true rfl) dX3_behind_1 ?_
  refine r_aload_n hκ 0 rfl rfl dX3_behind_4 ?_
  obtain ⟨h3, h⟩ := bck_i h
  refine r_get hκ (t := 3) (k := 0) (r := 94) h3 rfl in_X3 (by decide) rfl q418 (Or.inl rfl) dX3_behind_5 ?_
  refine r_aload_n hκ 2 rfl rfl dX3_behind_8 ?_
  obtain ⟨h4, h⟩ := bck_i h
  obtain ⟨s2, v2, h5, h⟩ := bcl_i h
  refine r_callV hκ (n' := 1) (index := 100) (w_X4_along Γ0 l0 h5) (lw_V q2063 q1668 q1669 q136 q1670) (by decide +kernel) (t := 4) h4 rfl rfl (by decide) rfl (Nat.le_of_ble_eq_true rfl) dX3_behind_9 ?_
  refine r_pop hκ (bd_cat2k _) dX3_behind_12 ?_
  refine r_aload_n hκ 0 rfl rfl dX3_behind_13 ?_
  obtain ⟨h6, h⟩ := bck_i h
  refine r_get hκ (t := 3) (k := 1) (r := 98) h6 rfl in_X3 (by decide) rfl q419 (Or.inl rfl) dX3_behind_14 ?_
  refine r_aload_n hκ 3 rfl rfl dX3_behind_17 ?_
  obtain ⟨h7, h⟩ := bck_i h
  obtain ⟨s3, v3, h8, h⟩ := bcl_i h
  refine r_callV hκ (n' := 1) (index := 100) (w_X4_along Γ0 l0 h8) (lw_V q2063 q1668 q1669 q136 q1670) (by decide +kernel) (t := 4) h7 rfl rfl (by decide) rfl (Nat.le_of_ble_eq_true rfl) dX3_behind_18 ?_
  refine r_pop hκ (bd_cat2k _) dX3_behind_21 ?_
  exact r_sub [0, 1] rfl (w_X3_behind_r hκ hi hf 0 _ _ _ h)
/-- EditsMeet$Weaver.yields(LEditsMeet$Part;LEditsMeet$Part;Z)LEditsMeet$Part; -/
def F_X3_yields_2_r (b : Nat) (x0 x1 : Int) (s0 : bS) : Option (bS × Int) :=
  match b with
  | 0 =>
    bcl (bte (bg s0 0 x0 0 = 6) (F_X5_deletes s0 x0) (bte (bg s0 0 x0 0 = 15) (F_X5_deletes s0 x0) (bte (bg s0 0 x0 0 = 16) (F_X5_deletes s0 x0) (bte (bg s0 0 x0 0 = 17) (F_X5_deletes s0 x0) (none))))) fun s4 v4 =>
    bte (i32 v4 = 0)
    (bcl (bte (bg s4 0 x0 0 = 6) (F_X5_on s4 x0) (bte (bg s4 0 x0 0 = 15) (F_X5_on s4 x0) (bte (bg s4 0 x0 0 = 16) (F_X5_on s4 x0) (bte (bg s4 0 x0 0 = 17) (F_X18_on s4 x0) (none))))) fun s5 v5 =>
    bcl (bte (bg s5 0 x0 0 = 6) (F_X5_off s5 x0) (bte (bg s5 0 x0 0 = 15) (F_X5_off s5 x0) (bte (bg s5 0 x0 0 = 16) (F_X5_off s5 x0) (bte (bg s5 0 x0 0 = 17) (F_X18_off s5 x0) (none))))) fun s6 v6 =>
    bte (i32 (b_iand (b_ior v5 v6) x1) = 0)
    (some (s6, x0))
    (bcl (bte (bg s6 0 x0 0 = 6) (F_X6_n s6 x0) (bte (bg s6 0 x0 0 = 15) (F_X6_n s6 x0) (bte (bg s6 0 x0 0 = 16) (F_X17_n s6 x0) (bte (bg s6 0 x0 0 = 17) (F_X6_n s6 x0) (none))))) fun s7 v7 =>
    bcl (bte (bg s7 0 x0 0 = 6) (F_X5_on s7 x0) (bte (bg s7 0 x0 0 = 15) (F_X5_on s7 x0) (bte (bg s7 0 x0 0 = 16) (F_X5_on s7 x0) (bte (bg s7 0 x0 0 = 17) (F_X18_on s7 x0) (none))))) fun s8 v8 =>
    bcl (bte (bg s8 0 x0 0 = 6) (F_X5_off s8 x0) (bte (bg s8 0 x0 0 = 15) (F_X5_off s8 x0) (bte (bg s8 0 x0 0 = 16) (F_X5_off s8 x0) (bte (bg s8 0 x0 0 = 17) (F_X18_off s8 x0) (none))))) fun s9 v9 =>
    bcl (F_X5_mark s9 v7 (b_iand v8 (b_ixor x1 (-1))) (b_iand v9 (b_ixor x1 (-1)))) fun s10 v10 =>
    some (s10, v10)))
    (some (s4, x0))
  | _ => none
def F_X3_yields_2 (s0 : bS) (a0 a1 a2 : Int) : Option (bS × Int) :=
  bcl (bte (bg s0 0 a1 0 = 6) (F_X5_deletes s0 a1) (bte (bg s0 0 a1 0 = 15) (F_X5_deletes s0 a1) (bte (bg s0 0 a1 0 = 16) (F_X5_deletes s0 a1) (bte (bg s0 0 a1 0 = 17) (F_X5_deletes s0 a1) (none))))) fun s1 v1 =>
  bte (i32 v1 = 0)
  (bte (i32 a2 = 0)
  (F_X3_yields_2_r 0 a0 0 s1)
  (bcl (bte (bg s1 0 a1 0 = 6) (F_X5_on s1 a1) (bte (bg s1 0 a1 0 = 15) (F_X5_on s1 a1) (bte (bg s1 0 a1 0 = 16) (F_X5_on s1 a1) (bte (bg s1 0 a1 0 = 17) (F_X18_on s1 a1) (none))))) fun s2 v2 =>
  bcl (bte (bg s2 0 a1 0 = 6) (F_X5_off s2 a1) (bte (bg s2 0 a1 0 = 15) (F_X5_off s2 a1) (bte (bg s2 0 a1 0 = 16) (F_X5_off s2 a1) (bte (bg s2 0 a1 0 = 17) (F_X18_off s2 a1) (none))))) fun s3 v3 =>
  F_X3_yields_2_r 0 a0 (b_ior v2 v3) s3))
  (some (s1, (-1)))
set_option maxHeartbeats 4000000 in
set_option maxRecDepth 100000 in
set_option synthInstance.maxHeartbeats 4000000 in
theorem w_X3_yields_2_r {Γ0 : bG} {l0 : Launch} {κ : bK} {st' : bS} {v : Int} (hκ : bOk κ Γ0 l0 cX3_yields_2 RX3 4 5 107) (hi : bIn κ yX3_yields_2) (hf : bFin κ (some (.object "EditsMeet$Part")) st' (some (2, v))) (b : Nat) (x0 x1 : Int) (s0 : bS) (h : F_X3_yields_2_r b x0 x1 s0 = some (st', v)) : match (generalizing := false) b with | 0 => bJ κ s0 32 [(0, (2, x0))] [(0, x1)] | _ => True := by
  unfold F_X3_yields_2_r at h
  match b, h with
  | 0, h =>
      refine r_istore_n hκ (L2 := [(3, (0, x1)), (0, (2, x0))]) (by decide) rfl rfl dX3_yields_2_32 ?_
      refine r_aload_n hκ 1 rfl rfl dX3_yields_2_33 ?_
      obtain ⟨s4, v4, h18, h⟩ := bcl_i h
      refine r_seq (A := bJ κ s4 39 [(3, (0, x1)), (0, (2, x0))] [(0, v4)]) ?_ (fun k0 => ?_)
      case refine_2 =>
        by_cases h19 : bg s0 0 x0 0 = 6
        · have hq0 := (bte_i h18).1 h19
          exact r_callFD hκ (n' := 0) (index := 74) (C := "EditsMeet$Keep") (w_X5_deletes Γ0 l0 hq0) (lw_meth q1496) q2092 q1494 q137 (by decide +kernel) (by decide +kernel) (t := 5) h19 rfl rfl (by decide) rfl (Nat.le_of_ble_eq_true rfl) dX3_yields_2_34 k0
        replace h18 := (bte_i h18).2 h19
        by_cases h20 : bg s0 0 x0 0 = 15
        · have hq0 := (bte_i h18).1 h20
          exact r_callFD hκ (n' := 0) (index := 74) (C := "EditsMeet$Delete") (w_X5_deletes Γ0 l0 hq0) (lw_meth q1496) q2092 q1494 q137 (by decide +kernel) (by decide +kernel) (t := 14) h20 rfl rfl (by decide) rfl (Nat.le_of_ble_eq_true rfl) dX3_yields_2_34 k0
        replace h18 := (bte_i h18).2 h20
        by_cases h21 : bg s0 0 x0 0 = 16
        · have hq0 := (bte_i h18).1 h21
          exact r_callFD hκ (n' := 0) (index := 74) (C := "EditsMeet$Insert") (w_X5_deletes Γ0 l0 hq0) (lw_meth q1496) q2092 q1494 q137 (by decide +kernel) (by decide +kernel) (t := 15) h21 rfl rfl (by decide) rfl (Nat.le_of_ble_eq_true rfl) dX3_yields_2_34 k0
        replace h18 := (bte_i h18).2 h21
        by_cases h22 : bg s0 0 x0 0 = 17
        · have hq0 := (bte_i h18).1 h22
          exact r_callFD hκ (n' := 0) (index := 74) (C := "EditsMeet$Mark") (w_X5_deletes Γ0 l0 hq0) (lw_meth q1496) q2092 q1494 q137 (by decide +kernel) (by decide +kernel) (t := 16) h22 rfl rfl (by decide) rfl (Nat.le_of_ble_eq_true rfl) dX3_yields_2_34 k0
        replace h18 := (bte_i h18).2 h22
        cases h18
      refine r_if_ne hκ (tgt := 60) (by decide) dX3_yields_2_39 (fun h23 => ?_) (fun h23 => ?_)
      · replace h := (bte_i h).2 h23
        refine r_aload_n hκ 1 rfl rfl dX3_yields_2_60 ?_
        refine r_goto hκ (tgt := 93) (by decide) dX3_yields_2_61 ?_
        exact r_aretH hκ hf h rt_o dX3_yields_2_93
      · replace h := (bte_i h).1 h23
        refine r_aload_n hκ 1 rfl rfl dX3_yields_2_42 ?_
        obtain ⟨s5, v5, h24, h⟩ := bcl_i h
        refine r_seq (A := bJ κ s5 48 [(3, (0, x1)), (0, (2, x0))] [(0, v5)]) ?_ (fun k0 => ?_)
        case refine_2 =>
          by_cases h25 : bg s4 0 x0 0 = 6
          · have hq0 := (bte_i h24).1 h25
            exact r_callFD hκ (n' := 0) (index := 42) (C := "EditsMeet$Keep") (w_X5_on Γ0 l0 hq0) (lw_meth q949) q2121 q947 q137 (by decide +kernel) (by decide +kernel) (t := 5) h25 rfl rfl (by decide) rfl (Nat.le_of_ble_eq_true rfl) dX3_yields_2_43 k0
          replace h24 := (bte_i h24).2 h25
          by_cases h26 : bg s4 0 x0 0 = 15
          · have hq0 := (bte_i h24).1 h26
            exact r_callFD hκ (n' := 0) (index := 42) (C := "EditsMeet$Delete") (w_X5_on Γ0 l0 hq0) (lw_meth q949) q2121 q947 q137 (by decide +kernel) (by decide +kernel) (t := 14) h26 rfl rfl (by decide) rfl (Nat.le_of_ble_eq_true rfl) dX3_yields_2_43 k0
          replace h24 := (bte_i h24).2 h26
          by_cases h27 : bg s4 0 x0 0 = 16
          · have hq0 := (bte_i h24).1 h27
            exact r_callFD hκ (n' := 0) (index := 42) (C := "EditsMeet$Insert") (w_X5_on Γ0 l0 hq0) (lw_meth q949) q2121 q947 q137 (by decide +kernel) (by decide +kernel) (t := 15) h27 rfl rfl (by decide) rfl (Nat.le_of_ble_eq_true rfl) dX3_yields_2_43 k0
          replace h24 := (bte_i h24).2 h27
          by_cases h28 : bg s4 0 x0 0 = 17
          · have hq0 := (bte_i h24).1 h28
            exact r_callF hκ (n' := 0) (index := 42) (C := "EditsMeet$Mark") (w_X18_on Γ0 l0 hq0) (lw_app (lw_l4 q2121 q944 q945 q166) (lw_meth q946)) (by decide +kernel) (by decide +kernel) (t := 16) h28 rfl rfl (by decide) rfl (Nat.le_of_ble_eq_true rfl) dX3_yields_2_43 k0
          replace h24 := (bte_i h24).2 h28
          cases h24
        refine r_aload_n hκ 1 rfl rfl dX3_yields_2_48 ?_
        obtain ⟨s6, v6, h29, h⟩ := bcl_i h
        refine r_seq (A := bJ κ s6 54 [(3, (0, x1)), (0, (2, x0))] [(0, v6), (0, v5)]) ?_ (fun k0 => ?_)
        case refine_2 =>
          by_cases h30 : bg s5 0 x0 0 = 6
          · have hq0 := (bte_i h29).1 h30
            exact r_callFD hκ (n' := 0) (index := 46) (C := "EditsMeet$Keep") (w_X5_off Γ0 l0 hq0) (lw_meth q966) q2123 q964 q137 (by decide +kernel) (by decide +kernel) (t := 5) h30 rfl rfl (by decide) rfl (Nat.le_of_ble_eq_true rfl) dX3_yields_2_49 k0
          replace h29 := (bte_i h29).2 h30
          by_cases h31 : bg s5 0 x0 0 = 15
          · have hq0 := (bte_i h29).1 h31
            exact r_callFD hκ (n' := 0) (index := 46) (C := "EditsMeet$Delete") (w_X5_off Γ0 l0 hq0) (lw_meth q966) q2123 q964 q137 (by decide +kernel) (by decide +kernel) (t := 14) h31 rfl rfl (by decide) rfl (Nat.le_of_ble_eq_true rfl) dX3_yields_2_49 k0
          replace h29 := (bte_i h29).2 h31
          by_cases h32 : bg s5 0 x0 0 = 16
          · have hq0 := (bte_i h29).1 h32
            exact r_callFD hκ (n' := 0) (index := 46) (C := "EditsMeet$Insert") (w_X5_off Γ0 l0 hq0) (lw_meth q966) q2123 q964 q137 (by decide +kernel) (by decide +kernel) (t := 15) h32 rfl rfl (by decide) rfl (Nat.le_of_ble_eq_true rfl) dX3_yields_2_49 k0
          replace h29 := (bte_i h29).2 h32
          by_cases h33 : bg s5 0 x0 0 = 17
          · have hq0 := (bte_i h29).1 h33
            exact r_callF hκ (n' := 0) (index := 46) (C := "EditsMeet$Mark") (w_X18_off Γ0 l0 hq0) (lw_app (lw_l4 q2123 q961 q962 q166) (lw_meth q963)) (by decide +kernel) (by decide +kernel) (t := 16) h33 rfl rfl (by decide) rfl (Nat.le_of_ble_eq_true rfl) dX3_yields_2_49 k0
          replace h29 := (bte_i h29).2 h33
          cases h29
        refine r_ior hκ dX3_yields_2_54 ?_
        refine r_iload_n hκ 0 rfl rfl dX3_yields_2_55 ?_
        refine r_iand hκ dX3_yields_2_56 ?_
        refine r_if_ne hκ (tgt := 64) (by decide) dX3_yields_2_57 (fun h34 => ?_) (fun h34 => ?_)
        · replace h := (bte_i h).2 h34
          refine r_aload_n hκ 1 rfl rfl dX3_yields_2_64 ?_
          obtain ⟨s7, v7, h35, h⟩ := bcl_i h
          refine r_seq (A := bJ κ s7 70 [(3, (0, x1)), (0, (2, x0))] [(0, v7)]) ?_ (fun k0 => ?_)
          case refine_2 =>
            by_cases h36 : bg s6 0 x0 0 = 6
            · have hq0 := (bte_i h35).1 h36
              exact r_callF hκ (n' := 0) (index := 49) (C := "EditsMeet$Keep") (w_X6_n Γ0 l0 hq0) (lw_app (lw_l4 q2125 q882 q865 q138) (lw_meth q867)) (by decide +kernel) (by decide +kernel) (t := 5) h36 rfl rfl (by decide) rfl (Nat.le_of_ble_eq_true rfl) dX3_yields_2_65 k0
            replace h35 := (bte_i h35).2 h36
            by_cases h37 : bg s6 0 x0 0 = 15
            · have hq0 := (bte_i h35).1 h37
              exact r_callF hκ (n' := 0) (index := 49) (C := "EditsMeet$Delete") (w_X6_n Γ0 l0 hq0) (lw_app (lw_l4 q2125 q863 q865 q138) (lw_meth q867)) (by decide +kernel) (by decide +kernel) (t := 14) h37 rfl rfl (by decide) rfl (Nat.le_of_ble_eq_true rfl) dX3_yields_2_65 k0
            replace h35 := (bte_i h35).2 h37
            by_cases h38 : bg s6 0 x0 0 = 16
            · have hq0 := (bte_i h35).1 h38
              exact r_callF hκ (n' := 0) (index := 49) (C := "EditsMeet$Insert") (w_X17_n Γ0 l0 hq0) (lw_app (lw_l4 q2125 q868 q870 q165) (lw_meth q872)) (by decide +kernel) (by decide +kernel) (t := 15) h38 rfl rfl (by decide) rfl (Nat.le_of_ble_eq_true rfl) dX3_yields_2_65 k0
            replace h35 := (bte_i h35).2 h38
            by_cases h39 : bg s6 0 x0 0 = 17
            · have hq0 := (bte_i h35).1 h39
              exact r_callF hκ (n' := 0) (index := 49) (C := "EditsMeet$Mark") (w_X6_n Γ0 l0 hq0) (lw_app (lw_l4 q2125 q884 q865 q138) (lw_meth q867)) (by decide +kernel) (by decide +kernel) (t := 16) h39 rfl rfl (by decide) rfl (Nat.le_of_ble_eq_true rfl) dX3_yields_2_65 k0
            replace h35 := (bte_i h35).2 h39
            cases h35
          refine r_aload_n hκ 1 rfl rfl dX3_yields_2_70 ?_
          obtain ⟨s8, v8, h40, h⟩ := bcl_i h
          refine r_seq (A := bJ κ s8 76 [(3, (0, x1)), (0, (2, x0))] [(0, v8), (0, v7)]) ?_ (fun k0 => ?_)
          case refine_2 =>
            by_cases h41 : bg s7 0 x0 0 = 6
            · have hq0 := (bte_i h40).1 h41
              exact r_callFD hκ (n' := 0) (index := 42) (C := "EditsMeet$Keep") (w_X5_on Γ0 l0 hq0) (lw_meth q949) q2121 q947 q137 (by decide +kernel) (by decide +kernel) (t := 5) h41 rfl rfl (by decide) rfl (Nat.le_of_ble_eq_true rfl) dX3_yields_2_71 k0
            replace h40 := (bte_i h40).2 h41
            by_cases h42 : bg s7 0 x0 0 = 15
            · have hq0 := (bte_i h40).1 h42
              exact r_callFD hκ (n' := 0) (index := 42) (C := "EditsMeet$Delete") (w_X5_on Γ0 l0 hq0) (lw_meth q949) q2121 q947 q137 (by decide +kernel) (by decide +kernel) (t := 14) h42 rfl rfl (by decide) rfl (Nat.le_of_ble_eq_true rfl) dX3_yields_2_71 k0
            replace h40 := (bte_i h40).2 h42
            by_cases h43 : bg s7 0 x0 0 = 16
            · have hq0 := (bte_i h40).1 h43
              exact r_callFD hκ (n' := 0) (index := 42) (C := "EditsMeet$Insert") (w_X5_on Γ0 l0 hq0) (lw_meth q949) q2121 q947 q137 (by decide +kernel) (by decide +kernel) (t := 15) h43 rfl rfl (by decide) rfl (Nat.le_of_ble_eq_true rfl) dX3_yields_2_71 k0
            replace h40 := (bte_i h40).2 h43
            by_cases h44 : bg s7 0 x0 0 = 17
            · have hq0 := (bte_i h40).1 h44
              exact r_callF hκ (n' := 0) (index := 42) (C := "EditsMeet$Mark") (w_X18_on Γ0 l0 hq0) (lw_app (lw_l4 q2121 q944 q945 q166) (lw_meth q946)) (by decide +kernel) (by decide +kernel) (t := 16) h44 rfl rfl (by decide) rfl (Nat.le_of_ble_eq_true rfl) dX3_yields_2_71 k0
            replace h40 := (bte_i h40).2 h44
            cases h40
          refine r_iload_n hκ 0 rfl rfl dX3_yields_2_76 ?_
          refine r_iconst hκ dX3_yields_2_77 ?_
          refine r_ixor hκ dX3_yields_2_78 ?_
          refine r_iand hκ dX3_yields_2_79 ?_
          refine r_aload_n hκ 1 rfl rfl dX3_yields_2_80 ?_
          obtain ⟨s9, v9, h45, h⟩ := bcl_i h
          refine r_seq (A := bJ κ s9 86 [(3, (0, x1)), (0, (2, x0))] [(0, v9), (0, (b_iand v8 (b_ixor x1 (-1)))), (0, v7)]) ?_ (fun k0 => ?_)
          case refine_2 =>
            by_cases h46 : bg s8 0 x0 0 = 6
            · have hq0 := (bte_i h45).1 h46
              exact r_callFD hκ (n' := 0) (index := 46) (C := "EditsMeet$Keep") (w_X5_off Γ0 l0 hq0) (lw_meth q966) q2123 q964 q137 (by decide +kernel) (by decide +kernel) (t := 5) h46 rfl rfl (by decide) rfl (Nat.le_of_ble_eq_true rfl) dX3_yields_2_81 k0
            replace h45 := (bte_i h45).2 h46
            by_cases h47 : bg s8 0 x0 0 = 15
            · have hq0 := (bte_i h45).1 h47
              exact r_callFD hκ (n' := 0) (index := 46) (C := "EditsMeet$Delete") (w_X5_off Γ0 l0 hq0) (lw_meth q966) q2123 q964 q137 (by decide +kernel) (by decide +kernel) (t := 14) h47 rfl rfl (by decide) rfl (Nat.le_of_ble_eq_true rfl) dX3_yields_2_81 k0
            replace h45 := (bte_i h45).2 h47
            by_cases h48 : bg s8 0 x0 0 = 16
            · have hq0 := (bte_i h45).1 h48
              exact r_callFD hκ (n' := 0) (index := 46) (C := "EditsMeet$Insert") (w_X5_off Γ0 l0 hq0) (lw_meth q966) q2123 q964 q137 (by decide +kernel) (by decide +kernel) (t := 15) h48 rfl rfl (by decide) rfl (Nat.le_of_ble_eq_true rfl) dX3_yields_2_81 k0
            replace h45 := (bte_i h45).2 h48
            by_cases h49 : bg s8 0 x0 0 = 17
            · have hq0 := (bte_i h45).1 h49
              exact r_callF hκ (n' := 0) (index := 46) (C := "EditsMeet$Mark") (w_X18_off Γ0 l0 hq0) (lw_app (lw_l4 q2123 q961 q962 q166) (lw_meth q963)) (by decide +kernel) (by decide +kernel) (t := 16) h49 rfl rfl (by decide) rfl (Nat.le_of_ble_eq_true rfl) dX3_yields_2_81 k0
            replace h45 := (bte_i h45).2 h49
            cases h45
          refine r_iload_n hκ 0 rfl rfl dX3_yields_2_86 ?_
          refine r_iconst hκ dX3_yields_2_87 ?_
          refine r_ixor hκ dX3_yields_2_88 ?_
          refine r_iand hκ dX3_yields_2_89 ?_
          obtain ⟨s10, v10, h50, h⟩ := bcl_i h
          refine r_callS hκ (n' := 3) (index := 52) (w_X5_mark Γ0 l0 h50) (lw_S q2126 q1337 q137 q1338) (by decide +kernel) rfl (by decide) rfl (Nat.le_of_ble_eq_true rfl) dX3_yields_2_90 ?_
          exact r_aretH hκ hf h rt_o dX3_yields_2_93
        · replace h := (bte_i h).1 h34
          refine r_aload_n hκ 1 rfl rfl dX3_yields_2_60 ?_
          refine r_goto hκ (tgt := 93) (by decide) dX3_yields_2_61 ?_
          exact r_aretH hκ hf h rt_o dX3_yields_2_93
  | b + 1, h => trivial
set_option maxHeartbeats 4000000 in
set_option maxRecDepth 100000 in
theorem w_X3_yields_2 (Γ0 : bG) (l0 : Launch) {s0 st' : bS} {v a0 a1 a2 : Int} (h : F_X3_yields_2 s0 a0 a1 a2 = some (st', v)) : bCt Γ0 l0 yX3_yields_2 cX3_yields_2 4 (some (.object "EditsMeet$Part")) 5 107 [(2, a0), (2, a1), (0, a2)] s0 st' (some (2, v)) := by
  refine b_ent (own := RX3) (by decide +kernel) rfl (Nat.le_of_ble_eq_true rfl) (L := [(0, (2, a0)), (1, (2, a1)), (2, (0, a2))]) rfl ?_
  intro κ hκ hi hf
  unfold F_X3_yields_2 at h
  refine r_aload_n hκ 1 rfl rfl dX3_yields_2_0 ?_
  obtain ⟨s1, v1, h1, h⟩ := bcl_i h
  refine r_seq (A := bJ κ s1 6 [(0, (2, a0)), (1, (2, a1)), (2, (0, a2))] [(0, v1)]) ?_ (fun k0 => ?_)
  case refine_2 =>
    by_cases h2 : bg s0 0 a1 0 = 6
    · have hq0 := (bte_i h1).1 h2
      exact r_callFD hκ (n' := 0) (index := 74) (C := "EditsMeet$Keep") (w_X5_deletes Γ0 l0 hq0) (lw_meth q1496) q2092 q1494 q137 (by decide +kernel) (by decide +kernel) (t := 5) h2 rfl rfl (by decide) rfl (Nat.le_of_ble_eq_true rfl) dX3_yields_2_1 k0
    replace h1 := (bte_i h1).2 h2
    by_cases h3 : bg s0 0 a1 0 = 15
    · have hq0 := (bte_i h1).1 h3
      exact r_callFD hκ (n' := 0) (index := 74) (C := "EditsMeet$Delete") (w_X5_deletes Γ0 l0 hq0) (lw_meth q1496) q2092 q1494 q137 (by decide +kernel) (by decide +kernel) (t := 14) h3 rfl rfl (by decide) rfl (Nat.le_of_ble_eq_true rfl) dX3_yields_2_1 k0
    replace h1 := (bte_i h1).2 h3
    by_cases h4 : bg s0 0 a1 0 = 16
    · have hq0 := (bte_i h1).1 h4
      exact r_callFD hκ (n' := 0) (index := 74) (C := "EditsMeet$Insert") (w_X5_deletes Γ0 l0 hq0) (lw_meth q1496) q2092 q1494 q137 (by decide +kernel) (by decide +kernel) (t := 15) h4 rfl rfl (by decide) rfl (Nat.le_of_ble_eq_true rfl) dX3_yields_2_1 k0
    replace h1 := (bte_i h1).2 h4
    by_cases h5 : bg s0 0 a1 0 = 17
    · have hq0 := (bte_i h1).1 h5
      exact r_callFD hκ (n' := 0) (index := 74) (C := "EditsMeet$Mark") (w_X5_deletes Γ0 l0 hq0) (lw_meth q1496) q2092 q1494 q137 (by decide +kernel) (by decide +kernel) (t := 16) h5 rfl rfl (by decide) rfl (Nat.le_of_ble_eq_true rfl) dX3_yields_2_1 k0
    replace h1 := (bte_i h1).2 h5
    cases h1
  refine r_if_eq hκ (tgt := 11) (by decide) dX3_yields_2_6 (fun h6 => ?_) (fun h6 => ?_)
  · replace h := (bte_i h).1 h6
    refine r_iload_n hκ 2 rfl rfl dX3_yields_2_11 ?_
    refine r_if_eq hκ (tgt := 31) (by decide) dX3_yields_2_12 (fun h7 => ?_) (fun h7 => ?_)
    · replace h := (bte_i h).1 h7
      refine r_iconst hκ dX3_yields_2_31 ?_
      exact r_sub [0] rfl (w_X3_yields_2_r hκ hi hf 0 _ _ _ h)
    · replace h := (bte_i h).2 h7
      refine r_aload_n hκ 1 rfl rfl dX3_yields_2_15 ?_
      obtain ⟨s2, v2, h8, h⟩ := bcl_i h
      refine r_seq (A := bJ κ s2 21 [(0, (2, a0)), (1, (2, a1)), (2, (0, a2))] [(0, v2)]) ?_ (fun k0 => ?_)
      case refine_2 =>
        by_cases h9 : bg s1 0 a1 0 = 6
        · have hq0 := (bte_i h8).1 h9
          exact r_callFD hκ (n' := 0) (index := 42) (C := "EditsMeet$Keep") (w_X5_on Γ0 l0 hq0) (lw_meth q949) q2121 q947 q137 (by decide +kernel) (by decide +kernel) (t := 5) h9 rfl rfl (by decide) rfl (Nat.le_of_ble_eq_true rfl) dX3_yields_2_16 k0
        replace h8 := (bte_i h8).2 h9
        by_cases h10 : bg s1 0 a1 0 = 15
        · have hq0 := (bte_i h8).1 h10
          exact r_callFD hκ (n' := 0) (index := 42) (C := "EditsMeet$Delete") (w_X5_on Γ0 l0 hq0) (lw_meth q949) q2121 q947 q137 (by decide +kernel) (by decide +kernel) (t := 14) h10 rfl rfl (by decide) rfl (Nat.le_of_ble_eq_true rfl) dX3_yields_2_16 k0
        replace h8 := (bte_i h8).2 h10
        by_cases h11 : bg s1 0 a1 0 = 16
        · have hq0 := (bte_i h8).1 h11
          exact r_callFD hκ (n' := 0) (index := 42) (C := "EditsMeet$Insert") (w_X5_on Γ0 l0 hq0) (lw_meth q949) q2121 q947 q137 (by decide +kernel) (by decide +kernel) (t := 15) h11 rfl rfl (by decide) rfl (Nat.le_of_ble_eq_true rfl) dX3_yields_2_16 k0
        replace h8 := (bte_i h8).2 h11
        by_cases h12 : bg s1 0 a1 0 = 17
        · have hq0 := (bte_i h8).1 h12
          exact r_callF hκ (n' := 0) (index := 42) (C := "EditsMeet$Mark") (w_X18_on Γ0 l0 hq0) (lw_app (lw_l4 q2121 q944 q945 q166) (lw_meth q946)) (by decide +kernel) (by decide +kernel) (t := 16) h12 rfl rfl (by decide) rfl (Nat.le_of_ble_eq_true rfl) dX3_yields_2_16 k0
        replace h8 := (bte_i h8).2 h12
        cases h8
      refine r_aload_n hκ 1 rfl rfl dX3_yields_2_21 ?_
      obtain ⟨s3, v3, h13, h⟩ := bcl_i h
      refine r_seq (A := bJ κ s3 27 [(0, (2, a0)), (1, (2, a1)), (2, (0, a2))] [(0, v3), (0, v2)]) ?_ (fun k0 => ?_)
      case refine_2 =>
        by_cases h14 : bg s2 0 a1 0 = 6
        · have hq0 := (bte_i h13).1 h14
          exact r_callFD hκ (n' := 0) (index := 46) (C := "EditsMeet$Keep") (w_X5_off Γ0 l0 hq0) (lw_meth q966) q2123 q964 q137 (by decide +kernel) (by decide +kernel) (t := 5) h14 rfl rfl (by decide) rfl (Nat.le_of_ble_eq_true rfl) dX3_yields_2_22 k0
        replace h13 := (bte_i h13).2 h14
        by_cases h15 : bg s2 0 a1 0 = 15
        · have hq0 := (bte_i h13).1 h15
          exact r_callFD hκ (n' := 0) (index := 46) (C := "EditsMeet$Delete") (w_X5_off Γ0 l0 hq0) (lw_meth q966) q2123 q964 q137 (by decide +kernel) (by decide +kernel) (t := 14) h15 rfl rfl (by decide) rfl (Nat.le_of_ble_eq_true rfl) dX3_yields_2_22 k0
        replace h13 := (bte_i h13).2 h15
        by_cases h16 : bg s2 0 a1 0 = 16
        · have hq0 := (bte_i h13).1 h16
          exact r_callFD hκ (n' := 0) (index := 46) (C := "EditsMeet$Insert") (w_X5_off Γ0 l0 hq0) (lw_meth q966) q2123 q964 q137 (by decide +kernel) (by decide +kernel) (t := 15) h16 rfl rfl (by decide) rfl (Nat.le_of_ble_eq_true rfl) dX3_yields_2_22 k0
        replace h13 := (bte_i h13).2 h16
        by_cases h17 : bg s2 0 a1 0 = 17
        · have hq0 := (bte_i h13).1 h17
          exact r_callF hκ (n' := 0) (index := 46) (C := "EditsMeet$Mark") (w_X18_off Γ0 l0 hq0) (lw_app (lw_l4 q2123 q961 q962 q166) (lw_meth q963)) (by decide +kernel) (by decide +kernel) (t := 16) h17 rfl rfl (by decide) rfl (Nat.le_of_ble_eq_true rfl) dX3_yields_2_22 k0
        replace h13 := (bte_i h13).2 h17
        cases h13
      refine r_ior hκ dX3_yields_2_27 ?_
      refine r_goto hκ (tgt := 32) (by decide) dX3_yields_2_28 ?_
      exact r_sub [0] rfl (w_X3_yields_2_r hκ hi hf 0 _ _ _ h)
  · replace h := (bte_i h).2 h6
    refine r_null hκ dX3_yields_2_9 ?_
    exact r_aretH hκ hf h rt_o dX3_yields_2_10
/-- EditsMeet$Weaver.yields(LEditsMeet$Edit;Z)V -/
def F_X3_yields_r (b : Nat) (x0 x1 : Int) (s0 : bS) : Option (bS × Int) :=
  match b with
  | 0 =>
    bck (bg s0 0 x0 0 = 4) <|
    bck (bg s0 0 (bg s0 94 x0 0) 0 = 5) <|
    bcl (F_X4_skips s0 (bg s0 94 x0 0) x1) fun s7 v7 =>
    bck (bg s7 0 x0 0 = 4) <|
    bck (bg s7 0 (bg s7 98 x0 0) 0 = 5) <|
    bcl (F_X4_skips s7 (bg s7 98 x0 0) x1) fun s8 v8 =>
    some (s8, 0)
  | _ => none
def F_X3_yields (s0 : bS) (a0 a1 a2 : Int) : Option (bS × Int) :=
  bck (bg s0 0 a0 0 = 4) <|
  bck (bg s0 0 (bg s0 94 a0 0) 0 = 5) <|
  bcl (F_X4_left s0 (bg s0 94 a0 0)) fun s1 v1 =>
  bck (bg s1 0 a0 0 = 4) <|
  bck (bg s1 0 (bg s1 98 a0 0) 0 = 5) <|
  bcl (F_X4_left s1 (bg s1 98 a0 0)) fun s2 v2 =>
  bck (bg s2 0 a0 0 = 4) <|
  bck (bg s2 0 (bg s2 94 a0 0) 0 = 5) <|
  bcl (F_X4_here s2 (bg s2 94 a0 0)) fun s3 v3 =>
  bck (bg s3 0 a0 0 = 4) <|
  bck (bg s3 0 (bg s3 98 a0 0) 0 = 5) <|
  bcl (F_X4_here s3 (bg s3 98 a0 0)) fun s4 v4 =>
  bcl (F_X3_yields_2 s4 v3 v4 a2) fun s5 v5 =>
  bte (v5 < 0)
  (F_X3_yields_r 0 a0 (b_min v1 v2) s5)
  (bck (bg s5 0 a1 0 = 7) <|
  bcl (F_X8_adds_2 s5 a1 v5 (b_min v1 v2)) fun s6 v6 =>
  F_X3_yields_r 0 a0 (b_min v1 v2) s6)
set_option maxHeartbeats 4000000 in
set_option maxRecDepth 100000 in
set_option synthInstance.maxHeartbeats 4000000 in
theorem w_X3_yields_r {Γ0 : bG} {l0 : Launch} {κ : bK} {st' : bS} {v : Int} (hκ : bOk κ Γ0 l0 cX3_yields RX3 5 10 241) (hi : bIn κ yX3_yields) (hf : bFin κ none st' none) (b : Nat) (x0 x1 : Int) (s0 : bS) (h : F_X3_yields_r b x0 x1 s0 = some (st', v)) : match (generalizing := false) b with | 0 => bJ κ s0 51 [(0, (2, x0)), (3, (0, x1))] [] | _ => True := by
  unfold F_X3_yields_r at h
  match b, h with
  | 0, h =>
      refine r_aload_n hκ 0 rfl rfl dX3_yields_51 ?_
      obtain ⟨h17, h⟩ := bck_i h
      refine r_get hκ (t := 3) (k := 0) (r := 94) h17 rfl in_X3 (by decide) rfl q418 (Or.inl rfl) dX3_yields_52 ?_
      refine r_iload_n hκ 1 rfl rfl dX3_yields_55 ?_
      obtain ⟨h18, h⟩ := bck_i h
      obtain ⟨s7, v7, h19, h⟩ := bcl_i h
      refine r_callV hκ (n' := 1) (index := 93) (w_X4_skips Γ0 l0 h19) (lw_V q2075 q1790 q1791 q136 q1792) (by decide +kernel) (t := 4) h18 rfl rfl (by decide) rfl (Nat.le_of_ble_eq_true rfl) dX3_yields_56 ?_
      refine r_aload_n hκ 0 rfl rfl dX3_yields_59 ?_
      obtain ⟨h20, h⟩ := bck_i h
      refine r_get hκ (t := 3) (k := 1) (r := 98) h20 rfl in_X3 (by decide) rfl q419 (Or.inl rfl) dX3_yields_60 ?_
      refine r_iload_n hκ 1 rfl rfl dX3_yields_63 ?_
      obtain ⟨h21, h⟩ := bck_i h
      obtain ⟨s8, v8, h22, h⟩ := bcl_i h
      refine r_callV hκ (n' := 1) (index := 93) (w_X4_skips Γ0 l0 h22) (lw_V q2075 q1790 q1791 q136 q1792) (by decide +kernel) (t := 4) h21 rfl rfl (by decide) rfl (Nat.le_of_ble_eq_true rfl) dX3_yields_64 ?_
      exact r_vretH hκ hf h dX3_yields_67
  | b + 1, h => trivial
set_option maxHeartbeats 4000000 in
set_option maxRecDepth 100000 in
theorem w_X3_yields (Γ0 : bG) (l0 : Launch) {s0 st' : bS} {v a0 a1 a2 : Int} (h : F_X3_yields s0 a0 a1 a2 = some (st', v)) : bCt Γ0 l0 yX3_yields cX3_yields 5 none 10 241 [(2, a0), (2, a1), (0, a2)] s0 st' none := by
  refine b_ent (own := RX3) (by decide +kernel) rfl (Nat.le_of_ble_eq_true rfl) (L := [(0, (2, a0)), (1, (2, a1)), (2, (0, a2))]) rfl ?_
  intro κ hκ hi hf
  unfold F_X3_yields at h
  refine r_aload_n hκ 0 rfl rfl dX3_yields_0 ?_
  obtain ⟨h1, h⟩ := bck_i h
  refine r_get hκ (t := 3) (k := 0) (r := 94) h1 rfl in_X3 (by decide) rfl q418 (Or.inl rfl) dX3_yields_1 ?_
  obtain ⟨h2, h⟩ := bck_i h
  obtain ⟨s1, v1, h3, h⟩ := bcl_i h
  refine r_callV hκ (n' := 0) (index := 56) (w_X4_left Γ0 l0 h3) (lw_V q2073 q1731 q1732 q136 q1733) (by decide +kernel) (t := 4) h2 rfl rfl (by decide) rfl (Nat.le_of_ble_eq_true rfl) dX3_yields_4 ?_
  refine r_aload_n hκ 0 rfl rfl dX3_yields_7 ?_
  obtain ⟨h4, h⟩ := bck_i h
  refine r_get hκ (t := 3) (k := 1) (r := 98) h4 rfl in_X3 (by decide) rfl q419 (Or.inl rfl) dX3_yields_8 ?_
  obtain ⟨h5, h⟩ := bck_i h
  obtain ⟨s2, v2, h6, h⟩ := bcl_i h
  refine r_callV hκ (n' := 0) (index := 56) (w_X4_left Γ0 l0 h6) (lw_V q2073 q1731 q1732 q136 q1733) (by decide +kernel) (t := 4) h5 rfl rfl (by decide) rfl (Nat.le_of_ble_eq_true rfl) dX3_yields_11 ?_
  refine r_mmin hκ q2088 q1055 q161 q1056 (by decide) (Nat.le_of_ble_eq_true rfl) dX3_yields_14 ?_
  refine r_istore_n hκ (L2 := [(3, (0, (b_min v1 v2))), (0, (2, a0)), (1, (2, a1)), (2, (0, a2))]) (by decide) rfl rfl dX3_yields_17 ?_
  refine r_aload_n hκ 1 rfl rfl dX3_yields_18 ?_
  obtain ⟨h7, h⟩ := bck_i h
  refine r_get hκ (t := 3) (k := 0) (r := 94) h7 rfl in_X3 (by decide) rfl q418 (Or.inl rfl) dX3_yields_19 ?_
  obtain ⟨h8, h⟩ := bck_i h
  obtain ⟨s3, v3, h9, h⟩ := bcl_i h
  refine r_callV hκ (n' := 0) (index := 65) (w_X4_here Γ0 l0 h9) (lw_V q2072 q1735 q1736 q136 q1737) (by decide +kernel) (t := 4) h8 rfl rfl (by decide) rfl (Nat.le_of_ble_eq_true rfl) dX3_yields_22 ?_
  refine r_aload_n hκ 1 rfl rfl dX3_yields_25 ?_
  obtain ⟨h10, h⟩ := bck_i h
  refine r_get hκ (t := 3) (k := 1) (r := 98) h10 rfl in_X3 (by decide) rfl q419 (Or.inl rfl) dX3_yields_26 ?_
  obtain ⟨h11, h⟩ := bck_i h
  obtain ⟨s4, v4, h12, h⟩ := bcl_i h
  refine r_callV hκ (n' := 0) (index := 65) (w_X4_here Γ0 l0 h12) (lw_V q2072 q1735 q1736 q136 q1737) (by decide +kernel) (t := 4) h11 rfl rfl (by decide) rfl (Nat.le_of_ble_eq_true rfl) dX3_yields_29 ?_
  refine r_iload_n hκ 3 rfl rfl dX3_yields_32 ?_
  obtain ⟨s5, v5, h13, h⟩ := bcl_i h
  refine r_callS hκ (n' := 3) (index := 124) (w_X3_yields_2 Γ0 l0 h13) (lw_S q2149 q2150 q135 q2151) (by decide +kernel) rfl (by decide) rfl (Nat.le_of_ble_eq_true rfl) dX3_yields_33 ?_
  refine r_astore hκ (L2 := [(4, (2, v5)), (3, (0, (b_min v1 v2))), (0, (2, a0)), (1, (2, a1)), (2, (0, a2))]) (by decide) rfl dX3_yields_36 ?_
  refine r_aload hκ 0 rfl dX3_yields_38 ?_
  refine r_ifnull hκ (tgt := 51) (by decide) dX3_yields_40 (fun h14 => ?_) (fun h14 => ?_)
  · replace h := (bte_i h).1 h14
    exact r_sub [2, 1] rfl (w_X3_yields_r hκ hi hf 0 _ _ _ h)
  · replace h := (bte_i h).2 h14
    refine r_aload_n hκ 3 rfl rfl dX3_yields_43 ?_
    refine r_aload hκ 0 rfl dX3_yields_44 ?_
    refine r_iload_n hκ 1 rfl rfl dX3_yields_46 ?_
    obtain ⟨h15, h⟩ := bck_i h
    obtain ⟨s6, v6, h16, h⟩ := bcl_i h
    refine r_callV hκ (n' := 2) (index := 90) (w_X8_adds_2 Γ0 l0 h16) (lw_V q2074 q1360 q1361 q140 q1362) (by decide +kernel) (t := 6) h15 rfl rfl (by decide) rfl (Nat.le_of_ble_eq_true rfl) dX3_yields_47 ?_
    refine r_pop hκ (bd_cat2k _) dX3_yields_50 ?_
    exact r_sub [2, 1] rfl (w_X3_yields_r hκ hi hf 0 _ _ _ h)
/-- EditsMeet$Weaver.over(LEditsMeet$Edit;LEditsMeet$Edit;LEditsMeet$Edit;Z)LEditsMeet$Edit; -/
def F_X3_over_r (b : Nat) (x0 x1 x2 : Int) (s0 : bS) : Option (bS × Int) :=
  match b with
  | 0 =>
    bck (bg s0 0 x0 0 = 4) <|
    bck (bg s0 0 (bg s0 94 x0 0) 0 = 5) <|
    bcl (F_X4_hasNext s0 (bg s0 94 x0 0)) fun s4 v4 =>
    bte (i32 v4 = 0)
    (bck (bg s4 0 x0 0 = 4) <|
    bck (bg s4 0 (bg s4 98 x0 0) 0 = 5) <|
    bcl (F_X4_hasNext s4 (bg s4 98 x0 0)) fun s5 v5 =>
    bte (i32 v5 = 0)
    (bck (bg s5 0 x1 0 = 7) <|
    bcl (F_X8_ends s5 x1) fun s6 v6 =>
    some (s6, v6))
    (F_X3_over_r 1 x0 x1 x2 s5))
    (F_X3_over_r 1 x0 x1 x2 s4)
  | 1 =>
    bck (bg s0 0 x0 0 = 4) <|
    bck (bg s0 0 (bg s0 94 x0 0) 0 = 5) <|
    bcl (F_X4_isInsert s0 (bg s0 94 x0 0)) fun s7 v7 =>
    bte (i32 v7 = 0)
    (F_X3_over_r 3 x0 x1 x2 s7)
    (bte (i32 x2 = 0)
    (bck (bg s7 0 x0 0 = 4) <|
    bck (bg s7 0 (bg s7 98 x0 0) 0 = 5) <|
    bcl (F_X4_isInsert s7 (bg s7 98 x0 0)) fun s8 v8 =>
    bte (i32 v8 = 0)
    (F_X3_over_r 2 x0 x1 x2 s8)
    (F_X3_over_r 3 x0 x1 x2 s8))
    (F_X3_over_r 2 x0 x1 x2 s7))
  | 2 =>
    bck (bg s0 0 x0 0 = 4) <|
    bck (bg s0 0 (bg s0 94 x0 0) 0 = 5) <|
    bcl (F_X4_next_2 s0 (bg s0 94 x0 0)) fun s15 v15 =>
    bck (bg s15 0 x1 0 = 7) <|
    bcl (F_X8_adds s15 x1 v15) fun s16 v16 =>
    F_X3_over_r 0 x0 x1 x2 s16
  | 3 =>
    bck (bg s0 0 x0 0 = 4) <|
    bck (bg s0 0 (bg s0 98 x0 0) 0 = 5) <|
    bcl (F_X4_isInsert s0 (bg s0 98 x0 0)) fun s9 v9 =>
    bte (i32 v9 = 0)
    (bck (bg s9 0 x0 0 = 4) <|
    bcl (F_X3_yields s9 x0 x1 x2) fun s10 v10 =>
    F_X3_over_r 0 x0 x1 x2 s10)
    (bck (bg s9 0 x0 0 = 4) <|
    bck (bg s9 0 x0 0 = 4) <|
    bck (bg s9 0 (bg s9 98 x0 0) 0 = 5) <|
    bcl (F_X4_left s9 (bg s9 98 x0 0)) fun s11 v11 =>
    bck (bg s11 0 x1 0 = 7) <|
    bcl (F_X8_adds_2 s11 x1 (bg s9 102 x0 0) v11) fun s12 v12 =>
    bck (bg s12 0 x0 0 = 4) <|
    bck (bg s12 0 x0 0 = 4) <|
    bck (bg s12 0 (bg s12 98 x0 0) 0 = 5) <|
    bcl (F_X4_left s12 (bg s12 98 x0 0)) fun s13 v13 =>
    bck (bg s13 0 (bg s12 98 x0 0) 0 = 5) <|
    bcl (F_X4_skips s13 (bg s12 98 x0 0) v13) fun s14 v14 =>
    F_X3_over_r 0 x0 x1 x2 s14)
  | _ => none
partial_fixpoint
def F_X3_over (s0 : bS) (a0 a1 a2 a3 a4 : Int) : Option (bS × Int) :=
  bck (bg s0 0 a1 0 = 7) <|
  bcl (F_X8_empties s0 a1) fun s1 v1 =>
  bck (bg s1 0 a0 0 = 4) <|
  bck (bg s1 0 (bg s1 94 a0 0) 0 = 5) <|
  bcl (F_X4_along s1 (bg s1 94 a0 0) a2) fun s2 v2 =>
  bck (bg s2 0 a0 0 = 4) <|
  bck (bg s2 0 (bg s2 98 a0 0) 0 = 5) <|
  bcl (F_X4_along s2 (bg s2 98 a0 0) a3) fun s3 v3 =>
  F_X3_over_r 0 a0 a1 a4 s3
set_option maxHeartbeats 4000000 in
set_option maxRecDepth 100000 in
set_option synthInstance.maxHeartbeats 4000000 in
theorem w_X3_over_r {Γ0 : bG} {l0 : Launch} {κ : bK} {st' : bS} {v : Int} (hκ : bOk κ Γ0 l0 cX3_over RX3 5 11 265) (hi : bIn κ yX3_over) (hf : bFin κ (some (.object "EditsMeet$Edit")) st' (some (2, v))) (b : Nat) (x0 x1 x2 : Int) (s0 : bS) (h : F_X3_over_r b x0 x1 x2 s0 = some (st', v)) : match (generalizing := false) b with | 0 => bJ κ s0 22 [(0, (2, x0)), (1, (2, x1)), (4, (0, x2))] [] | 1 => bJ κ s0 42 [(0, (2, x0)), (1, (2, x1)), (4, (0, x2))] [] | 2 => bJ κ s0 67 [(0, (2, x0)), (1, (2, x1)), (4, (0, x2))] [] | 3 => bJ κ s0 82 [(0, (2, x0)), (1, (2, x1)), (4, (0, x2))] [] | _ => True := by
  refine F_X3_over_r.partial_correctness x0 x1 x2 (fun b s0 r => r = (st', v) → match (generalizing := false) b with | 0 => bJ κ s0 22 [(0, (2, x0)), (1, (2, x1)), (4, (0, x2))] [] | 1 => bJ κ s0 42 [(0, (2, x0)), (1, (2, x1)), (4, (0, x2))] [] | 2 => bJ κ s0 67 [(0, (2, x0)), (1, (2, x1)), (4, (0, x2))] [] | 3 => bJ κ s0 82 [(0, (2, x0)), (1, (2, x1)), (4, (0, x2))] [] | _ => True) ?_ b s0 _ h rfl
  intro f' ih b s0 r h hr
  subst hr
  match b, h with
  | 0, h =>
      refine r_aload_n hκ 0 rfl rfl dX3_over_22 ?_
      obtain ⟨h9, h⟩ := bck_i h
      refine r_get hκ (t := 3) (k := 0) (r := 94) h9 rfl in_X3 (by decide) rfl q418 (Or.inl rfl) dX3_over_23 ?_
      obtain ⟨h10, h⟩ := bck_i h
      obtain ⟨s4, v4, h11, h⟩ := bcl_i h
      refine r_callV hκ (n' := 0) (index := 104) (w_X4_hasNext Γ0 l0 h11) (lw_V q2064 q1678 q3600 q136 q1680) (by decide +kernel) (t := 4) h10 rfl rfl (by decide) rfl (Nat.le_of_ble_eq_true rfl) dX3_over_26 ?_
      refine r_if_ne hκ (tgt := 42) (by decide) dX3_over_29 (fun h12 => ?_) (fun h12 => ?_)
      · replace h := (bte_i h).2 h12
        exact r_sub [0, 1, 2] rfl (ih 1  _ _ h rfl)
      · replace h := (bte_i h).1 h12
        refine r_aload_n hκ 0 rfl rfl dX3_over_32 ?_
        obtain ⟨h13, h⟩ := bck_i h
        refine r_get hκ (t := 3) (k := 1) (r := 98) h13 rfl in_X3 (by decide) rfl q419 (Or.inl rfl) dX3_over_33 ?_
        obtain ⟨h14, h⟩ := bck_i h
        obtain ⟨s5, v5, h15, h⟩ := bcl_i h
        refine r_callV hκ (n' := 0) (index := 104) (w_X4_hasNext Γ0 l0 h15) (lw_V q2064 q1678 q3600 q136 q1680) (by decide +kernel) (t := 4) h14 rfl rfl (by decide) rfl (Nat.le_of_ble_eq_true rfl) dX3_over_36 ?_
        refine r_if_eq hκ (tgt := 135) (by decide) dX3_over_39 (fun h16 => ?_) (fun h16 => ?_)
        · replace h := (bte_i h).1 h16
          refine r_aload_n hκ 1 rfl rfl dX3_over_135 ?_
          obtain ⟨h17, h⟩ := bck_i h
          obtain ⟨s6, v6, h18, h⟩ := bcl_i h
          refine r_callV hκ (n' := 0) (index := 120) (w_X8_ends Γ0 l0 h18) (lw_V q2127 q1394 q1395 q140 q1396) (by decide +kernel) (t := 6) h17 rfl rfl (by decide) rfl (Nat.le_of_ble_eq_true rfl) dX3_over_136 ?_
          exact r_aretH hκ hf h rt_o dX3_over_139
        · replace h := (bte_i h).2 h16
          exact r_sub [0, 1, 2] rfl (ih 1  _ _ h rfl)
  | 1, h =>
      refine r_aload_n hκ 0 rfl rfl dX3_over_42 ?_
      obtain ⟨h19, h⟩ := bck_i h
      refine r_get hκ (t := 3) (k := 0) (r := 94) h19 rfl in_X3 (by decide) rfl q418 (Or.inl rfl) dX3_over_43 ?_
      obtain ⟨h20, h⟩ := bck_i h
      obtain ⟨s7, v7, h21, h⟩ := bcl_i h
      refine r_callV hκ (n' := 0) (index := 110) (w_X4_isInsert Γ0 l0 h21) (lw_V q2076 q2077 q2078 q136 q2079) (by decide +kernel) (t := 4) h20 rfl rfl (by decide) rfl (Nat.le_of_ble_eq_true rfl) dX3_over_46 ?_
      refine r_if_eq hκ (tgt := 82) (by decide) dX3_over_49 (fun h22 => ?_) (fun h22 => ?_)
      · replace h := (bte_i h).1 h22
        exact r_sub [0, 1, 2] rfl (ih 3  _ _ h rfl)
      · replace h := (bte_i h).2 h22
        refine r_iload hκ 2 rfl dX3_over_52 ?_
        refine r_if_ne hκ (tgt := 67) (by decide) dX3_over_54 (fun h23 => ?_) (fun h23 => ?_)
        · replace h := (bte_i h).2 h23
          exact r_sub [0, 1, 2] rfl (ih 2  _ _ h rfl)
        · replace h := (bte_i h).1 h23
          refine r_aload_n hκ 0 rfl rfl dX3_over_57 ?_
          obtain ⟨h24, h⟩ := bck_i h
          refine r_get hκ (t := 3) (k := 1) (r := 98) h24 rfl in_X3 (by decide) rfl q419 (Or.inl rfl) dX3_over_58 ?_
          obtain ⟨h25, h⟩ := bck_i h
          obtain ⟨s8, v8, h26, h⟩ := bcl_i h
          refine r_callV hκ (n' := 0) (index := 110) (w_X4_isInsert Γ0 l0 h26) (lw_V q2076 q2077 q2078 q136 q2079) (by decide +kernel) (t := 4) h25 rfl rfl (by decide) rfl (Nat.le_of_ble_eq_true rfl) dX3_over_61 ?_
          refine r_if_ne hκ (tgt := 82) (by decide) dX3_over_64 (fun h27 => ?_) (fun h27 => ?_)
          · replace h := (bte_i h).2 h27
            exact r_sub [0, 1, 2] rfl (ih 3  _ _ h rfl)
          · replace h := (bte_i h).1 h27
            exact r_sub [0, 1, 2] rfl (ih 2  _ _ h rfl)
  | 2, h =>
      refine r_aload_n hκ 1 rfl rfl dX3_over_67 ?_
      refine r_aload_n hκ 0 rfl rfl dX3_over_68 ?_
      obtain ⟨h46, h⟩ := bck_i h
      refine r_get hκ (t := 3) (k := 0) (r := 94) h46 rfl in_X3 (by decide) rfl q418 (Or.inl rfl) dX3_over_69 ?_
      obtain ⟨h47, h⟩ := bck_i h
      obtain ⟨s15, v15, h48, h⟩ := bcl_i h
      refine r_callV hκ (n' := 0) (index := 113) (w_X4_next_2 Γ0 l0 h48) (lw_V q2082 q1727 q1728 q136 q1729) (by decide +kernel) (t := 4) h47 rfl rfl (by decide) rfl (Nat.le_of_ble_eq_true rfl) dX3_over_72 ?_
      obtain ⟨h49, h⟩ := bck_i h
      obtain ⟨s16, v16, h50, h⟩ := bcl_i h
      refine r_callV hκ (n' := 1) (index := 82) (w_X8_adds Γ0 l0 h50) (lw_V q2083 q1354 q1355 q140 q1356) (by decide +kernel) (t := 6) h49 rfl rfl (by decide) rfl (Nat.le_of_ble_eq_true rfl) dX3_over_75 ?_
      refine r_pop hκ (bd_cat2k _) dX3_over_78 ?_
      refine r_goto hκ (tgt := 22) (by decide) dX3_over_79 ?_
      exact r_sub [0, 1, 2] rfl (ih 0  _ _ h rfl)
  | 3, h =>
      refine r_aload_n hκ 0 rfl rfl dX3_over_82 ?_
      obtain ⟨h28, h⟩ := bck_i h
      refine r_get hκ (t := 3) (k := 1) (r := 98) h28 rfl in_X3 (by decide) rfl q419 (Or.inl rfl) dX3_over_83 ?_
      obtain ⟨h29, h⟩ := bck_i h
      obtain ⟨s9, v9, h30, h⟩ := bcl_i h
      refine r_callV hκ (n' := 0) (index := 110) (w_X4_isInsert Γ0 l0 h30) (lw_V q2076 q2077 q2078 q136 q2079) (by decide +kernel) (t := 4) h29 rfl rfl (by decide) rfl (Nat.le_of_ble_eq_true rfl) dX3_over_86 ?_
      refine r_if_eq hκ (tgt := 125) (by decide) dX3_over_89 (fun h31 => ?_) (fun h31 => ?_)
      · replace h := (bte_i h).1 h31
        refine r_aload_n hκ 0 rfl rfl dX3_over_125 ?_
        refine r_aload_n hκ 1 rfl rfl dX3_over_126 ?_
        refine r_iload hκ 2 rfl dX3_over_127 ?_
        obtain ⟨h32, h⟩ := bck_i h
        obtain ⟨s10, v10, h33, h⟩ := bcl_i h
        refine r_callV hκ (n' := 2) (index := 128) (w_X3_yields Γ0 l0 h33) (lw_V q2145 q2147 qs33 q135 q2148) (by decide +kernel) (t := 3) h32 rfl rfl (by decide) rfl (Nat.le_of_ble_eq_true rfl) dX3_over_129 ?_
        refine r_goto hκ (tgt := 22) (by decide) dX3_over_132 ?_
        exact r_sub [0, 1, 2] rfl (ih 0  _ _ h rfl)
      · replace h := (bte_i h).2 h31
        refine r_aload_n hκ 1 rfl rfl dX3_over_92 ?_
        refine r_aload_n hκ 0 rfl rfl dX3_over_93 ?_
        obtain ⟨h34, h⟩ := bck_i h
        refine r_get hκ (t := 3) (k := 2) (r := 102) h34 rfl in_X3 (by decide) rfl q420 (Or.inl rfl) dX3_over_94 ?_
        refine r_aload_n hκ 0 rfl rfl dX3_over_97 ?_
        obtain ⟨h35, h⟩ := bck_i h
        refine r_get hκ (t := 3) (k := 1) (r := 98) h35 rfl in_X3 (by decide) rfl q419 (Or.inl rfl) dX3_over_98 ?_
        obtain ⟨h36, h⟩ := bck_i h
        obtain ⟨s11, v11, h37, h⟩ := bcl_i h
        refine r_callV hκ (n' := 0) (index := 56) (w_X4_left Γ0 l0 h37) (lw_V q2073 q1731 q1732 q136 q1733) (by decide +kernel) (t := 4) h36 rfl rfl (by decide) rfl (Nat.le_of_ble_eq_true rfl) dX3_over_101 ?_
        obtain ⟨h38, h⟩ := bck_i h
        obtain ⟨s12, v12, h39, h⟩ := bcl_i h
        refine r_callV hκ (n' := 2) (index := 90) (w_X8_adds_2 Γ0 l0 h39) (lw_V q2074 q1360 q1361 q140 q1362) (by decide +kernel) (t := 6) h38 rfl rfl (by decide) rfl (Nat.le_of_ble_eq_true rfl) dX3_over_104 ?_
        refine r_pop hκ (bd_cat2k _) dX3_over_107 ?_
        refine r_aload_n hκ 0 rfl rfl dX3_over_108 ?_
        obtain ⟨h40, h⟩ := bck_i h
        refine r_get hκ (t := 3) (k := 1) (r := 98) h40 rfl in_X3 (by decide) rfl q419 (Or.inl rfl) dX3_over_109 ?_
        refine r_aload_n hκ 0 rfl rfl dX3_over_112 ?_
        obtain ⟨h41, h⟩ := bck_i h
        refine r_get hκ (t := 3) (k := 1) (r := 98) h41 rfl in_X3 (by decide) rfl q419 (Or.inl rfl) dX3_over_113 ?_
        obtain ⟨h42, h⟩ := bck_i h
        obtain ⟨s13, v13, h43, h⟩ := bcl_i h
        refine r_callV hκ (n' := 0) (index := 56) (w_X4_left Γ0 l0 h43) (lw_V q2073 q1731 q1732 q136 q1733) (by decide +kernel) (t := 4) h42 rfl rfl (by decide) rfl (Nat.le_of_ble_eq_true rfl) dX3_over_116 ?_
        obtain ⟨h44, h⟩ := bck_i h
        obtain ⟨s14, v14, h45, h⟩ := bcl_i h
        refine r_callV hκ (n' := 1) (index := 93) (w_X4_skips Γ0 l0 h45) (lw_V q2075 q1790 q1791 q136 q1792) (by decide +kernel) (t := 4) h44 rfl rfl (by decide) rfl (Nat.le_of_ble_eq_true rfl) dX3_over_119 ?_
        refine r_goto hκ (tgt := 22) (by decide) dX3_over_122 ?_
        exact r_sub [0, 1, 2] rfl (ih 0  _ _ h rfl)
  | b + 4, h => trivial
set_option maxHeartbeats 4000000 in
set_option maxRecDepth 100000 in
theorem w_X3_over (Γ0 : bG) (l0 : Launch) {s0 st' : bS} {v a0 a1 a2 a3 a4 : Int} (h : F_X3_over s0 a0 a1 a2 a3 a4 = some (st', v)) : bCt Γ0 l0 yX3_over cX3_over 5 (some (.object "EditsMeet$Edit")) 11 265 [(2, a0), (2, a1), (2, a2), (2, a3), (0, a4)] s0 st' (some (2, v)) := by
  refine b_ent (own := RX3) (by decide +kernel) rfl (Nat.le_of_ble_eq_true rfl) (L := [(0, (2, a0)), (1, (2, a1)), (2, (2, a2)), (3, (2, a3)), (4, (0, a4))]) rfl ?_
  intro κ hκ hi hf
  unfold F_X3_over at h
  refine r_aload_n hκ 1 rfl rfl dX3_over_0 ?_
  obtain ⟨h1, h⟩ := bck_i h
  obtain ⟨s1, v1, h2, h⟩ := bcl_i h
  refine r_callV hκ (n' := 0) (index := 97) (w_X8_empties Γ0 l0 h2) (lw_V q2055 q2056 q2057 q140 q2058) (by decide +kernel) (t := 6) h1 rfl rfl (by decide) rfl (Nat.le_of_ble_eq_true rfl) dX3_over_1 ?_
  refine r_aload_n hκ 0 rfl rfl dX3_over_4 ?_
  obtain ⟨h3, h⟩ := bck_i h
  refine r_get hκ (t := 3) (k := 0) (r := 94) h3 rfl in_X3 (by decide) rfl q418 (Or.inl rfl) dX3_over_5 ?_
  refine r_aload_n hκ 2 rfl rfl dX3_over_8 ?_
  obtain ⟨h4, h⟩ := bck_i h
  obtain ⟨s2, v2, h5, h⟩ := bcl_i h
  refine r_callV hκ (n' := 1) (index := 100) (w_X4_along Γ0 l0 h5) (lw_V q2063 q1668 q1669 q136 q1670) (by decide +kernel) (t := 4) h4 rfl rfl (by decide) rfl (Nat.le_of_ble_eq_true rfl) dX3_over_9 ?_
  refine r_pop hκ (bd_cat2k _) dX3_over_12 ?_
  refine r_aload_n hκ 0 rfl rfl dX3_over_13 ?_
  obtain ⟨h6, h⟩ := bck_i h
  refine r_get hκ (t := 3) (k := 1) (r := 98) h6 rfl in_X3 (by decide) rfl q419 (Or.inl rfl) dX3_over_14 ?_
  refine r_aload_n hκ 3 rfl rfl dX3_over_17 ?_
  obtain ⟨h7, h⟩ := bck_i h
  obtain ⟨s3, v3, h8, h⟩ := bcl_i h
  refine r_callV hκ (n' := 1) (index := 100) (w_X4_along Γ0 l0 h8) (lw_V q2063 q1668 q1669 q136 q1670) (by decide +kernel) (t := 4) h7 rfl rfl (by decide) rfl (Nat.le_of_ble_eq_true rfl) dX3_over_18 ?_
  refine r_pop hκ (bd_cat2k _) dX3_over_21 ?_
  exact r_sub [0, 1, 4] rfl (w_X3_over_r hκ hi hf 0 _ _ _ _ h)
/-- EditsMeet$World.text(I)LEditsMeet$Text; -/
def F_X1_text (s0 : bS) (a0 a1 : Int) : Option (bS × Int) :=
  bte (i32 a1 = i32 4)
  (bck (bg s0 0 a0 0 = 2) <|
  some (s0, (bg s0 70 a0 0)))
  (bck (bg s0 0 a0 0 = 2) <|
  bck (bg s0 0 (bg s0 66 a0 0) 0 = 1007 ∧ (0 : Int) ≤ a1 ∧ a1 < bg s0 4 (bg s0 66 a0 0) 0) <|
  bck (bg s0 0 (bg s0 10 (bg s0 66 a0 0) a1) 0 = 8) <|
  some (s0, (bg s0 146 (bg s0 10 (bg s0 66 a0 0) a1) 0)))
set_option maxHeartbeats 4000000 in
set_option maxRecDepth 100000 in
theorem w_X1_text (Γ0 : bG) (l0 : Launch) {s0 st' : bS} {v a0 a1 : Int} (h : F_X1_text s0 a0 a1 = some (st', v)) : bCt Γ0 l0 yX1_text cX1_text 2 (some (.object "EditsMeet$Text")) 0 0 [(2, a0), (0, a1)] s0 st' (some (2, v)) := by
  refine b_ent (own := RX1) (by decide +kernel) rfl (Nat.le_of_ble_eq_true rfl) (L := [(0, (2, a0)), (1, (0, a1))]) rfl ?_
  intro κ hκ hi hf
  unfold F_X1_text at h
  refine r_iload_n hκ 1 rfl rfl dX1_text_0 ?_
  refine r_iconst hκ dX1_text_1 ?_
  refine r_icmp_ne hκ (tgt := 12) (by decide) dX1_text_2 (fun h1 => ?_) (fun h1 => ?_)
  · replace h := (bte_i h).2 h1
    refine r_aload_n hκ 0 rfl rfl dX1_text_12 ?_
    obtain ⟨h2, h⟩ := bck_i h
    refine r_get hκ (t := 1) (k := 0) (r := 66) h2 rfl in_X1 (by decide) rfl q539 (Or.inl rfl) dX1_text_13 ?_
    refine r_iload_n hκ 1 rfl rfl dX1_text_16 ?_
    obtain ⟨⟨h3, h4⟩, h⟩ := bck_i h
    refine r_aald hκ (t := 7) (by decide) h3 h4 dX1_text_17 ?_
    obtain ⟨h5, h⟩ := bck_i h
    refine r_get hκ (t := 7) (k := 0) (r := 146) h5 rfl in_X9 (by decide) rfl q485 (Or.inl rfl) dX1_text_18 ?_
    exact r_aretH hκ hf h rt_o dX1_text_21
  · replace h := (bte_i h).1 h1
    refine r_aload_n hκ 0 rfl rfl dX1_text_5 ?_
    obtain ⟨h6, h⟩ := bck_i h
    refine r_get hκ (t := 1) (k := 1) (r := 70) h6 rfl in_X1 (by decide) rfl q541 (Or.inl rfl) dX1_text_6 ?_
    refine r_goto hκ (tgt := 21) (by decide) dX1_text_9 ?_
    exact r_aretH hκ hf h rt_o dX1_text_21
/-- EditsMeet$Text.length()I -/
def F_X2_length (s0 : bS) (a0 : Int) : Option (bS × Int) :=
  bck (bg s0 0 a0 0 = 3) <|
  bck (bg s0 0 (bg s0 86 a0 0) 0 = 19) <|
  bcl (F_J1_length s0 (bg s0 86 a0 0)) fun s1 v1 =>
  some (s1, v1)
set_option maxHeartbeats 4000000 in
set_option maxRecDepth 100000 in
theorem w_X2_length (Γ0 : bG) (l0 : Launch) {s0 st' : bS} {v a0 : Int} (h : F_X2_length s0 a0 = some (st', v)) : bCt Γ0 l0 yX2_length cX2_length 1 (some .int) 2 40 [(2, a0)] s0 st' (some (0, v)) := by
  refine b_ent (own := RX2) (by decide +kernel) rfl (Nat.le_of_ble_eq_true rfl) (L := [(0, (2, a0))]) rfl ?_
  intro κ hκ hi hf
  unfold F_X2_length at h
  refine r_aload_n hκ 0 rfl rfl dX2_length_0 ?_
  obtain ⟨h1, h⟩ := bck_i h
  refine r_get hκ (t := 2) (k := 0) (r := 86) h1 rfl in_X2 (by decide) rfl q316 (Or.inl rfl) dX2_length_1 ?_
  obtain ⟨h2, h⟩ := bck_i h
  obtain ⟨s1, v1, h3, h⟩ := bcl_i h
  refine r_callV hκ (n' := 0) (index := 29) (w_J1_length Γ0 l0 h3) (lw_V q2170 q1147 q3592 q125 q1148) (by decide +kernel) (t := 18) h2 rfl rfl (by decide) rfl (Nat.le_of_ble_eq_true rfl) dX2_length_4 ?_
  exact r_iretH hκ hf h (nar_int _) dX2_length_7
/-- EditsMeet$Text.mark(I)I -/
def F_X2_mark (s0 : bS) (a0 a1 : Int) : Option (bS × Int) :=
  bck (bg s0 0 a0 0 = 3) <|
  bck (bg s0 0 (bg s0 90 a0 0) 0 = 19) <|
  bcl (F_J1_charAt s0 (bg s0 90 a0 0) a1) fun s1 v1 =>
  some (s1, v1)
set_option maxHeartbeats 4000000 in
set_option maxRecDepth 100000 in
theorem w_X2_mark (Γ0 : bG) (l0 : Launch) {s0 st' : bS} {v a0 a1 : Int} (h : F_X2_mark s0 a0 a1 = some (st', v)) : bCt Γ0 l0 yX2_mark cX2_mark 2 (some .int) 4 88 [(2, a0), (0, a1)] s0 st' (some (0, v)) := by
  refine b_ent (own := RX2) (by decide +kernel) rfl (Nat.le_of_ble_eq_true rfl) (L := [(0, (2, a0)), (1, (0, a1))]) rfl ?_
  intro κ hκ hi hf
  unfold F_X2_mark at h
  refine r_aload_n hκ 0 rfl rfl dX2_mark_0 ?_
  obtain ⟨h1, h⟩ := bck_i h
  refine r_get hκ (t := 2) (k := 1) (r := 90) h1 rfl in_X2 (by decide) rfl q317 (Or.inl rfl) dX2_mark_1 ?_
  refine r_iload_n hκ 1 rfl rfl dX2_mark_4 ?_
  obtain ⟨h2, h⟩ := bck_i h
  obtain ⟨s1, v1, h3, h⟩ := bcl_i h
  refine r_callV hκ (n' := 1) (index := 33) (w_J1_charAt Γ0 l0 h3) (lw_V q2210 q2034 q3602 q125 q2036) (by decide +kernel) (t := 18) h2 rfl rfl (by decide) rfl (Nat.le_of_ble_eq_true rfl) dX2_mark_5 ?_
  exact r_iretH hκ hf h (nar_int _) dX2_mark_8
/-- EditsMeet$Edit.turns(II)V -/
def F_X8_turns_r (b : Nat) (x0 x1 x2 x3 : Int) (s0 : bS) : Option (bS × Int) :=
  match b with
  | 0 =>
    F_X8_turns_r 1 x0 x1 x2 0 s0
  | 1 =>
    bte (i32 x3 = 0)
    (bcl (F_X5_mark s0 1 x1 x2) fun s4 v4 =>
    F_X8_turns_r 2 v4 x0 0 0 s4)
    (bck (bg s0 0 x0 0 = 7) <|
    F_X8_turns_r 2 (bg s0 138 x0 0) x0 0 0 s0)
  | 2 =>
    bck (bg s0 0 x1 0 = 7) <|
    bcl (F_X8_adds_2 s0 x1 x0 1) fun s5 v5 =>
    some (s5, 0)
  | _ => none
partial_fixpoint
def F_X8_turns (s0 : bS) (a0 a1 a2 : Int) : Option (bS × Int) :=
  bck (bg s0 0 a0 0 = 7) <|
  bte ((bg s0 138 a0 0) < 0)
  (F_X8_turns_r 0 a0 a1 a2 0 s0)
  (bck (bg s0 0 a0 0 = 7) <|
  bcl (bte (bg s0 0 (bg s0 138 a0 0) 0 = 6) (F_X5_deletes s0 (bg s0 138 a0 0)) (bte (bg s0 0 (bg s0 138 a0 0) 0 = 15) (F_X5_deletes s0 (bg s0 138 a0 0)) (bte (bg s0 0 (bg s0 138 a0 0) 0 = 17) (F_X5_deletes s0 (bg s0 138 a0 0)) (none)))) fun s1 v1 =>
  bte (i32 v1 = 0)
  (bck (bg s1 0 a0 0 = 7) <|
  bcl (bte (bg s1 0 (bg s1 138 a0 0) 0 = 6) (F_X5_on s1 (bg s1 138 a0 0)) (bte (bg s1 0 (bg s1 138 a0 0) 0 = 15) (F_X5_on s1 (bg s1 138 a0 0)) (none))) fun s2 v2 =>
  bte (i32 v2 = i32 a1)
  (bck (bg s2 0 a0 0 = 7) <|
  bcl (bte (bg s2 0 (bg s2 138 a0 0) 0 = 6) (F_X5_off s2 (bg s2 138 a0 0)) (bte (bg s2 0 (bg s2 138 a0 0) 0 = 15) (F_X5_off s2 (bg s2 138 a0 0)) (none))) fun s3 v3 =>
  bte (i32 v3 = i32 a2)
  (F_X8_turns_r 1 a0 a1 a2 1 s3)
  (F_X8_turns_r 0 a0 a1 a2 0 s3))
  (F_X8_turns_r 0 a0 a1 a2 0 s2))
  (F_X8_turns_r 0 a0 a1 a2 0 s1))
set_option maxHeartbeats 4000000 in
set_option maxRecDepth 100000 in
set_option synthInstance.maxHeartbeats 4000000 in
theorem w_X8_turns_r {Γ0 : bG} {l0 : Launch} {κ : bK} {st' : bS} {v : Int} (hκ : bOk κ Γ0 l0 cX8_turns RX8 4 10 241) (hi : bIn κ yX8_turns) (hf : bFin κ none st' none) (b : Nat) (x0 x1 x2 x3 : Int) (s0 : bS) (h : F_X8_turns_r b x0 x1 x2 x3 s0 = some (st', v)) : match (generalizing := false) b with | 0 => bJ κ s0 43 [(0, (2, x0)), (1, (0, x1)), (2, (0, x2))] [] | 1 => bJ κ s0 44 [(0, (2, x0)), (1, (0, x1)), (2, (0, x2))] [(0, x3)] | 2 => bJ κ s0 63 [] [(2, x0), (2, x1)] | _ => True := by
  refine F_X8_turns_r.partial_correctness (fun b x0 x1 x2 x3 s0 r => r = (st', v) → match (generalizing := false) b with | 0 => bJ κ s0 43 [(0, (2, x0)), (1, (0, x1)), (2, (0, x2))] [] | 1 => bJ κ s0 44 [(0, (2, x0)), (1, (0, x1)), (2, (0, x2))] [(0, x3)] | 2 => bJ κ s0 63 [] [(2, x0), (2, x1)] | _ => True) ?_ b x0 x1 x2 x3 s0 _ h rfl
  intro f' ih b x0 x1 x2 x3 s0 r h hr
  subst hr
  match b, h with
  | 0, h =>
      refine r_iconst hκ dX8_turns_43 ?_
      exact r_sub [0, 1, 2] rfl (ih 1 _ _ _ _ _ _ h rfl)
  | 1, h =>
      refine r_istore_n hκ (L2 := [(3, (0, x3)), (0, (2, x0)), (1, (0, x1)), (2, (0, x2))]) (by decide) rfl rfl dX8_turns_44 ?_
      refine r_aload_n hκ 1 rfl rfl dX8_turns_45 ?_
      refine r_iload_n hκ 0 rfl rfl dX8_turns_46 ?_
      refine r_if_eq hκ (tgt := 57) (by decide) dX8_turns_47 (fun h19 => ?_) (fun h19 => ?_)
      · replace h := (bte_i h).1 h19
        refine r_iconst hκ dX8_turns_57 ?_
        refine r_iload_n hκ 2 rfl rfl dX8_turns_58 ?_
        refine r_iload_n hκ 3 rfl rfl dX8_turns_59 ?_
        obtain ⟨s4, v4, h20, h⟩ := bcl_i h
        refine r_callS hκ (n' := 3) (index := 112) (w_X5_mark Γ0 l0 h20) (lw_S q2217 q1337 q137 q1338) (by decide +kernel) rfl (by decide) rfl (Nat.le_of_ble_eq_true rfl) dX8_turns_60 ?_
        exact r_sub [] rfl (ih 2 _ _ _ _ _ _ h rfl)
      · replace h := (bte_i h).2 h19
        refine r_aload_n hκ 1 rfl rfl dX8_turns_50 ?_
        obtain ⟨h21, h⟩ := bck_i h
        refine r_get hκ (t := 6) (k := 1) (r := 138) h21 rfl in_X8 (by decide) rfl q409 (Or.inl rfl) dX8_turns_51 ?_
        refine r_goto hκ (tgt := 63) (by decide) dX8_turns_54 ?_
        exact r_sub [] rfl (ih 2 _ _ _ _ _ _ h rfl)
  | 2, h =>
      refine r_iconst hκ dX8_turns_63 ?_
      obtain ⟨h22, h⟩ := bck_i h
      obtain ⟨s5, v5, h23, h⟩ := bcl_i h
      refine r_callV hκ (n' := 2) (index := 102) (w_X8_adds_2 Γ0 l0 h23) (lw_V q1359 q1360 q1361 q140 q1362) (by decide +kernel) (t := 6) h22 rfl rfl (by decide) rfl (Nat.le_of_ble_eq_true rfl) dX8_turns_64 ?_
      refine r_pop hκ (bd_cat2k _) dX8_turns_67 ?_
      exact r_vretH hκ hf h dX8_turns_68
  | b + 3, h => trivial
set_option maxHeartbeats 4000000 in
set_option maxRecDepth 100000 in
theorem w_X8_turns (Γ0 : bG) (l0 : Launch) {s0 st' : bS} {v a0 a1 a2 : Int} (h : F_X8_turns s0 a0 a1 a2 = some (st', v)) : bCt Γ0 l0 yX8_turns cX8_turns 4 none 10 241 [(2, a0), (0, a1), (0, a2)] s0 st' none := by
  refine b_ent (own := RX8) (by decide +kernel) rfl (Nat.le_of_ble_eq_true rfl) (L := [(0, (2, a0)), (1, (0, a1)), (2, (0, a2))]) rfl ?_
  intro κ hκ hi hf
  unfold F_X8_turns at h
  refine r_aload_n hκ 0 rfl rfl dX8_turns_0 ?_
  obtain ⟨h1, h⟩ := bck_i h
  refine r_get hκ (t := 6) (k := 1) (r := 138) h1 rfl in_X8 (by decide) rfl q409 (Or.inl rfl) dX8_turns_1 ?_
  refine r_ifnull hκ (tgt := 43) (by decide) dX8_turns_4 (fun h2 => ?_) (fun h2 => ?_)
  · replace h := (bte_i h).1 h2
    exact r_sub [0, 1, 2] rfl (w_X8_turns_r hκ hi hf 0 _ _ _ _ _ h)
  · replace h := (bte_i h).2 h2
    refine r_aload_n hκ 0 rfl rfl dX8_turns_7 ?_
    obtain ⟨h3, h⟩ := bck_i h
    refine r_get hκ (t := 6) (k := 1) (r := 138) h3 rfl in_X8 (by decide) rfl q409 (Or.inl rfl) dX8_turns_8 ?_
    obtain ⟨s1, v1, h4, h⟩ := bcl_i h
    refine r_seq (A := bJ κ s1 14 [(0, (2, a0)), (1, (0, a1)), (2, (0, a2))] [(0, v1)]) ?_ (fun k0 => ?_)
    case refine_2 =>
      by_cases h5 : bg s0 0 (bg s0 138 a0 0) 0 = 6
      · have hq0 := (bte_i h4).1 h5
        exact r_callVD hκ (n' := 0) (index := 69) (C := "EditsMeet$Keep") (owner := "EditsMeet$Part") (w_X5_deletes Γ0 l0 hq0) (lw_meth q1496) (List.mem_of_getElem? (i := 8) rfl) (List.mem_of_getElem? (i := 9) rfl) q1494 q137 (by decide +kernel) (by decide +kernel) (t := 5) h5 rfl rfl (by decide) rfl (Nat.le_of_ble_eq_true rfl) dX8_turns_11 k0
      replace h4 := (bte_i h4).2 h5
      by_cases h6 : bg s0 0 (bg s0 138 a0 0) 0 = 15
      · have hq0 := (bte_i h4).1 h6
        exact r_callVD hκ (n' := 0) (index := 69) (C := "EditsMeet$Delete") (owner := "EditsMeet$Part") (w_X5_deletes Γ0 l0 hq0) (lw_meth q1496) (List.mem_of_getElem? (i := 8) rfl) (List.mem_of_getElem? (i := 9) rfl) q1494 q137 (by decide +kernel) (by decide +kernel) (t := 14) h6 rfl rfl (by decide) rfl (Nat.le_of_ble_eq_true rfl) dX8_turns_11 k0
      replace h4 := (bte_i h4).2 h6
      by_cases h7 : bg s0 0 (bg s0 138 a0 0) 0 = 17
      · have hq0 := (bte_i h4).1 h7
        exact r_callVD hκ (n' := 0) (index := 69) (C := "EditsMeet$Mark") (owner := "EditsMeet$Part") (w_X5_deletes Γ0 l0 hq0) (lw_meth q1496) (List.mem_of_getElem? (i := 8) rfl) (List.mem_of_getElem? (i := 9) rfl) q1494 q137 (by decide +kernel) (by decide +kernel) (t := 16) h7 rfl rfl (by decide) rfl (Nat.le_of_ble_eq_true rfl) dX8_turns_11 k0
      replace h4 := (bte_i h4).2 h7
      cases h4
    refine r_if_ne hκ (tgt := 43) (by decide) dX8_turns_14 (fun h8 => ?_) (fun h8 => ?_)
    · replace h := (bte_i h).2 h8
      exact r_sub [0, 1, 2] rfl (w_X8_turns_r hκ hi hf 0 _ _ _ _ _ h)
    · replace h := (bte_i h).1 h8
      refine r_aload_n hκ 0 rfl rfl dX8_turns_17 ?_
      obtain ⟨h9, h⟩ := bck_i h
      refine r_get hκ (t := 6) (k := 1) (r := 138) h9 rfl in_X8 (by decide) rfl q409 (Or.inl rfl) dX8_turns_18 ?_
      obtain ⟨s2, v2, h10, h⟩ := bcl_i h
      refine r_seq (A := bJ κ s2 24 [(0, (2, a0)), (1, (0, a1)), (2, (0, a2))] [(0, v2)]) ?_ (fun k0 => ?_)
      case refine_2 =>
        by_cases h11 : bg s1 0 (bg s1 138 a0 0) 0 = 6
        · have hq0 := (bte_i h10).1 h11
          exact r_callVD hκ (n' := 0) (index := 106) (C := "EditsMeet$Keep") (owner := "EditsMeet$Part") (w_X5_on Γ0 l0 hq0) (lw_meth q949) (List.mem_of_getElem? (i := 11) rfl) (List.mem_of_getElem? (i := 5) rfl) q947 q137 (by decide +kernel) (by decide +kernel) (t := 5) h11 rfl rfl (by decide) rfl (Nat.le_of_ble_eq_true rfl) dX8_turns_21 k0
        replace h10 := (bte_i h10).2 h11
        by_cases h12 : bg s1 0 (bg s1 138 a0 0) 0 = 15
        · have hq0 := (bte_i h10).1 h12
          exact r_callVD hκ (n' := 0) (index := 106) (C := "EditsMeet$Delete") (owner := "EditsMeet$Part") (w_X5_on Γ0 l0 hq0) (lw_meth q949) (List.mem_of_getElem? (i := 11) rfl) (List.mem_of_getElem? (i := 5) rfl) q947 q137 (by decide +kernel) (by decide +kernel) (t := 14) h12 rfl rfl (by decide) rfl (Nat.le_of_ble_eq_true rfl) dX8_turns_21 k0
        replace h10 := (bte_i h10).2 h12
        cases h10
      refine r_iload_n hκ 1 rfl rfl dX8_turns_24 ?_
      refine r_icmp_ne hκ (tgt := 43) (by decide) dX8_turns_25 (fun h13 => ?_) (fun h13 => ?_)
      · replace h := (bte_i h).2 h13
        exact r_sub [0, 1, 2] rfl (w_X8_turns_r hκ hi hf 0 _ _ _ _ _ h)
      · replace h := (bte_i h).1 h13
        refine r_aload_n hκ 0 rfl rfl dX8_turns_28 ?_
        obtain ⟨h14, h⟩ := bck_i h
        refine r_get hκ (t := 6) (k := 1) (r := 138) h14 rfl in_X8 (by decide) rfl q409 (Or.inl rfl) dX8_turns_29 ?_
        obtain ⟨s3, v3, h15, h⟩ := bcl_i h
        refine r_seq (A := bJ κ s3 35 [(0, (2, a0)), (1, (0, a1)), (2, (0, a2))] [(0, v3)]) ?_ (fun k0 => ?_)
        case refine_2 =>
          by_cases h16 : bg s2 0 (bg s2 138 a0 0) 0 = 6
          · have hq0 := (bte_i h15).1 h16
            exact r_callVD hκ (n' := 0) (index := 109) (C := "EditsMeet$Keep") (owner := "EditsMeet$Part") (w_X5_off Γ0 l0 hq0) (lw_meth q966) (List.mem_of_getElem? (i := 12) rfl) (List.mem_of_getElem? (i := 7) rfl) q964 q137 (by decide +kernel) (by decide +kernel) (t := 5) h16 rfl rfl (by decide) rfl (Nat.le_of_ble_eq_true rfl) dX8_turns_32 k0
          replace h15 := (bte_i h15).2 h16
          by_cases h17 : bg s2 0 (bg s2 138 a0 0) 0 = 15
          · have hq0 := (bte_i h15).1 h17
            exact r_callVD hκ (n' := 0) (index := 109) (C := "EditsMeet$Delete") (owner := "EditsMeet$Part") (w_X5_off Γ0 l0 hq0) (lw_meth q966) (List.mem_of_getElem? (i := 12) rfl) (List.mem_of_getElem? (i := 7) rfl) q964 q137 (by decide +kernel) (by decide +kernel) (t := 14) h17 rfl rfl (by decide) rfl (Nat.le_of_ble_eq_true rfl) dX8_turns_32 k0
          replace h15 := (bte_i h15).2 h17
          cases h15
        refine r_iload_n hκ 2 rfl rfl dX8_turns_35 ?_
        refine r_icmp_ne hκ (tgt := 43) (by decide) dX8_turns_36 (fun h18 => ?_) (fun h18 => ?_)
        · replace h := (bte_i h).2 h18
          exact r_sub [0, 1, 2] rfl (w_X8_turns_r hκ hi hf 0 _ _ _ _ _ h)
        · replace h := (bte_i h).1 h18
          refine r_iconst hκ dX8_turns_39 ?_
          refine r_goto hκ (tgt := 44) (by decide) dX8_turns_40 ?_
          exact r_sub [0, 1, 2] rfl (w_X8_turns_r hκ hi hf 1 _ _ _ _ _ h)
/-- EditsMeet$Text.turned(LEditsMeet$Edit;LEditsMeet$Edit;)LEditsMeet$Edit; -/
def F_X2_turned_r (b : Nat) (x0 x1 x2 x3 x4 x5 x6 : Int) (s0 : bS) : Option (bS × Int) :=
  match b with
  | 0 =>
    bck (bg s0 0 x2 0 = 7) <|
    bcl (F_X8_many s0 x2) fun s2 v2 =>
    bte (i32 v2 ≤ i32 x4)
    (bck (bg s2 0 x1 0 = 7) <|
    bcl (F_X8_ends s2 x1) fun s3 v3 =>
    some (s3, v3))
    (bck (bg s2 0 x2 0 = 7) <|
    bcl (F_X8_get s2 x2 x4) fun s4 v4 =>
    bcl (bte (bg s4 0 v4 0 = 6) (F_X5_inserts s4 v4) (bte (bg s4 0 v4 0 = 15) (F_X5_inserts s4 v4) (bte (bg s4 0 v4 0 = 16) (F_X5_inserts s4 v4) (bte (bg s4 0 v4 0 = 17) (F_X5_inserts s4 v4) (none))))) fun s5 v5 =>
    bte (i32 v5 = 0)
    (bcl (bte (bg s5 0 v4 0 = 6) (F_X5_deletes s5 v4) (bte (bg s5 0 v4 0 = 15) (F_X5_deletes s5 v4) (bte (bg s5 0 v4 0 = 16) (F_X5_deletes s5 v4) (bte (bg s5 0 v4 0 = 17) (F_X5_deletes s5 v4) (none))))) fun s6 v6 =>
    bte (i32 v6 = 0)
    (F_X2_turned_r 1 x0 x1 x2 x3 x4 v4 x3 s6)
    (bck (bg s6 0 x0 0 = 3) <|
    bcl (bte (bg s6 0 v4 0 = 6) (F_X6_n s6 v4) (bte (bg s6 0 v4 0 = 15) (F_X6_n s6 v4) (bte (bg s6 0 v4 0 = 16) (F_X17_n s6 v4) (bte (bg s6 0 v4 0 = 17) (F_X6_n s6 v4) (none))))) fun s7 v7 =>
    bck (bg s7 0 (bg s6 86 x0 0) 0 = 19) <|
    bcl (F_J1_subSequence s7 (bg s6 86 x0 0) x3 (x3 + v7)) fun s8 v8 =>
    bck (bg s8 0 x0 0 = 3) <|
    bcl (bte (bg s8 0 v4 0 = 6) (F_X6_n s8 v4) (bte (bg s8 0 v4 0 = 15) (F_X6_n s8 v4) (bte (bg s8 0 v4 0 = 16) (F_X17_n s8 v4) (bte (bg s8 0 v4 0 = 17) (F_X6_n s8 v4) (none))))) fun s9 v9 =>
    bck (bg s9 0 (bg s8 90 x0 0) 0 = 19) <|
    bcl (F_J1_subSequence s9 (bg s8 90 x0 0) x3 (x3 + v9)) fun s10 v10 =>
    bcl (F_X5_insert s10 v8 v10) fun s11 v11 =>
    bck (bg s11 0 x1 0 = 7) <|
    bcl (F_X8_adds s11 x1 v11) fun s12 v12 =>
    F_X2_turned_r 2 x0 x1 x2 x3 x4 v4 0 s12))
    (bcl (bte (bg s5 0 v4 0 = 6) (F_X6_n s5 v4) (bte (bg s5 0 v4 0 = 15) (F_X6_n s5 v4) (bte (bg s5 0 v4 0 = 16) (F_X17_n s5 v4) (bte (bg s5 0 v4 0 = 17) (F_X6_n s5 v4) (none))))) fun s13 v13 =>
    bcl (F_X5_delete s13 v13) fun s14 v14 =>
    bck (bg s14 0 x1 0 = 7) <|
    bcl (F_X8_adds s14 x1 v14) fun s15 v15 =>
    F_X2_turned_r 2 x0 x1 x2 x3 x4 v4 0 s15))
  | 1 =>
    bcl (bte (bg s0 0 x5 0 = 6) (F_X6_n s0 x5) (bte (bg s0 0 x5 0 = 15) (F_X6_n s0 x5) (bte (bg s0 0 x5 0 = 16) (F_X17_n s0 x5) (bte (bg s0 0 x5 0 = 17) (F_X6_n s0 x5) (none))))) fun s16 v16 =>
    bte (i32 (x3 + v16) ≤ i32 x6)
    (F_X2_turned_r 2 x0 x1 x2 x3 x4 x5 0 s16)
    (bck (bg s16 0 x0 0 = 3) <|
    bcl (F_X2_mark s16 x0 x6) fun s17 v17 =>
    bcl (bte (bg s17 0 x5 0 = 6) (F_X5_marks s17 x5 v17) (bte (bg s17 0 x5 0 = 15) (F_X5_marks s17 x5 v17) (bte (bg s17 0 x5 0 = 16) (F_X5_marks s17 x5 v17) (bte (bg s17 0 x5 0 = 17) (F_X5_marks s17 x5 v17) (none))))) fun s18 v18 =>
    bck (bg s18 0 x1 0 = 7) <|
    bcl (F_X8_turns s18 x1 (b_iand v17 (b_ixor v18 (-1))) (b_iand v18 (b_ixor v17 (-1)))) fun s19 v19 =>
    F_X2_turned_r 1 x0 x1 x2 x3 x4 x5 (x6 + 1) s19)
  | 2 =>
    bcl (bte (bg s0 0 x5 0 = 6) (F_X6_takes s0 x5) (bte (bg s0 0 x5 0 = 15) (F_X6_takes s0 x5) (bte (bg s0 0 x5 0 = 16) (F_X5_takes s0 x5) (bte (bg s0 0 x5 0 = 17) (F_X6_takes s0 x5) (none))))) fun s20 v20 =>
    F_X2_turned_r 0 x0 x1 x2 (x3 + v20) (x4 + 1) 0 0 s20
  | _ => none
partial_fixpoint
def F_X2_turned (s0 : bS) (a0 a1 a2 : Int) : Option (bS × Int) :=
  bck (bg s0 0 a1 0 = 7) <|
  bcl (F_X8_empties s0 a1) fun s1 v1 =>
  F_X2_turned_r 0 a0 a1 a2 0 0 0 0 s1
set_option maxHeartbeats 4000000 in
set_option maxRecDepth 100000 in
set_option synthInstance.maxHeartbeats 4000000 in
theorem w_X2_turned_r {Γ0 : bG} {l0 : Launch} {κ : bK} {st' : bS} {v : Int} (hκ : bOk κ Γ0 l0 cX2_turned RX2 9 11 264) (hi : bIn κ yX2_turned) (hf : bFin κ (some (.object "EditsMeet$Edit")) st' (some (2, v))) (b : Nat) (x0 x1 x2 x3 x4 x5 x6 : Int) (s0 : bS) (h : F_X2_turned_r b x0 x1 x2 x3 x4 x5 x6 s0 = some (st', v)) : match (generalizing := false) b with | 0 => bJ κ s0 9 [(0, (2, x0)), (1, (2, x1)), (2, (2, x2)), (3, (0, x3)), (4, (0, x4))] [] | 1 => bJ κ s0 112 [(0, (2, x0)), (1, (2, x1)), (2, (2, x2)), (3, (0, x3)), (4, (0, x4)), (5, (2, x5)), (6, (0, x6))] [] | 2 => bJ κ s0 169 [(0, (2, x0)), (1, (2, x1)), (2, (2, x2)), (3, (0, x3)), (4, (0, x4)), (5, (2, x5))] [] | _ => True := by
  refine F_X2_turned_r.partial_correctness x0 x1 x2 (fun b x3 x4 x5 x6 s0 r => r = (st', v) → match (generalizing := false) b with | 0 => bJ κ s0 9 [(0, (2, x0)), (1, (2, x1)), (2, (2, x2)), (3, (0, x3)), (4, (0, x4))] [] | 1 => bJ κ s0 112 [(0, (2, x0)), (1, (2, x1)), (2, (2, x2)), (3, (0, x3)), (4, (0, x4)), (5, (2, x5)), (6, (0, x6))] [] | 2 => bJ κ s0 169 [(0, (2, x0)), (1, (2, x1)), (2, (2, x2)), (3, (0, x3)), (4, (0, x4)), (5, (2, x5))] [] | _ => True) ?_ b x3 x4 x5 x6 s0 _ h rfl
  intro f' ih b x3 x4 x5 x6 s0 r h hr
  subst hr
  match b, h with
  | 0, h =>
      refine r_iload hκ 4 rfl dX2_turned_9 ?_
      refine r_aload_n hκ 2 rfl rfl dX2_turned_11 ?_
      obtain ⟨h3, h⟩ := bck_i h
      obtain ⟨s2, v2, h4, h⟩ := bcl_i h
      refine r_callV hκ (n' := 0) (index := 42) (w_X8_many Γ0 l0 h4) (lw_V q2176 q807 q808 q140 q809) (by decide +kernel) (t := 6) h3 rfl rfl (by decide) rfl (Nat.le_of_ble_eq_true rfl) dX2_turned_12 ?_
      refine r_icmp_ge hκ (tgt := 185) (by decide) dX2_turned_15 (fun h5 => ?_) (fun h5 => ?_)
      · replace h := (bte_i h).1 h5
        refine r_aload_n hκ 1 rfl rfl dX2_turned_185 ?_
        obtain ⟨h6, h⟩ := bck_i h
        obtain ⟨s3, v3, h7, h⟩ := bcl_i h
        refine r_callV hκ (n' := 0) (index := 114) (w_X8_ends Γ0 l0 h7) (lw_V q2220 q1394 q1395 q140 q1396) (by decide +kernel) (t := 6) h6 rfl rfl (by decide) rfl (Nat.le_of_ble_eq_true rfl) dX2_turned_186 ?_
        exact r_aretH hκ hf h rt_o dX2_turned_189
      · replace h := (bte_i h).2 h5
        refine r_aload_n hκ 2 rfl rfl dX2_turned_18 ?_
        refine r_iload hκ 4 rfl dX2_turned_19 ?_
        obtain ⟨h8, h⟩ := bck_i h
        obtain ⟨s4, v4, h9, h⟩ := bcl_i h
        refine r_callV hκ (n' := 1) (index := 47) (w_X8_get Γ0 l0 h9) (lw_V q2177 q815 q816 q140 q817) (by decide +kernel) (t := 6) h8 rfl rfl (by decide) rfl (Nat.le_of_ble_eq_true rfl) dX2_turned_21 ?_
        refine r_astore hκ (L2 := [(5, (2, v4)), (0, (2, x0)), (1, (2, x1)), (2, (2, x2)), (3, (0, x3)), (4, (0, x4))]) (by decide) rfl dX2_turned_24 ?_
        refine r_aload hκ 0 rfl dX2_turned_26 ?_
        obtain ⟨s5, v5, h10, h⟩ := bcl_i h
        refine r_seq (A := bJ κ s5 33 [(5, (2, v4)), (0, (2, x0)), (1, (2, x1)), (2, (2, x2)), (3, (0, x3)), (4, (0, x4))] [(0, v5)]) ?_ (fun k0 => ?_)
        case refine_2 =>
          by_cases h11 : bg s4 0 v4 0 = 6
          · have hq0 := (bte_i h10).1 h11
            exact r_callFD hκ (n' := 0) (index := 91) (C := "EditsMeet$Keep") (w_X5_inserts Γ0 l0 hq0) (lw_meth q1607) q2179 q1605 q137 (by decide +kernel) (by decide +kernel) (t := 5) h11 rfl rfl (by decide) rfl (Nat.le_of_ble_eq_true rfl) dX2_turned_28 k0
          replace h10 := (bte_i h10).2 h11
          by_cases h12 : bg s4 0 v4 0 = 15
          · have hq0 := (bte_i h10).1 h12
            exact r_callFD hκ (n' := 0) (index := 91) (C := "EditsMeet$Delete") (w_X5_inserts Γ0 l0 hq0) (lw_meth q1607) q2179 q1605 q137 (by decide +kernel) (by decide +kernel) (t := 14) h12 rfl rfl (by decide) rfl (Nat.le_of_ble_eq_true rfl) dX2_turned_28 k0
          replace h10 := (bte_i h10).2 h12
          by_cases h13 : bg s4 0 v4 0 = 16
          · have hq0 := (bte_i h10).1 h13
            exact r_callFD hκ (n' := 0) (index := 91) (C := "EditsMeet$Insert") (w_X5_inserts Γ0 l0 hq0) (lw_meth q1607) q2179 q1605 q137 (by decide +kernel) (by decide +kernel) (t := 15) h13 rfl rfl (by decide) rfl (Nat.le_of_ble_eq_true rfl) dX2_turned_28 k0
          replace h10 := (bte_i h10).2 h13
          by_cases h14 : bg s4 0 v4 0 = 17
          · have hq0 := (bte_i h10).1 h14
            exact r_callFD hκ (n' := 0) (index := 91) (C := "EditsMeet$Mark") (w_X5_inserts Γ0 l0 hq0) (lw_meth q1607) q2179 q1605 q137 (by decide +kernel) (by decide +kernel) (t := 16) h14 rfl rfl (by decide) rfl (Nat.le_of_ble_eq_true rfl) dX2_turned_28 k0
          replace h10 := (bte_i h10).2 h14
          cases h10
        refine r_if_eq hκ (tgt := 54) (by decide) dX2_turned_33 (fun h15 => ?_) (fun h15 => ?_)
        · replace h := (bte_i h).1 h15
          refine r_aload hκ 0 rfl dX2_turned_54 ?_
          obtain ⟨s6, v6, h16, h⟩ := bcl_i h
          refine r_seq (A := bJ κ s6 61 [(5, (2, v4)), (0, (2, x0)), (1, (2, x1)), (2, (2, x2)), (3, (0, x3)), (4, (0, x4))] [(0, v6)]) ?_ (fun k0 => ?_)
          case refine_2 =>
            by_cases h17 : bg s5 0 v4 0 = 6
            · have hq0 := (bte_i h16).1 h17
              exact r_callFD hκ (n' := 0) (index := 62) (C := "EditsMeet$Keep") (w_X5_deletes Γ0 l0 hq0) (lw_meth q1496) q2185 q1494 q137 (by decide +kernel) (by decide +kernel) (t := 5) h17 rfl rfl (by decide) rfl (Nat.le_of_ble_eq_true rfl) dX2_turned_56 k0
            replace h16 := (bte_i h16).2 h17
            by_cases h18 : bg s5 0 v4 0 = 15
            · have hq0 := (bte_i h16).1 h18
              exact r_callFD hκ (n' := 0) (index := 62) (C := "EditsMeet$Delete") (w_X5_deletes Γ0 l0 hq0) (lw_meth q1496) q2185 q1494 q137 (by decide +kernel) (by decide +kernel) (t := 14) h18 rfl rfl (by decide) rfl (Nat.le_of_ble_eq_true rfl) dX2_turned_56 k0
            replace h16 := (bte_i h16).2 h18
            by_cases h19 : bg s5 0 v4 0 = 16
            · have hq0 := (bte_i h16).1 h19
              exact r_callFD hκ (n' := 0) (index := 62) (C := "EditsMeet$Insert") (w_X5_deletes Γ0 l0 hq0) (lw_meth q1496) q2185 q1494 q137 (by decide +kernel) (by decide +kernel) (t := 15) h19 rfl rfl (by decide) rfl (Nat.le_of_ble_eq_true rfl) dX2_turned_56 k0
            replace h16 := (bte_i h16).2 h19
            by_cases h20 : bg s5 0 v4 0 = 17
            · have hq0 := (bte_i h16).1 h20
              exact r_callFD hκ (n' := 0) (index := 62) (C := "EditsMeet$Mark") (w_X5_deletes Γ0 l0 hq0) (lw_meth q1496) q2185 q1494 q137 (by decide +kernel) (by decide +kernel) (t := 16) h20 rfl rfl (by decide) rfl (Nat.le_of_ble_eq_true rfl) dX2_turned_56 k0
            replace h16 := (bte_i h16).2 h20
            cases h16
          refine r_if_eq hκ (tgt := 109) (by decide) dX2_turned_61 (fun h21 => ?_) (fun h21 => ?_)
          · replace h := (bte_i h).1 h21
            refine r_iload_n hκ 4 rfl rfl dX2_turned_109 ?_
            refine r_istore hκ (L2 := [(6, (0, x3)), (5, (2, v4)), (0, (2, x0)), (1, (2, x1)), (2, (2, x2)), (3, (0, x3)), (4, (0, x4))]) (by decide) rfl dX2_turned_110 ?_
            exact r_sub [2, 3, 4, 5, 6, 1, 0] rfl (ih 1 _ _ _ _ _ _ h rfl)
          · replace h := (bte_i h).2 h21
            refine r_aload_n hκ 2 rfl rfl dX2_turned_64 ?_
            refine r_aload_n hκ 1 rfl rfl dX2_turned_65 ?_
            obtain ⟨h22, h⟩ := bck_i h
            refine r_get hκ (t := 2) (k := 0) (r := 86) h22 rfl in_X2 (by decide) rfl q316 (Or.inl rfl) dX2_turned_66 ?_
            refine r_iload_n hκ 4 rfl rfl dX2_turned_69 ?_
            refine r_iload_n hκ 4 rfl rfl dX2_turned_70 ?_
            refine r_aload hκ 0 rfl dX2_turned_71 ?_
            obtain ⟨s7, v7, h23, h⟩ := bcl_i h
            refine r_seq (A := bJ κ s7 78 [(5, (2, v4)), (0, (2, x0)), (1, (2, x1)), (2, (2, x2)), (3, (0, x3)), (4, (0, x4))] [(0, v7), (0, x3), (0, x3), (2, (bg s6 86 x0 0)), (2, x1)]) ?_ (fun k0 => ?_)
            case refine_2 =>
              by_cases h24 : bg s6 0 v4 0 = 6
              · have hq0 := (bte_i h23).1 h24
                exact r_callF hκ (n' := 0) (index := 68) (C := "EditsMeet$Keep") (w_X6_n Γ0 l0 hq0) (lw_app (lw_l4 q2181 q882 q865 q138) (lw_meth q867)) (by decide +kernel) (by decide +kernel) (t := 5) h24 rfl rfl (by decide) rfl (Nat.le_of_ble_eq_true rfl) dX2_turned_73 k0
              replace h23 := (bte_i h23).2 h24
              by_cases h25 : bg s6 0 v4 0 = 15
              · have hq0 := (bte_i h23).1 h25
                exact r_callF hκ (n' := 0) (index := 68) (C := "EditsMeet$Delete") (w_X6_n Γ0 l0 hq0) (lw_app (lw_l4 q2181 q863 q865 q138) (lw_meth q867)) (by decide +kernel) (by decide +kernel) (t := 14) h25 rfl rfl (by decide) rfl (Nat.le_of_ble_eq_true rfl) dX2_turned_73 k0
              replace h23 := (bte_i h23).2 h25
              by_cases h26 : bg s6 0 v4 0 = 16
              · have hq0 := (bte_i h23).1 h26
                exact r_callF hκ (n' := 0) (index := 68) (C := "EditsMeet$Insert") (w_X17_n Γ0 l0 hq0) (lw_app (lw_l4 q2181 q868 q870 q165) (lw_meth q872)) (by decide +kernel) (by decide +kernel) (t := 15) h26 rfl rfl (by decide) rfl (Nat.le_of_ble_eq_true rfl) dX2_turned_73 k0
              replace h23 := (bte_i h23).2 h26
              by_cases h27 : bg s6 0 v4 0 = 17
              · have hq0 := (bte_i h23).1 h27
                exact r_callF hκ (n' := 0) (index := 68) (C := "EditsMeet$Mark") (w_X6_n Γ0 l0 hq0) (lw_app (lw_l4 q2181 q884 q865 q138) (lw_meth q867)) (by decide +kernel) (by decide +kernel) (t := 16) h27 rfl rfl (by decide) rfl (Nat.le_of_ble_eq_true rfl) dX2_turned_73 k0
              replace h23 := (bte_i h23).2 h27
              cases h23
            refine r_iadd hκ dX2_turned_78 ?_
            obtain ⟨h28, h⟩ := bck_i h
            obtain ⟨s8, v8, h29, h⟩ := bcl_i h
            refine r_callV hκ (n' := 2) (index := 100) (w_J1_subSequence Γ0 l0 h29) (lw_V q2186 q2187 q2188 q125 q2189) (by decide +kernel) (t := 18) h28 rfl rfl (by decide) rfl (Nat.le_of_ble_eq_true rfl) dX2_turned_79 ?_
            refine r_aload_n hκ 1 rfl rfl dX2_turned_82 ?_
            obtain ⟨h30, h⟩ := bck_i h
            refine r_get hκ (t := 2) (k := 1) (r := 90) h30 rfl in_X2 (by decide) rfl q317 (Or.inl rfl) dX2_turned_83 ?_
            refine r_iload_n hκ 4 rfl rfl dX2_turned_86 ?_
            refine r_iload_n hκ 4 rfl rfl dX2_turned_87 ?_
            refine r_aload hκ 0 rfl dX2_turned_88 ?_
            obtain ⟨s9, v9, h31, h⟩ := bcl_i h
            refine r_seq (A := bJ κ s9 95 [(5, (2, v4)), (0, (2, x0)), (1, (2, x1)), (2, (2, x2)), (3, (0, x3)), (4, (0, x4))] [(0, v9), (0, x3), (0, x3), (2, (bg s8 90 x0 0)), (2, v8), (2, x1)]) ?_ (fun k0 => ?_)
            case refine_2 =>
              by_cases h32 : bg s8 0 v4 0 = 6
              · have hq0 := (bte_i h31).1 h32
                exact r_callF hκ (n' := 0) (index := 68) (C := "EditsMeet$Keep") (w_X6_n Γ0 l0 hq0) (lw_app (lw_l4 q2181 q882 q865 q138) (lw_meth q867)) (by decide +kernel) (by decide +kernel) (t := 5) h32 rfl rfl (by decide) rfl (Nat.le_of_ble_eq_true rfl) dX2_turned_90 k0
              replace h31 := (bte_i h31).2 h32
              by_cases h33 : bg s8 0 v4 0 = 15
              · have hq0 := (bte_i h31).1 h33
                exact r_callF hκ (n' := 0) (index := 68) (C := "EditsMeet$Delete") (w_X6_n Γ0 l0 hq0) (lw_app (lw_l4 q2181 q863 q865 q138) (lw_meth q867)) (by decide +kernel) (by decide +kernel) (t := 14) h33 rfl rfl (by decide) rfl (Nat.le_of_ble_eq_true rfl) dX2_turned_90 k0
              replace h31 := (bte_i h31).2 h33
              by_cases h34 : bg s8 0 v4 0 = 16
              · have hq0 := (bte_i h31).1 h34
                exact r_callF hκ (n' := 0) (index := 68) (C := "EditsMeet$Insert") (w_X17_n Γ0 l0 hq0) (lw_app (lw_l4 q2181 q868 q870 q165) (lw_meth q872)) (by decide +kernel) (by decide +kernel) (t := 15) h34 rfl rfl (by decide) rfl (Nat.le_of_ble_eq_true rfl) dX2_turned_90 k0
              replace h31 := (bte_i h31).2 h34
              by_cases h35 : bg s8 0 v4 0 = 17
              · have hq0 := (bte_i h31).1 h35
                exact r_callF hκ (n' := 0) (index := 68) (C := "EditsMeet$Mark") (w_X6_n Γ0 l0 hq0) (lw_app (lw_l4 q2181 q884 q865 q138) (lw_meth q867)) (by decide +kernel) (by decide +kernel) (t := 16) h35 rfl rfl (by decide) rfl (Nat.le_of_ble_eq_true rfl) dX2_turned_90 k0
              replace h31 := (bte_i h31).2 h35
              cases h31
            refine r_iadd hκ dX2_turned_95 ?_
            obtain ⟨h36, h⟩ := bck_i h
            obtain ⟨s10, v10, h37, h⟩ := bcl_i h
            refine r_callV hκ (n' := 2) (index := 100) (w_J1_subSequence Γ0 l0 h37) (lw_V q2186 q2187 q2188 q125 q2189) (by decide +kernel) (t := 18) h36 rfl rfl (by decide) rfl (Nat.le_of_ble_eq_true rfl) dX2_turned_96 ?_
            obtain ⟨s11, v11, h38, h⟩ := bcl_i h
            refine r_callS hκ (n' := 2) (index := 104) (w_X5_insert Γ0 l0 h38) (lw_S q2205 q1295 q137 q1296) (by decide +kernel) rfl (by decide) rfl (Nat.le_of_ble_eq_true rfl) dX2_turned_99 ?_
            obtain ⟨h39, h⟩ := bck_i h
            obtain ⟨s12, v12, h40, h⟩ := bcl_i h
            refine r_callV hκ (n' := 1) (index := 96) (w_X8_adds Γ0 l0 h40) (lw_V q2183 q1354 q1355 q140 q1356) (by decide +kernel) (t := 6) h39 rfl rfl (by decide) rfl (Nat.le_of_ble_eq_true rfl) dX2_turned_102 ?_
            refine r_pop hκ (bd_cat2k _) dX2_turned_105 ?_
            refine r_goto hκ (tgt := 169) (by decide) dX2_turned_106 ?_
            exact r_sub [1, 2, 3, 4, 5, 0] rfl (ih 2 _ _ _ _ _ _ h rfl)
        · replace h := (bte_i h).2 h15
          refine r_aload_n hκ 2 rfl rfl dX2_turned_36 ?_
          refine r_aload hκ 0 rfl dX2_turned_37 ?_
          obtain ⟨s13, v13, h41, h⟩ := bcl_i h
          refine r_seq (A := bJ κ s13 44 [(5, (2, v4)), (0, (2, x0)), (1, (2, x1)), (2, (2, x2)), (3, (0, x3)), (4, (0, x4))] [(0, v13), (2, x1)]) ?_ (fun k0 => ?_)
          case refine_2 =>
            by_cases h42 : bg s5 0 v4 0 = 6
            · have hq0 := (bte_i h41).1 h42
              exact r_callF hκ (n' := 0) (index := 68) (C := "EditsMeet$Keep") (w_X6_n Γ0 l0 hq0) (lw_app (lw_l4 q2181 q882 q865 q138) (lw_meth q867)) (by decide +kernel) (by decide +kernel) (t := 5) h42 rfl rfl (by decide) rfl (Nat.le_of_ble_eq_true rfl) dX2_turned_39 k0
            replace h41 := (bte_i h41).2 h42
            by_cases h43 : bg s5 0 v4 0 = 15
            · have hq0 := (bte_i h41).1 h43
              exact r_callF hκ (n' := 0) (index := 68) (C := "EditsMeet$Delete") (w_X6_n Γ0 l0 hq0) (lw_app (lw_l4 q2181 q863 q865 q138) (lw_meth q867)) (by decide +kernel) (by decide +kernel) (t := 14) h43 rfl rfl (by decide) rfl (Nat.le_of_ble_eq_true rfl) dX2_turned_39 k0
            replace h41 := (bte_i h41).2 h43
            by_cases h44 : bg s5 0 v4 0 = 16
            · have hq0 := (bte_i h41).1 h44
              exact r_callF hκ (n' := 0) (index := 68) (C := "EditsMeet$Insert") (w_X17_n Γ0 l0 hq0) (lw_app (lw_l4 q2181 q868 q870 q165) (lw_meth q872)) (by decide +kernel) (by decide +kernel) (t := 15) h44 rfl rfl (by decide) rfl (Nat.le_of_ble_eq_true rfl) dX2_turned_39 k0
            replace h41 := (bte_i h41).2 h44
            by_cases h45 : bg s5 0 v4 0 = 17
            · have hq0 := (bte_i h41).1 h45
              exact r_callF hκ (n' := 0) (index := 68) (C := "EditsMeet$Mark") (w_X6_n Γ0 l0 hq0) (lw_app (lw_l4 q2181 q884 q865 q138) (lw_meth q867)) (by decide +kernel) (by decide +kernel) (t := 16) h45 rfl rfl (by decide) rfl (Nat.le_of_ble_eq_true rfl) dX2_turned_39 k0
            replace h41 := (bte_i h41).2 h45
            cases h41
          obtain ⟨s14, v14, h46, h⟩ := bcl_i h
          refine r_callS hκ (n' := 1) (index := 94) (w_X5_delete Γ0 l0 h46) (lw_S q2182 q1276 q137 q1277) (by decide +kernel) rfl (by decide) rfl (Nat.le_of_ble_eq_true rfl) dX2_turned_44 ?_
          obtain ⟨h47, h⟩ := bck_i h
          obtain ⟨s15, v15, h48, h⟩ := bcl_i h
          refine r_callV hκ (n' := 1) (index := 96) (w_X8_adds Γ0 l0 h48) (lw_V q2183 q1354 q1355 q140 q1356) (by decide +kernel) (t := 6) h47 rfl rfl (by decide) rfl (Nat.le_of_ble_eq_true rfl) dX2_turned_47 ?_
          refine r_pop hκ (bd_cat2k _) dX2_turned_50 ?_
          refine r_goto hκ (tgt := 169) (by decide) dX2_turned_51 ?_
          exact r_sub [1, 2, 3, 4, 5, 0] rfl (ih 2 _ _ _ _ _ _ h rfl)
  | 1, h =>
      refine r_iload hκ 6 rfl dX2_turned_112 ?_
      refine r_iload_n hκ 3 rfl rfl dX2_turned_114 ?_
      refine r_aload hκ 5 rfl dX2_turned_115 ?_
      obtain ⟨s16, v16, h49, h⟩ := bcl_i h
      refine r_seq (A := bJ κ s16 122 [(0, (2, x0)), (1, (2, x1)), (2, (2, x2)), (3, (0, x3)), (4, (0, x4)), (5, (2, x5)), (6, (0, x6))] [(0, v16), (0, x3), (0, x6)]) ?_ (fun k0 => ?_)
      case refine_2 =>
        by_cases h50 : bg s0 0 x5 0 = 6
        · have hq0 := (bte_i h49).1 h50
          exact r_callF hκ (n' := 0) (index := 68) (C := "EditsMeet$Keep") (w_X6_n Γ0 l0 hq0) (lw_app (lw_l4 q2181 q882 q865 q138) (lw_meth q867)) (by decide +kernel) (by decide +kernel) (t := 5) h50 rfl rfl (by decide) rfl (Nat.le_of_ble_eq_true rfl) dX2_turned_117 k0
        replace h49 := (bte_i h49).2 h50
        by_cases h51 : bg s0 0 x5 0 = 15
        · have hq0 := (bte_i h49).1 h51
          exact r_callF hκ (n' := 0) (index := 68) (C := "EditsMeet$Delete") (w_X6_n Γ0 l0 hq0) (lw_app (lw_l4 q2181 q863 q865 q138) (lw_meth q867)) (by decide +kernel) (by decide +kernel) (t := 14) h51 rfl rfl (by decide) rfl (Nat.le_of_ble_eq_true rfl) dX2_turned_117 k0
        replace h49 := (bte_i h49).2 h51
        by_cases h52 : bg s0 0 x5 0 = 16
        · have hq0 := (bte_i h49).1 h52
          exact r_callF hκ (n' := 0) (index := 68) (C := "EditsMeet$Insert") (w_X17_n Γ0 l0 hq0) (lw_app (lw_l4 q2181 q868 q870 q165) (lw_meth q872)) (by decide +kernel) (by decide +kernel) (t := 15) h52 rfl rfl (by decide) rfl (Nat.le_of_ble_eq_true rfl) dX2_turned_117 k0
        replace h49 := (bte_i h49).2 h52
        by_cases h53 : bg s0 0 x5 0 = 17
        · have hq0 := (bte_i h49).1 h53
          exact r_callF hκ (n' := 0) (index := 68) (C := "EditsMeet$Mark") (w_X6_n Γ0 l0 hq0) (lw_app (lw_l4 q2181 q884 q865 q138) (lw_meth q867)) (by decide +kernel) (by decide +kernel) (t := 16) h53 rfl rfl (by decide) rfl (Nat.le_of_ble_eq_true rfl) dX2_turned_117 k0
        replace h49 := (bte_i h49).2 h53
        cases h49
      refine r_iadd hκ dX2_turned_122 ?_
      refine r_icmp_ge hκ (tgt := 169) (by decide) dX2_turned_123 (fun h54 => ?_) (fun h54 => ?_)
      · replace h := (bte_i h).1 h54
        exact r_sub [0, 1, 2, 3, 4, 5] rfl (ih 2 _ _ _ _ _ _ h rfl)
      · replace h := (bte_i h).2 h54
        refine r_aload_n hκ 0 rfl rfl dX2_turned_126 ?_
        refine r_iload hκ 6 rfl dX2_turned_127 ?_
        obtain ⟨h55, h⟩ := bck_i h
        obtain ⟨s17, v17, h56, h⟩ := bcl_i h
        refine r_callV hκ (n' := 1) (index := 75) (w_X2_mark Γ0 l0 h56) (lw_V q2206 q2207 q2208 q123 q2209) (by decide +kernel) (t := 2) h55 rfl rfl (by decide) rfl (Nat.le_of_ble_eq_true rfl) dX2_turned_129 ?_
        refine r_istore hκ (L2 := [(7, (0, v17)), (0, (2, x0)), (1, (2, x1)), (2, (2, x2)), (3, (0, x3)), (4, (0, x4)), (5, (2, x5)), (6, (0, x6))]) (by decide) rfl dX2_turned_132 ?_
        refine r_aload hκ 6 rfl dX2_turned_134 ?_
        refine r_iload hκ 0 rfl dX2_turned_136 ?_
        obtain ⟨s18, v18, h57, h⟩ := bcl_i h
        refine r_seq (A := bJ κ s18 143 [(7, (0, v17)), (0, (2, x0)), (1, (2, x1)), (2, (2, x2)), (3, (0, x3)), (4, (0, x4)), (5, (2, x5)), (6, (0, x6))] [(0, v18)]) ?_ (fun k0 => ?_)
        case refine_2 =>
          by_cases h58 : bg s17 0 x5 0 = 6
          · have hq0 := (bte_i h57).1 h58
            exact r_callFD hκ (n' := 1) (index := 79) (C := "EditsMeet$Keep") (w_X5_marks Γ0 l0 hq0) (lw_meth q2109) q2212 q2107 q137 (by decide +kernel) (by decide +kernel) (t := 5) h58 rfl rfl (by decide) rfl (Nat.le_of_ble_eq_true rfl) dX2_turned_138 k0
          replace h57 := (bte_i h57).2 h58
          by_cases h59 : bg s17 0 x5 0 = 15
          · have hq0 := (bte_i h57).1 h59
            exact r_callFD hκ (n' := 1) (index := 79) (C := "EditsMeet$Delete") (w_X5_marks Γ0 l0 hq0) (lw_meth q2109) q2212 q2107 q137 (by decide +kernel) (by decide +kernel) (t := 14) h59 rfl rfl (by decide) rfl (Nat.le_of_ble_eq_true rfl) dX2_turned_138 k0
          replace h57 := (bte_i h57).2 h59
          by_cases h60 : bg s17 0 x5 0 = 16
          · have hq0 := (bte_i h57).1 h60
            exact r_callFD hκ (n' := 1) (index := 79) (C := "EditsMeet$Insert") (w_X5_marks Γ0 l0 hq0) (lw_meth q2109) q2212 q2107 q137 (by decide +kernel) (by decide +kernel) (t := 15) h60 rfl rfl (by decide) rfl (Nat.le_of_ble_eq_true rfl) dX2_turned_138 k0
          replace h57 := (bte_i h57).2 h60
          by_cases h61 : bg s17 0 x5 0 = 17
          · have hq0 := (bte_i h57).1 h61
            exact r_callFD hκ (n' := 1) (index := 79) (C := "EditsMeet$Mark") (w_X5_marks Γ0 l0 hq0) (lw_meth q2109) q2212 q2107 q137 (by decide +kernel) (by decide +kernel) (t := 16) h61 rfl rfl (by decide) rfl (Nat.le_of_ble_eq_true rfl) dX2_turned_138 k0
          replace h57 := (bte_i h57).2 h61
          cases h57
        refine r_istore hκ (L2 := [(8, (0, v18)), (7, (0, v17)), (0, (2, x0)), (1, (2, x1)), (2, (2, x2)), (3, (0, x3)), (4, (0, x4)), (5, (2, x5)), (6, (0, x6))]) (by decide) rfl dX2_turned_143 ?_
        refine r_aload_n hκ 3 rfl rfl dX2_turned_145 ?_
        refine r_iload hκ 1 rfl dX2_turned_146 ?_
        refine r_iload hκ 0 rfl dX2_turned_148 ?_
        refine r_iconst hκ dX2_turned_150 ?_
        refine r_ixor hκ dX2_turned_151 ?_
        refine r_iand hκ dX2_turned_152 ?_
        refine r_iload hκ 0 rfl dX2_turned_153 ?_
        refine r_iload hκ 1 rfl dX2_turned_155 ?_
        refine r_iconst hκ dX2_turned_157 ?_
        refine r_ixor hκ dX2_turned_158 ?_
        refine r_iand hκ dX2_turned_159 ?_
        obtain ⟨h62, h⟩ := bck_i h
        obtain ⟨s19, v19, h63, h⟩ := bcl_i h
        refine r_callV hκ (n' := 2) (index := 107) (w_X8_turns Γ0 l0 h63) (lw_V q2213 q2214 q2215 q140 q2216) (by decide +kernel) (t := 6) h62 rfl rfl (by decide) rfl (Nat.le_of_ble_eq_true rfl) dX2_turned_160 ?_
        refine r_iinc hκ (L2 := [(6, (0, (x6 + 1))), (8, (0, v18)), (7, (0, v17)), (0, (2, x0)), (1, (2, x1)), (2, (2, x2)), (3, (0, x3)), (4, (0, x4)), (5, (2, x5))]) 8 rfl (by decide) rfl dX2_turned_163 ?_
        refine r_goto hκ (tgt := 112) (by decide) dX2_turned_166 ?_
        exact r_sub [3, 4, 5, 6, 7, 8, 0] rfl (ih 1 _ _ _ _ _ _ h rfl)
  | 2, h =>
      refine r_iload_n hκ 3 rfl rfl dX2_turned_169 ?_
      refine r_aload hκ 5 rfl dX2_turned_170 ?_
      obtain ⟨s20, v20, h64, h⟩ := bcl_i h
      refine r_seq (A := bJ κ s20 177 [(0, (2, x0)), (1, (2, x1)), (2, (2, x2)), (3, (0, x3)), (4, (0, x4)), (5, (2, x5))] [(0, v20), (0, x3)]) ?_ (fun k0 => ?_)
      case refine_2 =>
        by_cases h65 : bg s0 0 x5 0 = 6
        · have hq0 := (bte_i h64).1 h65
          exact r_callF hκ (n' := 0) (index := 111) (C := "EditsMeet$Keep") (w_X6_takes Γ0 l0 hq0) (lw_app (lw_l4 q2219 q1578 q929 q138) (lw_meth q934)) (by decide +kernel) (by decide +kernel) (t := 5) h65 rfl rfl (by decide) rfl (Nat.le_of_ble_eq_true rfl) dX2_turned_172 k0
        replace h64 := (bte_i h64).2 h65
        by_cases h66 : bg s0 0 x5 0 = 15
        · have hq0 := (bte_i h64).1 h66
          exact r_callF hκ (n' := 0) (index := 111) (C := "EditsMeet$Delete") (w_X6_takes Γ0 l0 hq0) (lw_app (lw_l4 q2219 q1571 q929 q138) (lw_meth q934)) (by decide +kernel) (by decide +kernel) (t := 14) h66 rfl rfl (by decide) rfl (Nat.le_of_ble_eq_true rfl) dX2_turned_172 k0
        replace h64 := (bte_i h64).2 h66
        by_cases h67 : bg s0 0 x5 0 = 16
        · have hq0 := (bte_i h64).1 h67
          exact r_callFD hκ (n' := 0) (index := 111) (C := "EditsMeet$Insert") (w_X5_takes Γ0 l0 hq0) (lw_meth q1577) q2219 q1575 q137 (by decide +kernel) (by decide +kernel) (t := 15) h67 rfl rfl (by decide) rfl (Nat.le_of_ble_eq_true rfl) dX2_turned_172 k0
        replace h64 := (bte_i h64).2 h67
        by_cases h68 : bg s0 0 x5 0 = 17
        · have hq0 := (bte_i h64).1 h68
          exact r_callF hκ (n' := 0) (index := 111) (C := "EditsMeet$Mark") (w_X6_takes Γ0 l0 hq0) (lw_app (lw_l4 q2219 q1580 q929 q138) (lw_meth q934)) (by decide +kernel) (by decide +kernel) (t := 16) h68 rfl rfl (by decide) rfl (Nat.le_of_ble_eq_true rfl) dX2_turned_172 k0
        replace h64 := (bte_i h64).2 h68
        cases h64
      refine r_iadd hκ dX2_turned_177 ?_
      refine r_istore_n hκ (L2 := [(3, (0, (x3 + v20))), (0, (2, x0)), (1, (2, x1)), (2, (2, x2)), (4, (0, x4)), (5, (2, x5))]) (by decide) rfl rfl dX2_turned_178 ?_
      refine r_iinc hκ (L2 := [(4, (0, (x4 + 1))), (3, (0, (x3 + v20))), (0, (2, x0)), (1, (2, x1)), (2, (2, x2)), (5, (2, x5))]) 4 rfl (by decide) rfl dX2_turned_179 ?_
      refine r_goto hκ (tgt := 9) (by decide) dX2_turned_182 ?_
      exact r_sub [2, 3, 4, 1, 0] rfl (ih 0 _ _ _ _ _ _ h rfl)
  | b + 3, h => trivial
set_option maxHeartbeats 4000000 in
set_option maxRecDepth 100000 in
theorem w_X2_turned (Γ0 : bG) (l0 : Launch) {s0 st' : bS} {v a0 a1 a2 : Int} (h : F_X2_turned s0 a0 a1 a2 = some (st', v)) : bCt Γ0 l0 yX2_turned cX2_turned 9 (some (.object "EditsMeet$Edit")) 11 264 [(2, a0), (2, a1), (2, a2)] s0 st' (some (2, v)) := by
  refine b_ent (own := RX2) (by decide +kernel) rfl (Nat.le_of_ble_eq_true rfl) (L := [(0, (2, a0)), (1, (2, a1)), (2, (2, a2))]) rfl ?_
  intro κ hκ hi hf
  unfold F_X2_turned at h
  refine r_aload_n hκ 1 rfl rfl dX2_turned_0 ?_
  obtain ⟨h1, h⟩ := bck_i h
  obtain ⟨s1, v1, h2, h⟩ := bcl_i h
  refine r_callV hκ (n' := 0) (index := 88) (w_X8_empties Γ0 l0 h2) (lw_V q2175 q2056 q2057 q140 q2058) (by decide +kernel) (t := 6) h1 rfl rfl (by decide) rfl (Nat.le_of_ble_eq_true rfl) dX2_turned_1 ?_
  refine r_iconst hκ dX2_turned_4 ?_
  refine r_istore_n hκ (L2 := [(3, (0, 0)), (0, (2, a0)), (1, (2, a1)), (2, (2, a2))]) (by decide) rfl rfl dX2_turned_5 ?_
  refine r_iconst hκ dX2_turned_6 ?_
  refine r_istore hκ (L2 := [(4, (0, 0)), (3, (0, 0)), (0, (2, a0)), (1, (2, a1)), (2, (2, a2))]) (by decide) rfl dX2_turned_7 ?_
  exact r_sub [2, 3, 4, 1, 0] rfl (w_X2_turned_r hκ hi hf 0 _ _ _ _ _ _ _ _ h)
/-- EditsMeet$Pile.empties()V -/
def F_X10_empties (s0 : bS) (a0 : Int) : Option (bS × Int) :=
  bck (bg s0 0 a0 0 = 9) <|
  bck (bg s0 0 a0 0 = 9) <|
  bck (bg s0 0 (bg s0 206 a0 0) 0 = 21) <|
  bcl (F_J10_addAll s0 (bg s0 206 a0 0) (bg s0 202 a0 0)) fun s1 v1 =>
  bck (bg s1 0 a0 0 = 9) <|
  bck (bg s1 0 (bg s1 202 a0 0) 0 = 22) <|
  bcl (F_J12_clear s1 (bg s1 202 a0 0)) fun s2 v2 =>
  some (s2, 0)
set_option maxHeartbeats 4000000 in
set_option maxRecDepth 100000 in
theorem w_X10_empties (Γ0 : bG) (l0 : Launch) {s0 st' : bS} {v a0 : Int} (h : F_X10_empties s0 a0 = some (st', v)) : bCt Γ0 l0 yX10_empties cX10_empties 1 none 5 132 [(2, a0)] s0 st' none := by
  refine b_ent (own := RX10) (by decide +kernel) rfl (Nat.le_of_ble_eq_true rfl) (L := [(0, (2, a0))]) rfl ?_
  intro κ hκ hi hf
  unfold F_X10_empties at h
  refine r_aload_n hκ 0 rfl rfl dX10_empties_0 ?_
  obtain ⟨h1, h⟩ := bck_i h
  refine r_get hκ (t := 8) (k := 1) (r := 206) h1 rfl in_X10 (by decide) rfl q476 (Or.inl rfl) dX10_empties_1 ?_
  refine r_aload_n hκ 0 rfl rfl dX10_empties_4 ?_
  obtain ⟨h2, h⟩ := bck_i h
  refine r_get hκ (t := 8) (k := 0) (r := 202) h2 rfl in_X10 (by decide) rfl q475 (Or.inl rfl) dX10_empties_5 ?_
  obtain ⟨h3, h⟩ := bck_i h
  obtain ⟨s1, v1, h4, h⟩ := bcl_i h
  refine r_callV hκ (n' := 1) (index := 86) (w_J10_addAll Γ0 l0 h4) (lw_V q2250 q2251 q2252 q134 q2253) (by decide +kernel) (t := 20) h3 rfl rfl (by decide) rfl (Nat.le_of_ble_eq_true rfl) dX10_empties_8 ?_
  refine r_pop hκ (bd_cat0k _) dX10_empties_11 ?_
  refine r_aload_n hκ 0 rfl rfl dX10_empties_12 ?_
  obtain ⟨h5, h⟩ := bck_i h
  refine r_get hκ (t := 8) (k := 0) (r := 202) h5 rfl in_X10 (by decide) rfl q475 (Or.inl rfl) dX10_empties_13 ?_
  obtain ⟨h6, h⟩ := bck_i h
  obtain ⟨s2, v2, h7, h⟩ := bcl_i h
  refine r_callV hκ (n' := 0) (index := 90) (w_J12_clear Γ0 l0 h7) (lw_V q2272 q2273 q2274 q144 q2275) (by decide +kernel) (t := 21) h6 rfl rfl (by decide) rfl (Nat.le_of_ble_eq_true rfl) dX10_empties_16 ?_
  exact r_vretH hκ hf h dX10_empties_19
/-- EditsMeet$Pile.place()LEditsMeet$Edit; -/
def F_X10_place (s0 : bS) (a0 : Int) : Option (bS × Int) :=
  bck (bg s0 0 a0 0 = 9) <|
  bck (bg s0 0 (bg s0 206 a0 0) 0 = 21) <|
  bcl (F_J10_isEmpty s0 (bg s0 206 a0 0)) fun s1 v1 =>
  bte (i32 v1 = 0)
  (bck (bg s1 0 a0 0 = 9) <|
  bck (bg s1 0 a0 0 = 9) <|
  bck (bg s1 0 (bg s1 206 a0 0) 0 = 21) <|
  bcl (F_J10_size s1 (bg s1 206 a0 0)) fun s2 v2 =>
  bck (bg s2 0 (bg s1 206 a0 0) 0 = 21) <|
  bcl (F_J10_remove s2 (bg s1 206 a0 0) (v2 - 1)) fun s3 v3 =>
  bck (v3 < 0 ∨ bg s3 0 v3 0 = 7) <|
  some (s3, v3))
  (bck (bc s1 + 1 ≤ bCM ∧ bk s1 + 3 ≤ bKM) <|
  bst (bnw s1 7 0 3) fun s4 =>
  bck (bg s4 0 (bnx s1 : Int) 0 = 7) <|
  bcl (F_X8_init s4 (bnx s1 : Int)) fun s5 v4 =>
  some (s5, (bnx s1 : Int)))
set_option maxHeartbeats 4000000 in
set_option maxRecDepth 100000 in
theorem w_X10_place (Γ0 : bG) (l0 : Launch) {s0 st' : bS} {v a0 : Int} (h : F_X10_place s0 a0 = some (st', v)) : bCt Γ0 l0 yX10_place cX10_place 1 (some (.object "EditsMeet$Edit")) 5 101 [(2, a0)] s0 st' (some (2, v)) := by
  refine b_ent (own := RX10) (by decide +kernel) rfl (Nat.le_of_ble_eq_true rfl) (L := [(0, (2, a0))]) rfl ?_
  intro κ hκ hi hf
  unfold F_X10_place at h
  refine r_aload_n hκ 0 rfl rfl dX10_place_0 ?_
  obtain ⟨h1, h⟩ := bck_i h
  refine r_get hκ (t := 8) (k := 1) (r := 206) h1 rfl in_X10 (by decide) rfl q476 (Or.inl rfl) dX10_place_1 ?_
  obtain ⟨h2, h⟩ := bck_i h
  obtain ⟨s1, v1, h3, h⟩ := bcl_i h
  refine r_callV hκ (n' := 0) (index := 25) (w_J10_isEmpty Γ0 l0 h3) (lw_V q2298 q2299 q2300 q134 q2301) (by decide +kernel) (t := 20) h2 rfl rfl (by decide) rfl (Nat.le_of_ble_eq_true rfl) dX10_place_4 ?_
  refine r_if_eq hκ (tgt := 20) (by decide) dX10_place_7 (fun h4 => ?_) (fun h4 => ?_)
  · replace h := (bte_i h).1 h4
    refine r_aload_n hκ 0 rfl rfl dX10_place_20 ?_
    obtain ⟨h5, h⟩ := bck_i h
    refine r_get hκ (t := 8) (k := 1) (r := 206) h5 rfl in_X10 (by decide) rfl q476 (Or.inl rfl) dX10_place_21 ?_
    refine r_aload_n hκ 0 rfl rfl dX10_place_24 ?_
    obtain ⟨h6, h⟩ := bck_i h
    refine r_get hκ (t := 8) (k := 1) (r := 206) h6 rfl in_X10 (by decide) rfl q476 (Or.inl rfl) dX10_place_25 ?_
    obtain ⟨h7, h⟩ := bck_i h
    obtain ⟨s2, v2, h8, h⟩ := bcl_i h
    refine r_callV hκ (n' := 0) (index := 32) (w_J10_size Γ0 l0 h8) (lw_V q2303 q811 q812 q134 q813) (by decide +kernel) (t := 20) h7 rfl rfl (by decide) rfl (Nat.le_of_ble_eq_true rfl) dX10_place_28 ?_
    refine r_iconst hκ dX10_place_31 ?_
    refine r_isub hκ dX10_place_32 ?_
    obtain ⟨h9, h⟩ := bck_i h
    obtain ⟨s3, v3, h10, h⟩ := bcl_i h
    refine r_callV hκ (n' := 1) (index := 36) (w_J10_remove Γ0 l0 h10) (lw_V q2304 q2305 q2306 q134 q2307) (by decide +kernel) (t := 20) h9 rfl rfl (by decide) rfl (Nat.le_of_ble_eq_true rfl) dX10_place_33 ?_
    obtain ⟨h11, h⟩ := bck_i h
    refine r_cast hκ q2293 (Or.elim h11 (fun h11 => Or.inl h11) (fun h11 => Or.inr ⟨6, _, h11, rfl, Or.inl rfl⟩)) dX10_place_36 ?_
    exact r_aretH hκ hf h rt_o dX10_place_39
  · replace h := (bte_i h).2 h4
    obtain ⟨h12, h⟩ := bck_i h
    refine r_new hκ (t := 6) tyX8 tyX8_ok dfX8 rfl in_X8 q2293 q395 q140 h12 dX10_place_10 (fun s4 es4 => ?_)
    replace h := bst_i h s4 es4
    refine r_dup hκ (bd_cat2k _) dX10_place_13 ?_
    obtain ⟨h13, h⟩ := bck_i h
    obtain ⟨s5, v4, h14, h⟩ := bcl_i h
    refine r_callIN hκ (n' := 0) (host := "EditsMeet") (index := 31) (w_X8_init Γ0 l0 h14) (lw_meth q398) (by decide +kernel) q140 (by decide +kernel) q397 rfl (t := 6) h13 rfl rfl (by decide) rfl (Nat.le_of_ble_eq_true rfl) dX10_place_14 ?_
    refine r_goto hκ (tgt := 39) (by decide) dX10_place_17 ?_
    exact r_aretH hκ hf h rt_o dX10_place_39
/-- EditsMeet$Pile.puts()LEditsMeet$Edit; -/
def F_X10_puts_r (b : Nat) (x0 x1 : Int) (s0 : bS) : Option (bS × Int) :=
  match b with
  | 0 =>
    bck (bg s0 0 x0 0 = 9) <|
    bck (bg s0 0 (bg s0 202 x0 0) 0 = 22) <|
    bcl (F_J12_addLast s0 (bg s0 202 x0 0) x1) fun s4 v4 =>
    some (s4, x1)
  | _ => none
def F_X10_puts (s0 : bS) (a0 : Int) : Option (bS × Int) :=
  bck (bg s0 0 a0 0 = 9) <|
  bck (bg s0 0 (bg s0 202 a0 0) 0 = 22) <|
  bcl (F_J12_size s0 (bg s0 202 a0 0)) fun s1 v1 =>
  bte (i32 v1 = i32 20)
  (bck (bg s1 0 a0 0 = 9) <|
  bck (bg s1 0 (bg s1 202 a0 0) 0 = 22) <|
  bcl (F_J12_removeFirst s1 (bg s1 202 a0 0)) fun s3 v3 =>
  bck (v3 < 0 ∨ bg s3 0 v3 0 = 7) <|
  F_X10_puts_r 0 a0 v3 s3)
  (bck (bg s1 0 a0 0 = 9) <|
  bcl (F_X10_place s1 a0) fun s2 v2 =>
  F_X10_puts_r 0 a0 v2 s2)
set_option maxHeartbeats 4000000 in
set_option maxRecDepth 100000 in
set_option synthInstance.maxHeartbeats 4000000 in
theorem w_X10_puts_r {Γ0 : bG} {l0 : Launch} {κ : bK} {st' : bS} {v : Int} (hκ : bOk κ Γ0 l0 cX10_puts RX10 2 6 121) (hi : bIn κ yX10_puts) (hf : bFin κ (some (.object "EditsMeet$Edit")) st' (some (2, v))) (b : Nat) (x0 x1 : Int) (s0 : bS) (h : F_X10_puts_r b x0 x1 s0 = some (st', v)) : match (generalizing := false) b with | 0 => bJ κ s0 29 [(0, (2, x0))] [(2, x1)] | _ => True := by
  unfold F_X10_puts_r at h
  match b, h with
  | 0, h =>
      refine r_astore_n hκ (L2 := [(1, (2, x1)), (0, (2, x0))]) (by decide) rfl rfl dX10_puts_29 ?_
      refine r_aload_n hκ 1 rfl rfl dX10_puts_30 ?_
      obtain ⟨h11, h⟩ := bck_i h
      refine r_get hκ (t := 8) (k := 0) (r := 202) h11 rfl in_X10 (by decide) rfl q475 (Or.inl rfl) dX10_puts_31 ?_
      refine r_aload_n hκ 0 rfl rfl dX10_puts_34 ?_
      obtain ⟨h12, h⟩ := bck_i h
      obtain ⟨s4, v4, h13, h⟩ := bcl_i h
      refine r_callV hκ (n' := 1) (index := 64) (w_J12_addLast Γ0 l0 h13) (lw_V q2312 q2313 q2314 q144 q2315) (by decide +kernel) (t := 21) h12 rfl rfl (by decide) rfl (Nat.le_of_ble_eq_true rfl) dX10_puts_35 ?_
      refine r_aload_n hκ 0 rfl rfl dX10_puts_38 ?_
      exact r_aretH hκ hf h rt_o dX10_puts_39
  | b + 1, h => trivial
set_option maxHeartbeats 4000000 in
set_option maxRecDepth 100000 in
theorem w_X10_puts (Γ0 : bG) (l0 : Launch) {s0 st' : bS} {v a0 : Int} (h : F_X10_puts s0 a0 = some (st', v)) : bCt Γ0 l0 yX10_puts cX10_puts 2 (some (.object "EditsMeet$Edit")) 6 121 [(2, a0)] s0 st' (some (2, v)) := by
  refine b_ent (own := RX10) (by decide +kernel) rfl (Nat.le_of_ble_eq_true rfl) (L := [(0, (2, a0))]) rfl ?_
  intro κ hκ hi hf
  unfold F_X10_puts at h
  refine r_aload_n hκ 0 rfl rfl dX10_puts_0 ?_
  obtain ⟨h1, h⟩ := bck_i h
  refine r_get hκ (t := 8) (k := 0) (r := 202) h1 rfl in_X10 (by decide) rfl q475 (Or.inl rfl) dX10_puts_1 ?_
  obtain ⟨h2, h⟩ := bck_i h
  obtain ⟨s1, v1, h3, h⟩ := bcl_i h
  refine r_callV hκ (n' := 0) (index := 68) (w_J12_size Γ0 l0 h3) (lw_V q2284 q1693 q3603 q144 q1694) (by decide +kernel) (t := 21) h2 rfl rfl (by decide) rfl (Nat.le_of_ble_eq_true rfl) dX10_puts_4 ?_
  refine r_bipush hκ (by decide) dX10_puts_7 ?_
  refine r_icmp_ne hκ (tgt := 25) (by decide) dX10_puts_9 (fun h4 => ?_) (fun h4 => ?_)
  · replace h := (bte_i h).2 h4
    refine r_aload_n hκ 0 rfl rfl dX10_puts_25 ?_
    obtain ⟨h5, h⟩ := bck_i h
    obtain ⟨s2, v2, h6, h⟩ := bcl_i h
    refine r_callV hκ (n' := 0) (index := 56) (w_X10_place Γ0 l0 h6) (lw_V q2294 q2296 qs38 q142 q2297) (by decide +kernel) (t := 8) h5 rfl rfl (by decide) rfl (Nat.le_of_ble_eq_true rfl) dX10_puts_26 ?_
    exact r_sub [0] rfl (w_X10_puts_r hκ hi hf 0 _ _ _ h)
  · replace h := (bte_i h).1 h4
    refine r_aload_n hκ 0 rfl rfl dX10_puts_12 ?_
    obtain ⟨h7, h⟩ := bck_i h
    refine r_get hκ (t := 8) (k := 0) (r := 202) h7 rfl in_X10 (by decide) rfl q475 (Or.inl rfl) dX10_puts_13 ?_
    obtain ⟨h8, h⟩ := bck_i h
    obtain ⟨s3, v3, h9, h⟩ := bcl_i h
    refine r_callV hκ (n' := 0) (index := 69) (w_J12_removeFirst Γ0 l0 h9) (lw_V q2285 q2286 q2287 q144 q2288) (by decide +kernel) (t := 21) h8 rfl rfl (by decide) rfl (Nat.le_of_ble_eq_true rfl) dX10_puts_16 ?_
    obtain ⟨h10, h⟩ := bck_i h
    refine r_cast hκ q2293 (Or.elim h10 (fun h10 => Or.inl h10) (fun h10 => Or.inr ⟨6, _, h10, rfl, Or.inl rfl⟩)) dX10_puts_19 ?_
    refine r_goto hκ (tgt := 29) (by decide) dX10_puts_22 ?_
    exact r_sub [0] rfl (w_X10_puts_r hκ hi hf 0 _ _ _ h)
/-- EditsMeet$Text.does(LEditsMeet$Edit;)V -/
def F_X2_does_r (b : Nat) (x0 x1 x2 x3 x4 x5 : Int) (s0 : bS) : Option (bS × Int) :=
  match b with
  | 0 =>
    bck (bg s0 0 x1 0 = 7) <|
    bcl (F_X8_many s0 x1) fun s1 v1 =>
    bte (i32 v1 ≤ i32 x3)
    (some (s1, 0))
    (bck (bg s1 0 x1 0 = 7) <|
    bcl (F_X8_get s1 x1 x3) fun s2 v2 =>
    bte (bg s2 0 v2 0 = 16) (bck (v2 < 0 ∨ bg s2 0 v2 0 = 16) <|
    bck (bg s2 0 x0 0 = 3) <|
    bck (bg s2 0 v2 0 = 16) <|
    bck (bg s2 0 (bg s2 86 x0 0) 0 = 19) <|
    bcl (F_J1_insert s2 (bg s2 86 x0 0) x2 (bg s2 386 v2 0)) fun s3 v3 =>
    bck (bg s3 0 x0 0 = 3) <|
    bck (bg s3 0 v2 0 = 16) <|
    bck (bg s3 0 (bg s3 90 x0 0) 0 = 19) <|
    bcl (F_J1_insert s3 (bg s3 90 x0 0) x2 (bg s3 390 v2 0)) fun s4 v4 =>
    F_X2_does_r 2 x0 x1 x2 x3 v2 0 s4) (bck (v2 < 0 ∨ bg s2 0 v2 0 = 6 ∨ bg s2 0 v2 0 = 15 ∨ bg s2 0 v2 0 = 17) <| bcl (bte (bg s2 0 v2 0 = 6) (F_X5_deletes s2 v2) (bte (bg s2 0 v2 0 = 15) (F_X5_deletes s2 v2) (bte (bg s2 0 v2 0 = 16) (F_X5_deletes s2 v2) (bte (bg s2 0 v2 0 = 17) (F_X5_deletes s2 v2) (none))))) fun s5 v5 =>
    bte (i32 v5 = 0)
    (F_X2_does_r 1 x0 x1 x2 x3 v2 x2 s5)
    (bck (bg s5 0 x0 0 = 3) <|
    bcl (bte (bg s5 0 v2 0 = 6) (F_X6_n s5 v2) (bte (bg s5 0 v2 0 = 15) (F_X6_n s5 v2) (bte (bg s5 0 v2 0 = 16) (F_X17_n s5 v2) (bte (bg s5 0 v2 0 = 17) (F_X6_n s5 v2) (none))))) fun s6 v6 =>
    bck (bg s6 0 (bg s5 86 x0 0) 0 = 19) <|
    bcl (F_J1_delete s6 (bg s5 86 x0 0) x2 (x2 + v6)) fun s7 v7 =>
    bck (bg s7 0 x0 0 = 3) <|
    bcl (bte (bg s7 0 v2 0 = 6) (F_X6_n s7 v2) (bte (bg s7 0 v2 0 = 15) (F_X6_n s7 v2) (bte (bg s7 0 v2 0 = 16) (F_X17_n s7 v2) (bte (bg s7 0 v2 0 = 17) (F_X6_n s7 v2) (none))))) fun s8 v8 =>
    bck (bg s8 0 (bg s7 90 x0 0) 0 = 19) <|
    bcl (F_J1_delete s8 (bg s7 90 x0 0) x2 (x2 + v8)) fun s9 v9 =>
    F_X2_does_r 2 x0 x1 x2 x3 v2 0 s9)))
  | 1 =>
    bcl (bte (bg s0 0 x4 0 = 6) (F_X6_n s0 x4) (bte (bg s0 0 x4 0 = 15) (F_X6_n s0 x4) (bte (bg s0 0 x4 0 = 16) (F_X17_n s0 x4) (bte (bg s0 0 x4 0 = 17) (F_X6_n s0 x4) (none))))) fun s11 v11 =>
    bte (i32 (x2 + v11) ≤ i32 x5)
    (F_X2_does_r 2 x0 x1 x2 x3 x4 0 s11)
    (bck (bg s11 0 x0 0 = 3) <|
    bck (bg s11 0 x0 0 = 3) <|
    bcl (F_X2_mark s11 x0 x5) fun s12 v12 =>
    bcl (bte (bg s12 0 x4 0 = 6) (F_X5_marks s12 x4 v12) (bte (bg s12 0 x4 0 = 15) (F_X5_marks s12 x4 v12) (bte (bg s12 0 x4 0 = 16) (F_X5_marks s12 x4 v12) (bte (bg s12 0 x4 0 = 17) (F_X5_marks s12 x4 v12) (none))))) fun s13 v13 =>
    bck (bg s13 0 (bg s11 90 x0 0) 0 = 19) <|
    bcl (F_J1_setCharAt s13 (bg s11 90 x0 0) x5 (b_i2c v13)) fun s14 v14 =>
    F_X2_does_r 1 x0 x1 x2 x3 x4 (x5 + 1) s14)
  | 2 =>
    bcl (bte (bg s0 0 x4 0 = 6) (F_X5_gives s0 x4) (bte (bg s0 0 x4 0 = 15) (F_X16_gives s0 x4) (bte (bg s0 0 x4 0 = 16) (F_X5_gives s0 x4) (bte (bg s0 0 x4 0 = 17) (F_X5_gives s0 x4) (none))))) fun s10 v10 =>
    F_X2_does_r 0 x0 x1 (x2 + v10) (x3 + 1) 0 0 s10
  | _ => none
partial_fixpoint
def F_X2_does (s0 : bS) (a0 a1 : Int) : Option (bS × Int) :=
  F_X2_does_r 0 a0 a1 0 0 0 0 s0
set_option maxHeartbeats 4000000 in
set_option maxRecDepth 100000 in
set_option synthInstance.maxHeartbeats 4000000 in
theorem w_X2_does_r {Γ0 : bG} {l0 : Launch} {κ : bK} {st' : bS} {v : Int} (hκ : bOk κ Γ0 l0 cX2_does RX2 7 6 136) (hi : bIn κ yX2_does) (hf : bFin κ none st' none) (b : Nat) (x0 x1 x2 x3 x4 x5 : Int) (s0 : bS) (h : F_X2_does_r b x0 x1 x2 x3 x4 x5 s0 = some (st', v)) : match (generalizing := false) b with | 0 => bJ κ s0 4 [(0, (2, x0)), (1, (2, x1)), (2, (0, x2)), (3, (0, x3))] [] | 1 => bJ κ s0 117 [(0, (2, x0)), (1, (2, x1)), (2, (0, x2)), (3, (0, x3)), (4, (2, x4)), (6, (0, x5))] [] | 2 => bJ κ s0 160 [(0, (2, x0)), (1, (2, x1)), (2, (0, x2)), (3, (0, x3)), (4, (2, x4))] [] | _ => True := by
  refine F_X2_does_r.partial_correctness x0 x1 (fun b x2 x3 x4 x5 s0 r => r = (st', v) → match (generalizing := false) b with | 0 => bJ κ s0 4 [(0, (2, x0)), (1, (2, x1)), (2, (0, x2)), (3, (0, x3))] [] | 1 => bJ κ s0 117 [(0, (2, x0)), (1, (2, x1)), (2, (0, x2)), (3, (0, x3)), (4, (2, x4)), (6, (0, x5))] [] | 2 => bJ κ s0 160 [(0, (2, x0)), (1, (2, x1)), (2, (0, x2)), (3, (0, x3)), (4, (2, x4))] [] | _ => True) ?_ b x2 x3 x4 x5 s0 _ h rfl
  intro f' ih b x2 x3 x4 x5 s0 r h hr
  subst hr
  match b, h with
  | 0, h =>
      refine r_iload_n hκ 3 rfl rfl dX2_does_4 ?_
      refine r_aload_n hκ 1 rfl rfl dX2_does_5 ?_
      obtain ⟨h1, h⟩ := bck_i h
      obtain ⟨s1, v1, h2, h⟩ := bcl_i h
      refine r_callV hκ (n' := 0) (index := 42) (w_X8_many Γ0 l0 h2) (lw_V q2176 q807 q808 q140 q809) (by decide +kernel) (t := 6) h1 rfl rfl (by decide) rfl (Nat.le_of_ble_eq_true rfl) dX2_does_6 ?_
      refine r_icmp_ge hκ (tgt := 176) (by decide) dX2_does_9 (fun h3 => ?_) (fun h3 => ?_)
      · replace h := (bte_i h).1 h3
        exact r_vretH hκ hf h dX2_does_176
      · replace h := (bte_i h).2 h3
        refine r_aload_n hκ 1 rfl rfl dX2_does_12 ?_
        refine r_iload_n hκ 3 rfl rfl dX2_does_13 ?_
        obtain ⟨h4, h⟩ := bck_i h
        obtain ⟨s2, v2, h5, h⟩ := bcl_i h
        refine r_callV hκ (n' := 1) (index := 47) (w_X8_get Γ0 l0 h5) (lw_V q2177 q815 q816 q140 q817) (by decide +kernel) (t := 6) h4 rfl rfl (by decide) rfl (Nat.le_of_ble_eq_true rfl) dX2_does_14 ?_
        refine r_astore hκ (L2 := [(4, (2, v2)), (0, (2, x0)), (1, (2, x1)), (2, (0, x2)), (3, (0, x3))]) (by decide) rfl dX2_does_17 ?_
        refine r_aload hκ 0 rfl dX2_does_19 ?_
        by_cases h6 : bg s2 0 v2 0 = 16
        · replace h := (bte_i h).1 h6
          refine r_instGY hκ q2351 (⟨16, _, h6, by decide, rfl, Or.inl (by decide +kernel)⟩) dX2_does_21 ?_
          refine r_if_eq hκ (tgt := 65) (by decide) dX2_does_24 (fun hc => absurd hc (by decide)) (fun _ => ?_)
          refine r_aload hκ 0 rfl dX2_does_27 ?_
          obtain ⟨h8, h⟩ := bck_i h
          refine r_cast hκ q2351 (Or.elim h8 (fun h8 => Or.inl h8) (fun h8 => Or.inr ⟨15, _, h8, rfl, Or.inl rfl⟩)) dX2_does_29 ?_
          refine r_astore hκ (L2 := [(5, (2, v2)), (4, (2, v2)), (0, (2, x0)), (1, (2, x1)), (2, (0, x2)), (3, (0, x3))]) (by decide) rfl dX2_does_32 ?_
          refine r_aload_n hκ 2 rfl rfl dX2_does_34 ?_
          obtain ⟨h9, h⟩ := bck_i h
          refine r_get hκ (t := 2) (k := 0) (r := 86) h9 rfl in_X2 (by decide) rfl q316 (Or.inl rfl) dX2_does_35 ?_
          refine r_iload_n hκ 4 rfl rfl dX2_does_38 ?_
          refine r_aload hκ 0 rfl dX2_does_39 ?_
          obtain ⟨h10, h⟩ := bck_i h
          refine r_getN hκ (ref := "EditsMeet$Insert") (host := "EditsMeet") (t := 15) (k := 0) (r := 386) h10 rfl in_X17 (by decide) rfl (by decide) rfl dX2_does_41 ?_
          obtain ⟨h11, h⟩ := bck_i h
          obtain ⟨s3, v3, h12, h⟩ := bcl_i h
          refine r_callV hκ (n' := 2) (index := 56) (w_J1_insert Γ0 l0 h12) (lw_V q2352 q2353 q2354 q125 q2355) (by decide +kernel) (t := 18) h11 rfl rfl (by decide) rfl (Nat.le_of_ble_eq_true rfl) dX2_does_44 ?_
          refine r_pop hκ (bd_cat2k _) dX2_does_47 ?_
          refine r_aload_n hκ 2 rfl rfl dX2_does_48 ?_
          obtain ⟨h13, h⟩ := bck_i h
          refine r_get hκ (t := 2) (k := 1) (r := 90) h13 rfl in_X2 (by decide) rfl q317 (Or.inl rfl) dX2_does_49 ?_
          refine r_iload_n hκ 4 rfl rfl dX2_does_52 ?_
          refine r_aload hκ 0 rfl dX2_does_53 ?_
          obtain ⟨h14, h⟩ := bck_i h
          refine r_getN hκ (ref := "EditsMeet$Insert") (host := "EditsMeet") (t := 15) (k := 1) (r := 390) h14 rfl in_X17 (by decide) rfl (by decide) rfl dX2_does_55 ?_
          obtain ⟨h15, h⟩ := bck_i h
          obtain ⟨s4, v4, h16, h⟩ := bcl_i h
          refine r_callV hκ (n' := 2) (index := 56) (w_J1_insert Γ0 l0 h16) (lw_V q2352 q2353 q2354 q125 q2355) (by decide +kernel) (t := 18) h15 rfl rfl (by decide) rfl (Nat.le_of_ble_eq_true rfl) dX2_does_58 ?_
          refine r_pop hκ (bd_cat2k _) dX2_does_61 ?_
          refine r_goto hκ (tgt := 160) (by decide) dX2_does_62 ?_
          exact r_sub [2, 3, 4, 5, 1] rfl (ih 2 _ _ _ _ _ _ h rfl)
        · replace h := (bte_i h).2 h6
          obtain ⟨h7, h⟩ := bck_i h
          refine r_instGN hκ q2351 (Or.elim h7 (fun h7 => Or.inl h7) (fun h7 => Or.elim h7 (fun h7 => Or.inr ⟨6, _, h7, by decide, rfl, by decide +kernel⟩) (fun h7 => Or.elim h7 (fun h7 => Or.inr ⟨15, _, h7, by decide, rfl, by decide +kernel⟩) (fun h7 => Or.inr ⟨17, _, h7, by decide, rfl, by decide +kernel⟩)))) dX2_does_21 ?_
          refine r_if_eq hκ (tgt := 65) (by decide) dX2_does_24 (fun _ => ?_) (fun hc => absurd hc (by decide))
          refine r_aload hκ 0 rfl dX2_does_65 ?_
          obtain ⟨s5, v5, h17, h⟩ := bcl_i h
          refine r_seq (A := bJ κ s5 72 [(4, (2, v2)), (0, (2, x0)), (1, (2, x1)), (2, (0, x2)), (3, (0, x3))] [(0, v5)]) ?_ (fun k0 => ?_)
          case refine_2 =>
            by_cases h18 : bg s2 0 v2 0 = 6
            · have hq0 := (bte_i h17).1 h18
              exact r_callFD hκ (n' := 0) (index := 62) (C := "EditsMeet$Keep") (w_X5_deletes Γ0 l0 hq0) (lw_meth q1496) q2185 q1494 q137 (by decide +kernel) (by decide +kernel) (t := 5) h18 rfl rfl (by decide) rfl (Nat.le_of_ble_eq_true rfl) dX2_does_67 k0
            replace h17 := (bte_i h17).2 h18
            by_cases h19 : bg s2 0 v2 0 = 15
            · have hq0 := (bte_i h17).1 h19
              exact r_callFD hκ (n' := 0) (index := 62) (C := "EditsMeet$Delete") (w_X5_deletes Γ0 l0 hq0) (lw_meth q1496) q2185 q1494 q137 (by decide +kernel) (by decide +kernel) (t := 14) h19 rfl rfl (by decide) rfl (Nat.le_of_ble_eq_true rfl) dX2_does_67 k0
            replace h17 := (bte_i h17).2 h19
            by_cases h20 : bg s2 0 v2 0 = 16
            · have hq0 := (bte_i h17).1 h20
              exact r_callFD hκ (n' := 0) (index := 62) (C := "EditsMeet$Insert") (w_X5_deletes Γ0 l0 hq0) (lw_meth q1496) q2185 q1494 q137 (by decide +kernel) (by decide +kernel) (t := 15) h20 rfl rfl (by decide) rfl (Nat.le_of_ble_eq_true rfl) dX2_does_67 k0
            replace h17 := (bte_i h17).2 h20
            by_cases h21 : bg s2 0 v2 0 = 17
            · have hq0 := (bte_i h17).1 h21
              exact r_callFD hκ (n' := 0) (index := 62) (C := "EditsMeet$Mark") (w_X5_deletes Γ0 l0 hq0) (lw_meth q1496) q2185 q1494 q137 (by decide +kernel) (by decide +kernel) (t := 16) h21 rfl rfl (by decide) rfl (Nat.le_of_ble_eq_true rfl) dX2_does_67 k0
            replace h17 := (bte_i h17).2 h21
            cases h17
          refine r_if_eq hκ (tgt := 114) (by decide) dX2_does_72 (fun h22 => ?_) (fun h22 => ?_)
          · replace h := (bte_i h).1 h22
            refine r_iload_n hκ 3 rfl rfl dX2_does_114 ?_
            refine r_istore hκ (L2 := [(6, (0, x2)), (4, (2, v2)), (0, (2, x0)), (1, (2, x1)), (2, (0, x2)), (3, (0, x3))]) (by decide) rfl dX2_does_115 ?_
            exact r_sub [2, 3, 4, 5, 1, 0] rfl (ih 1 _ _ _ _ _ _ h rfl)
          · replace h := (bte_i h).2 h22
            refine r_aload_n hκ 1 rfl rfl dX2_does_75 ?_
            obtain ⟨h23, h⟩ := bck_i h
            refine r_get hκ (t := 2) (k := 0) (r := 86) h23 rfl in_X2 (by decide) rfl q316 (Or.inl rfl) dX2_does_76 ?_
            refine r_iload_n hκ 3 rfl rfl dX2_does_79 ?_
            refine r_iload_n hκ 3 rfl rfl dX2_does_80 ?_
            refine r_aload hκ 0 rfl dX2_does_81 ?_
            obtain ⟨s6, v6, h24, h⟩ := bcl_i h
            refine r_seq (A := bJ κ s6 88 [(4, (2, v2)), (0, (2, x0)), (1, (2, x1)), (2, (0, x2)), (3, (0, x3))] [(0, v6), (0, x2), (0, x2), (2, (bg s5 86 x0 0))]) ?_ (fun k0 => ?_)
            case refine_2 =>
              by_cases h25 : bg s5 0 v2 0 = 6
              · have hq0 := (bte_i h24).1 h25
                exact r_callF hκ (n' := 0) (index := 68) (C := "EditsMeet$Keep") (w_X6_n Γ0 l0 hq0) (lw_app (lw_l4 q2181 q882 q865 q138) (lw_meth q867)) (by decide +kernel) (by decide +kernel) (t := 5) h25 rfl rfl (by decide) rfl (Nat.le_of_ble_eq_true rfl) dX2_does_83 k0
              replace h24 := (bte_i h24).2 h25
              by_cases h26 : bg s5 0 v2 0 = 15
              · have hq0 := (bte_i h24).1 h26
                exact r_callF hκ (n' := 0) (index := 68) (C := "EditsMeet$Delete") (w_X6_n Γ0 l0 hq0) (lw_app (lw_l4 q2181 q863 q865 q138) (lw_meth q867)) (by decide +kernel) (by decide +kernel) (t := 14) h26 rfl rfl (by decide) rfl (Nat.le_of_ble_eq_true rfl) dX2_does_83 k0
              replace h24 := (bte_i h24).2 h26
              by_cases h27 : bg s5 0 v2 0 = 16
              · have hq0 := (bte_i h24).1 h27
                exact r_callF hκ (n' := 0) (index := 68) (C := "EditsMeet$Insert") (w_X17_n Γ0 l0 hq0) (lw_app (lw_l4 q2181 q868 q870 q165) (lw_meth q872)) (by decide +kernel) (by decide +kernel) (t := 15) h27 rfl rfl (by decide) rfl (Nat.le_of_ble_eq_true rfl) dX2_does_83 k0
              replace h24 := (bte_i h24).2 h27
              by_cases h28 : bg s5 0 v2 0 = 17
              · have hq0 := (bte_i h24).1 h28
                exact r_callF hκ (n' := 0) (index := 68) (C := "EditsMeet$Mark") (w_X6_n Γ0 l0 hq0) (lw_app (lw_l4 q2181 q884 q865 q138) (lw_meth q867)) (by decide +kernel) (by decide +kernel) (t := 16) h28 rfl rfl (by decide) rfl (Nat.le_of_ble_eq_true rfl) dX2_does_83 k0
              replace h24 := (bte_i h24).2 h28
              cases h24
            refine r_iadd hκ dX2_does_88 ?_
            obtain ⟨h29, h⟩ := bck_i h
            obtain ⟨s7, v7, h30, h⟩ := bcl_i h
            refine r_callV hκ (n' := 2) (index := 71) (w_J1_delete Γ0 l0 h30) (lw_V q2368 q2369 q2370 q125 q2371) (by decide +kernel) (t := 18) h29 rfl rfl (by decide) rfl (Nat.le_of_ble_eq_true rfl) dX2_does_89 ?_
            refine r_pop hκ (bd_cat2k _) dX2_does_92 ?_
            refine r_aload_n hκ 1 rfl rfl dX2_does_93 ?_
            obtain ⟨h31, h⟩ := bck_i h
            refine r_get hκ (t := 2) (k := 1) (r := 90) h31 rfl in_X2 (by decide) rfl q317 (Or.inl rfl) dX2_does_94 ?_
            refine r_iload_n hκ 3 rfl rfl dX2_does_97 ?_
            refine r_iload_n hκ 3 rfl rfl dX2_does_98 ?_
            refine r_aload hκ 0 rfl dX2_does_99 ?_
            obtain ⟨s8, v8, h32, h⟩ := bcl_i h
            refine r_seq (A := bJ κ s8 106 [(4, (2, v2)), (0, (2, x0)), (1, (2, x1)), (2, (0, x2)), (3, (0, x3))] [(0, v8), (0, x2), (0, x2), (2, (bg s7 90 x0 0))]) ?_ (fun k0 => ?_)
            case refine_2 =>
              by_cases h33 : bg s7 0 v2 0 = 6
              · have hq0 := (bte_i h32).1 h33
                exact r_callF hκ (n' := 0) (index := 68) (C := "EditsMeet$Keep") (w_X6_n Γ0 l0 hq0) (lw_app (lw_l4 q2181 q882 q865 q138) (lw_meth q867)) (by decide +kernel) (by decide +kernel) (t := 5) h33 rfl rfl (by decide) rfl (Nat.le_of_ble_eq_true rfl) dX2_does_101 k0
              replace h32 := (bte_i h32).2 h33
              by_cases h34 : bg s7 0 v2 0 = 15
              · have hq0 := (bte_i h32).1 h34
                exact r_callF hκ (n' := 0) (index := 68) (C := "EditsMeet$Delete") (w_X6_n Γ0 l0 hq0) (lw_app (lw_l4 q2181 q863 q865 q138) (lw_meth q867)) (by decide +kernel) (by decide +kernel) (t := 14) h34 rfl rfl (by decide) rfl (Nat.le_of_ble_eq_true rfl) dX2_does_101 k0
              replace h32 := (bte_i h32).2 h34
              by_cases h35 : bg s7 0 v2 0 = 16
              · have hq0 := (bte_i h32).1 h35
                exact r_callF hκ (n' := 0) (index := 68) (C := "EditsMeet$Insert") (w_X17_n Γ0 l0 hq0) (lw_app (lw_l4 q2181 q868 q870 q165) (lw_meth q872)) (by decide +kernel) (by decide +kernel) (t := 15) h35 rfl rfl (by decide) rfl (Nat.le_of_ble_eq_true rfl) dX2_does_101 k0
              replace h32 := (bte_i h32).2 h35
              by_cases h36 : bg s7 0 v2 0 = 17
              · have hq0 := (bte_i h32).1 h36
                exact r_callF hκ (n' := 0) (index := 68) (C := "EditsMeet$Mark") (w_X6_n Γ0 l0 hq0) (lw_app (lw_l4 q2181 q884 q865 q138) (lw_meth q867)) (by decide +kernel) (by decide +kernel) (t := 16) h36 rfl rfl (by decide) rfl (Nat.le_of_ble_eq_true rfl) dX2_does_101 k0
              replace h32 := (bte_i h32).2 h36
              cases h32
            refine r_iadd hκ dX2_does_106 ?_
            obtain ⟨h37, h⟩ := bck_i h
            obtain ⟨s9, v9, h38, h⟩ := bcl_i h
            refine r_callV hκ (n' := 2) (index := 71) (w_J1_delete Γ0 l0 h38) (lw_V q2368 q2369 q2370 q125 q2371) (by decide +kernel) (t := 18) h37 rfl rfl (by decide) rfl (Nat.le_of_ble_eq_true rfl) dX2_does_107 ?_
            refine r_pop hκ (bd_cat2k _) dX2_does_110 ?_
            refine r_goto hκ (tgt := 160) (by decide) dX2_does_111 ?_
            exact r_sub [1, 2, 3, 4, 0] rfl (ih 2 _ _ _ _ _ _ h rfl)
  | 1, h =>
      refine r_iload hκ 5 rfl dX2_does_117 ?_
      refine r_iload_n hκ 2 rfl rfl dX2_does_119 ?_
      refine r_aload hκ 4 rfl dX2_does_120 ?_
      obtain ⟨s11, v11, h44, h⟩ := bcl_i h
      refine r_seq (A := bJ κ s11 127 [(0, (2, x0)), (1, (2, x1)), (2, (0, x2)), (3, (0, x3)), (4, (2, x4)), (6, (0, x5))] [(0, v11), (0, x2), (0, x5)]) ?_ (fun k0 => ?_)
      case refine_2 =>
        by_cases h45 : bg s0 0 x4 0 = 6
        · have hq0 := (bte_i h44).1 h45
          exact r_callF hκ (n' := 0) (index := 68) (C := "EditsMeet$Keep") (w_X6_n Γ0 l0 hq0) (lw_app (lw_l4 q2181 q882 q865 q138) (lw_meth q867)) (by decide +kernel) (by decide +kernel) (t := 5) h45 rfl rfl (by decide) rfl (Nat.le_of_ble_eq_true rfl) dX2_does_122 k0
        replace h44 := (bte_i h44).2 h45
        by_cases h46 : bg s0 0 x4 0 = 15
        · have hq0 := (bte_i h44).1 h46
          exact r_callF hκ (n' := 0) (index := 68) (C := "EditsMeet$Delete") (w_X6_n Γ0 l0 hq0) (lw_app (lw_l4 q2181 q863 q865 q138) (lw_meth q867)) (by decide +kernel) (by decide +kernel) (t := 14) h46 rfl rfl (by decide) rfl (Nat.le_of_ble_eq_true rfl) dX2_does_122 k0
        replace h44 := (bte_i h44).2 h46
        by_cases h47 : bg s0 0 x4 0 = 16
        · have hq0 := (bte_i h44).1 h47
          exact r_callF hκ (n' := 0) (index := 68) (C := "EditsMeet$Insert") (w_X17_n Γ0 l0 hq0) (lw_app (lw_l4 q2181 q868 q870 q165) (lw_meth q872)) (by decide +kernel) (by decide +kernel) (t := 15) h47 rfl rfl (by decide) rfl (Nat.le_of_ble_eq_true rfl) dX2_does_122 k0
        replace h44 := (bte_i h44).2 h47
        by_cases h48 : bg s0 0 x4 0 = 17
        · have hq0 := (bte_i h44).1 h48
          exact r_callF hκ (n' := 0) (index := 68) (C := "EditsMeet$Mark") (w_X6_n Γ0 l0 hq0) (lw_app (lw_l4 q2181 q884 q865 q138) (lw_meth q867)) (by decide +kernel) (by decide +kernel) (t := 16) h48 rfl rfl (by decide) rfl (Nat.le_of_ble_eq_true rfl) dX2_does_122 k0
        replace h44 := (bte_i h44).2 h48
        cases h44
      refine r_iadd hκ dX2_does_127 ?_
      refine r_icmp_ge hκ (tgt := 160) (by decide) dX2_does_128 (fun h49 => ?_) (fun h49 => ?_)
      · replace h := (bte_i h).1 h49
        exact r_sub [0, 1, 2, 3, 4] rfl (ih 2 _ _ _ _ _ _ h rfl)
      · replace h := (bte_i h).2 h49
        refine r_aload_n hκ 0 rfl rfl dX2_does_131 ?_
        obtain ⟨h50, h⟩ := bck_i h
        refine r_get hκ (t := 2) (k := 1) (r := 90) h50 rfl in_X2 (by decide) rfl q317 (Or.inl rfl) dX2_does_132 ?_
        refine r_iload hκ 5 rfl dX2_does_135 ?_
        refine r_aload hκ 4 rfl dX2_does_137 ?_
        refine r_aload_n hκ 0 rfl rfl dX2_does_139 ?_
        refine r_iload hκ 5 rfl dX2_does_140 ?_
        obtain ⟨h51, h⟩ := bck_i h
        obtain ⟨s12, v12, h52, h⟩ := bcl_i h
        refine r_callV hκ (n' := 1) (index := 75) (w_X2_mark Γ0 l0 h52) (lw_V q2206 q2207 q2208 q123 q2209) (by decide +kernel) (t := 2) h51 rfl rfl (by decide) rfl (Nat.le_of_ble_eq_true rfl) dX2_does_142 ?_
        obtain ⟨s13, v13, h53, h⟩ := bcl_i h
        refine r_seq (A := bJ κ s13 150 [(0, (2, x0)), (1, (2, x1)), (2, (0, x2)), (3, (0, x3)), (4, (2, x4)), (6, (0, x5))] [(0, v13), (0, x5), (2, (bg s11 90 x0 0))]) ?_ (fun k0 => ?_)
        case refine_2 =>
          by_cases h54 : bg s12 0 x4 0 = 6
          · have hq0 := (bte_i h53).1 h54
            exact r_callFD hκ (n' := 1) (index := 79) (C := "EditsMeet$Keep") (w_X5_marks Γ0 l0 hq0) (lw_meth q2109) q2212 q2107 q137 (by decide +kernel) (by decide +kernel) (t := 5) h54 rfl rfl (by decide) rfl (Nat.le_of_ble_eq_true rfl) dX2_does_145 k0
          replace h53 := (bte_i h53).2 h54
          by_cases h55 : bg s12 0 x4 0 = 15
          · have hq0 := (bte_i h53).1 h55
            exact r_callFD hκ (n' := 1) (index := 79) (C := "EditsMeet$Delete") (w_X5_marks Γ0 l0 hq0) (lw_meth q2109) q2212 q2107 q137 (by decide +kernel) (by decide +kernel) (t := 14) h55 rfl rfl (by decide) rfl (Nat.le_of_ble_eq_true rfl) dX2_does_145 k0
          replace h53 := (bte_i h53).2 h55
          by_cases h56 : bg s12 0 x4 0 = 16
          · have hq0 := (bte_i h53).1 h56
            exact r_callFD hκ (n' := 1) (index := 79) (C := "EditsMeet$Insert") (w_X5_marks Γ0 l0 hq0) (lw_meth q2109) q2212 q2107 q137 (by decide +kernel) (by decide +kernel) (t := 15) h56 rfl rfl (by decide) rfl (Nat.le_of_ble_eq_true rfl) dX2_does_145 k0
          replace h53 := (bte_i h53).2 h56
          by_cases h57 : bg s12 0 x4 0 = 17
          · have hq0 := (bte_i h53).1 h57
            exact r_callFD hκ (n' := 1) (index := 79) (C := "EditsMeet$Mark") (w_X5_marks Γ0 l0 hq0) (lw_meth q2109) q2212 q2107 q137 (by decide +kernel) (by decide +kernel) (t := 16) h57 rfl rfl (by decide) rfl (Nat.le_of_ble_eq_true rfl) dX2_does_145 k0
          replace h53 := (bte_i h53).2 h57
          cases h53
        refine r_i2c hκ dX2_does_150 ?_
        obtain ⟨h58, h⟩ := bck_i h
        obtain ⟨s14, v14, h59, h⟩ := bcl_i h
        refine r_callV hκ (n' := 2) (index := 81) (w_J1_setCharAt Γ0 l0 h59) (lw_V q2375 q2376 q2377 q125 q2378) (by decide +kernel) (t := 18) h58 rfl rfl (by decide) rfl (Nat.le_of_ble_eq_true rfl) dX2_does_151 ?_
        refine r_iinc hκ (L2 := [(6, (0, (x5 + 1))), (0, (2, x0)), (1, (2, x1)), (2, (0, x2)), (3, (0, x3)), (4, (2, x4))]) 5 rfl (by decide) rfl dX2_does_154 ?_
        refine r_goto hκ (tgt := 117) (by decide) dX2_does_157 ?_
        exact r_sub [1, 2, 3, 4, 5, 0] rfl (ih 1 _ _ _ _ _ _ h rfl)
  | 2, h =>
      refine r_iload_n hκ 2 rfl rfl dX2_does_160 ?_
      refine r_aload hκ 4 rfl dX2_does_161 ?_
      obtain ⟨s10, v10, h39, h⟩ := bcl_i h
      refine r_seq (A := bJ κ s10 168 [(0, (2, x0)), (1, (2, x1)), (2, (0, x2)), (3, (0, x3)), (4, (2, x4))] [(0, v10), (0, x2)]) ?_ (fun k0 => ?_)
      case refine_2 =>
        by_cases h40 : bg s0 0 x4 0 = 6
        · have hq0 := (bte_i h39).1 h40
          exact r_callFD hκ (n' := 0) (index := 85) (C := "EditsMeet$Keep") (w_X5_gives Γ0 l0 hq0) (lw_meth q1509) q2383 q1507 q137 (by decide +kernel) (by decide +kernel) (t := 5) h40 rfl rfl (by decide) rfl (Nat.le_of_ble_eq_true rfl) dX2_does_163 k0
        replace h39 := (bte_i h39).2 h40
        by_cases h41 : bg s0 0 x4 0 = 15
        · have hq0 := (bte_i h39).1 h41
          exact r_callF hκ (n' := 0) (index := 85) (C := "EditsMeet$Delete") (w_X16_gives Γ0 l0 hq0) (lw_app (lw_l4 q2383 q1501 q1503 q164) (lw_meth q1505)) (by decide +kernel) (by decide +kernel) (t := 14) h41 rfl rfl (by decide) rfl (Nat.le_of_ble_eq_true rfl) dX2_does_163 k0
        replace h39 := (bte_i h39).2 h41
        by_cases h42 : bg s0 0 x4 0 = 16
        · have hq0 := (bte_i h39).1 h42
          exact r_callFD hκ (n' := 0) (index := 85) (C := "EditsMeet$Insert") (w_X5_gives Γ0 l0 hq0) (lw_meth q1509) q2383 q1507 q137 (by decide +kernel) (by decide +kernel) (t := 15) h42 rfl rfl (by decide) rfl (Nat.le_of_ble_eq_true rfl) dX2_does_163 k0
        replace h39 := (bte_i h39).2 h42
        by_cases h43 : bg s0 0 x4 0 = 17
        · have hq0 := (bte_i h39).1 h43
          exact r_callFD hκ (n' := 0) (index := 85) (C := "EditsMeet$Mark") (w_X5_gives Γ0 l0 hq0) (lw_meth q1509) q2383 q1507 q137 (by decide +kernel) (by decide +kernel) (t := 16) h43 rfl rfl (by decide) rfl (Nat.le_of_ble_eq_true rfl) dX2_does_163 k0
        replace h39 := (bte_i h39).2 h43
        cases h39
      refine r_iadd hκ dX2_does_168 ?_
      refine r_istore_n hκ (L2 := [(2, (0, (x2 + v10))), (0, (2, x0)), (1, (2, x1)), (3, (0, x3)), (4, (2, x4))]) (by decide) rfl rfl dX2_does_169 ?_
      refine r_iinc hκ (L2 := [(3, (0, (x3 + 1))), (2, (0, (x2 + v10))), (0, (2, x0)), (1, (2, x1)), (4, (2, x4))]) 3 rfl (by decide) rfl dX2_does_170 ?_
      refine r_goto hκ (tgt := 4) (by decide) dX2_does_173 ?_
      exact r_sub [2, 3, 1, 0] rfl (ih 0 _ _ _ _ _ _ h rfl)
  | b + 3, h => trivial
set_option maxHeartbeats 4000000 in
set_option maxRecDepth 100000 in
theorem w_X2_does (Γ0 : bG) (l0 : Launch) {s0 st' : bS} {v a0 a1 : Int} (h : F_X2_does s0 a0 a1 = some (st', v)) : bCt Γ0 l0 yX2_does cX2_does 7 none 6 136 [(2, a0), (2, a1)] s0 st' none := by
  refine b_ent (own := RX2) (by decide +kernel) rfl (Nat.le_of_ble_eq_true rfl) (L := [(0, (2, a0)), (1, (2, a1))]) rfl ?_
  intro κ hκ hi hf
  unfold F_X2_does at h
  refine r_iconst hκ dX2_does_0 ?_
  refine r_istore_n hκ (L2 := [(2, (0, 0)), (0, (2, a0)), (1, (2, a1))]) (by decide) rfl rfl dX2_does_1 ?_
  refine r_iconst hκ dX2_does_2 ?_
  refine r_istore_n hκ (L2 := [(3, (0, 0)), (2, (0, 0)), (0, (2, a0)), (1, (2, a1))]) (by decide) rfl rfl dX2_does_3 ?_
  exact r_sub [2, 3, 1, 0] rfl (w_X2_does_r hκ hi hf 0 _ _ _ _ _ _ _ h)
/-- EditsMeet$Edit.moved(IZ)I -/
def F_X8_moved_r (b : Nat) (x0 x1 x2 x3 x4 x5 x6 x7 : Int) (s0 : bS) : Option (bS × Int) :=
  match b with
  | 0 =>
    bck (bg s0 0 x0 0 = 7) <|
    bck (bg s0 0 (bg s0 134 x0 0) 0 = 21) <|
    bcl (F_J10_size s0 (bg s0 134 x0 0)) fun s1 v1 =>
    bte (i32 v1 ≤ i32 x5)
    (some (s1, x4))
    (bck (bg s1 0 x0 0 = 7) <|
    bck (bg s1 0 (bg s1 134 x0 0) 0 = 21) <|
    bcl (F_J10_get s1 (bg s1 134 x0 0) x5) fun s2 v2 =>
    bck (v2 < 0 ∨ bg s2 0 v2 0 = 6 ∨ bg s2 0 v2 0 = 15 ∨ bg s2 0 v2 0 = 16 ∨ bg s2 0 v2 0 = 17) <|
    bte (i32 x3 < i32 x1)
    (F_X8_moved_r 1 x0 x1 x2 x3 x4 x5 v2 0 s2)
    (bte (i32 x3 = i32 x1)
    (bte (i32 x2 = 0)
    (F_X8_moved_r 2 x0 x1 x2 x3 x4 x5 v2 0 s2)
    (F_X8_moved_r 1 x0 x1 x2 x3 x4 x5 v2 0 s2))
    (F_X8_moved_r 2 x0 x1 x2 x3 x4 x5 v2 0 s2)))
  | 1 =>
    F_X8_moved_r 3 x0 x1 x2 x3 x4 x5 x6 1 s0
  | 2 =>
    F_X8_moved_r 3 x0 x1 x2 x3 x4 x5 x6 0 s0
  | 3 =>
    bcl (bte (bg s0 0 x6 0 = 6) (F_X5_inserts s0 x6) (bte (bg s0 0 x6 0 = 15) (F_X5_inserts s0 x6) (bte (bg s0 0 x6 0 = 16) (F_X5_inserts s0 x6) (bte (bg s0 0 x6 0 = 17) (F_X5_inserts s0 x6) (none))))) fun s3 v3 =>
    bte (i32 v3 = 0)
    (F_X8_moved_r 4 x0 x1 x2 x3 x5 x6 x4 0 s3)
    (bte (i32 x7 = 0)
    (F_X8_moved_r 4 x0 x1 x2 x3 x5 x6 x4 0 s3)
    (bcl (bte (bg s3 0 x6 0 = 6) (F_X6_n s3 x6) (bte (bg s3 0 x6 0 = 15) (F_X6_n s3 x6) (bte (bg s3 0 x6 0 = 16) (F_X17_n s3 x6) (bte (bg s3 0 x6 0 = 17) (F_X6_n s3 x6) (none))))) fun s4 v4 =>
    F_X8_moved_r 5 x0 x1 x2 x3 x5 x6 v4 x4 s4))
  | 4 =>
    F_X8_moved_r 5 x0 x1 x2 x3 x4 x5 0 x6 s0
  | 5 =>
    bcl (bte (bg s0 0 x5 0 = 6) (F_X5_deletes s0 x5) (bte (bg s0 0 x5 0 = 15) (F_X5_deletes s0 x5) (bte (bg s0 0 x5 0 = 16) (F_X5_deletes s0 x5) (bte (bg s0 0 x5 0 = 17) (F_X5_deletes s0 x5) (none))))) fun s5 v5 =>
    bte (i32 v5 = 0)
    (F_X8_moved_r 6 x0 x1 x2 x3 x4 x5 0 (x7 + x6) s5)
    (bcl (bte (bg s5 0 x5 0 = 6) (F_X6_n s5 x5) (bte (bg s5 0 x5 0 = 15) (F_X6_n s5 x5) (bte (bg s5 0 x5 0 = 16) (F_X17_n s5 x5) (bte (bg s5 0 x5 0 = 17) (F_X6_n s5 x5) (none))))) fun s6 v6 =>
    F_X8_moved_r 6 x0 x1 x2 x3 x4 x5 (b_max 0 (b_min v6 (x1 - x3))) (x7 + x6) s6)
  | 6 =>
    bcl (bte (bg s0 0 x5 0 = 6) (F_X6_takes s0 x5) (bte (bg s0 0 x5 0 = 15) (F_X6_takes s0 x5) (bte (bg s0 0 x5 0 = 16) (F_X5_takes s0 x5) (bte (bg s0 0 x5 0 = 17) (F_X6_takes s0 x5) (none))))) fun s7 v7 =>
    F_X8_moved_r 0 x0 x1 x2 (x3 + v7) (x7 - x6) (x4 + 1) 0 0 s7
  | _ => none
partial_fixpoint
def F_X8_moved (s0 : bS) (a0 a1 a2 : Int) : Option (bS × Int) :=
  F_X8_moved_r 0 a0 a1 a2 0 a1 0 0 0 s0
set_option maxHeartbeats 4000000 in
set_option maxRecDepth 100000 in
set_option synthInstance.maxHeartbeats 4000000 in
theorem w_X8_moved_r {Γ0 : bG} {l0 : Launch} {κ : bK} {st' : bS} {v : Int} (hκ : bOk κ Γ0 l0 cX8_moved RX8 8 5 100) (hi : bIn κ yX8_moved) (hf : bFin κ (some .int) st' (some (0, v))) (b : Nat) (x0 x1 x2 x3 x4 x5 x6 x7 : Int) (s0 : bS) (h : F_X8_moved_r b x0 x1 x2 x3 x4 x5 x6 x7 s0 = some (st', v)) : match (generalizing := false) b with | 0 => bJ κ s0 8 [(0, (2, x0)), (1, (0, x1)), (2, (0, x2)), (3, (0, x3)), (4, (0, x4)), (5, (0, x5))] [] | 1 => bJ κ s0 48 [(0, (2, x0)), (1, (0, x1)), (2, (0, x2)), (3, (0, x3)), (4, (0, x4)), (5, (0, x5)), (6, (2, x6))] [] | 2 => bJ κ s0 52 [(0, (2, x0)), (1, (0, x1)), (2, (0, x2)), (3, (0, x3)), (4, (0, x4)), (5, (0, x5)), (6, (2, x6))] [] | 3 => bJ κ s0 53 [(0, (2, x0)), (1, (0, x1)), (2, (0, x2)), (3, (0, x3)), (4, (0, x4)), (5, (0, x5)), (6, (2, x6))] [(0, x7)] | 4 => bJ κ s0 82 [(0, (2, x0)), (1, (0, x1)), (2, (0, x2)), (3, (0, x3)), (5, (0, x4)), (6, (2, x5))] [(0, x6)] | 5 => bJ κ s0 83 [(0, (2, x0)), (1, (0, x1)), (2, (0, x2)), (3, (0, x3)), (5, (0, x4)), (6, (2, x5))] [(0, x6), (0, x7)] | 6 => bJ κ s0 119 [(0, (2, x0)), (1, (0, x1)), (2, (0, x2)), (3, (0, x3)), (5, (0, x4)), (6, (2, x5))] [(0, x6), (0, x7)] | _ => True := by
  refine F_X8_moved_r.partial_correctness x0 x1 x2 (fun b x3 x4 x5 x6 x7 s0 r => r = (st', v) → match (generalizing := false) b with | 0 => bJ κ s0 8 [(0, (2, x0)), (1, (0, x1)), (2, (0, x2)), (3, (0, x3)), (4, (0, x4)), (5, (0, x5))] [] | 1 => bJ κ s0 48 [(0, (2, x0)), (1, (0, x1)), (2, (0, x2)), (3, (0, x3)), (4, (0, x4)), (5, (0, x5)), (6, (2, x6))] [] | 2 => bJ κ s0 52 [(0, (2, x0)), (1, (0, x1)), (2, (0, x2)), (3, (0, x3)), (4, (0, x4)), (5, (0, x5)), (6, (2, x6))] [] | 3 => bJ κ s0 53 [(0, (2, x0)), (1, (0, x1)), (2, (0, x2)), (3, (0, x3)), (4, (0, x4)), (5, (0, x5)), (6, (2, x6))] [(0, x7)] | 4 => bJ κ s0 82 [(0, (2, x0)), (1, (0, x1)), (2, (0, x2)), (3, (0, x3)), (5, (0, x4)), (6, (2, x5))] [(0, x6)] | 5 => bJ κ s0 83 [(0, (2, x0)), (1, (0, x1)), (2, (0, x2)), (3, (0, x3)), (5, (0, x4)), (6, (2, x5))] [(0, x6), (0, x7)] | 6 => bJ κ s0 119 [(0, (2, x0)), (1, (0, x1)), (2, (0, x2)), (3, (0, x3)), (5, (0, x4)), (6, (2, x5))] [(0, x6), (0, x7)] | _ => True) ?_ b x3 x4 x5 x6 x7 s0 _ h rfl
  intro f' ih b x3 x4 x5 x6 x7 s0 r h hr
  subst hr
  match b, h with
  | 0, h =>
      refine r_iload hκ 5 rfl dX8_moved_8 ?_
      refine r_aload_n hκ 0 rfl rfl dX8_moved_10 ?_
      obtain ⟨h1, h⟩ := bck_i h
      refine r_get hκ (t := 6) (k := 0) (r := 134) h1 rfl in_X8 (by decide) rfl q408 (Or.inl rfl) dX8_moved_11 ?_
      obtain ⟨h2, h⟩ := bck_i h
      obtain ⟨s1, v1, h3, h⟩ := bcl_i h
      refine r_callV hκ (n' := 0) (index := 73) (w_J10_size Γ0 l0 h3) (lw_V q810 q811 q812 q134 q813) (by decide +kernel) (t := 20) h2 rfl rfl (by decide) rfl (Nat.le_of_ble_eq_true rfl) dX8_moved_14 ?_
      refine r_icmp_ge hκ (tgt := 138) (by decide) dX8_moved_17 (fun h4 => ?_) (fun h4 => ?_)
      · replace h := (bte_i h).1 h4
        refine r_iload hκ 4 rfl dX8_moved_138 ?_
        exact r_iretH hκ hf h (nar_int _) dX8_moved_140
      · replace h := (bte_i h).2 h4
        refine r_aload_n hκ 0 rfl rfl dX8_moved_20 ?_
        obtain ⟨h5, h⟩ := bck_i h
        refine r_get hκ (t := 6) (k := 0) (r := 134) h5 rfl in_X8 (by decide) rfl q408 (Or.inl rfl) dX8_moved_21 ?_
        refine r_iload hκ 5 rfl dX8_moved_24 ?_
        obtain ⟨h6, h⟩ := bck_i h
        obtain ⟨s2, v2, h7, h⟩ := bcl_i h
        refine r_callV hκ (n' := 1) (index := 76) (w_J10_get Γ0 l0 h7) (lw_V q818 q819 q820 q134 q821) (by decide +kernel) (t := 20) h6 rfl rfl (by decide) rfl (Nat.le_of_ble_eq_true rfl) dX8_moved_26 ?_
        obtain ⟨h8, h⟩ := bck_i h
        refine r_cast hκ q832 (Or.elim h8 (fun h8 => Or.inl h8) (fun h8 => Or.elim h8 (fun h8 => Or.inr ⟨5, _, h8, rfl, Or.inr (by decide +kernel)⟩) (fun h8 => Or.elim h8 (fun h8 => Or.inr ⟨14, _, h8, rfl, Or.inr (by decide +kernel)⟩) (fun h8 => Or.elim h8 (fun h8 => Or.inr ⟨15, _, h8, rfl, Or.inr (by decide +kernel)⟩) (fun h8 => Or.inr ⟨16, _, h8, rfl, Or.inr (by decide +kernel)⟩))))) dX8_moved_29 ?_
        refine r_astore hκ (L2 := [(6, (2, v2)), (0, (2, x0)), (1, (0, x1)), (2, (0, x2)), (3, (0, x3)), (4, (0, x4)), (5, (0, x5))]) (by decide) rfl dX8_moved_32 ?_
        refine r_iload_n hκ 4 rfl rfl dX8_moved_34 ?_
        refine r_iload_n hκ 2 rfl rfl dX8_moved_35 ?_
        refine r_icmp_lt hκ (tgt := 48) (by decide) dX8_moved_36 (fun h9 => ?_) (fun h9 => ?_)
        · replace h := (bte_i h).1 h9
          exact r_sub [1, 2, 3, 4, 5, 6, 0] rfl (ih 1 _ _ _ _ _ _ _ h rfl)
        · replace h := (bte_i h).2 h9
          refine r_iload_n hκ 4 rfl rfl dX8_moved_39 ?_
          refine r_iload_n hκ 2 rfl rfl dX8_moved_40 ?_
          refine r_icmp_ne hκ (tgt := 52) (by decide) dX8_moved_41 (fun h10 => ?_) (fun h10 => ?_)
          · replace h := (bte_i h).2 h10
            exact r_sub [1, 2, 3, 4, 5, 6, 0] rfl (ih 2 _ _ _ _ _ _ _ h rfl)
          · replace h := (bte_i h).1 h10
            refine r_iload_n hκ 3 rfl rfl dX8_moved_44 ?_
            refine r_if_eq hκ (tgt := 52) (by decide) dX8_moved_45 (fun h11 => ?_) (fun h11 => ?_)
            · replace h := (bte_i h).1 h11
              exact r_sub [1, 2, 3, 4, 5, 6, 0] rfl (ih 2 _ _ _ _ _ _ _ h rfl)
            · replace h := (bte_i h).2 h11
              exact r_sub [1, 2, 3, 4, 5, 6, 0] rfl (ih 1 _ _ _ _ _ _ _ h rfl)
  | 1, h =>
      refine r_iconst hκ dX8_moved_48 ?_
      refine r_goto hκ (tgt := 53) (by decide) dX8_moved_49 ?_
      exact r_sub [0, 1, 2, 3, 4, 5, 6] rfl (ih 3 _ _ _ _ _ _ _ h rfl)
  | 2, h =>
      refine r_iconst hκ dX8_moved_52 ?_
      exact r_sub [0, 1, 2, 3, 4, 5, 6] rfl (ih 3 _ _ _ _ _ _ _ h rfl)
  | 3, h =>
      refine r_istore hκ (L2 := [(7, (0, x7)), (0, (2, x0)), (1, (0, x1)), (2, (0, x2)), (3, (0, x3)), (4, (0, x4)), (5, (0, x5)), (6, (2, x6))]) (by decide) rfl dX8_moved_53 ?_
      refine r_iload hκ 5 rfl dX8_moved_55 ?_
      refine r_aload hκ 7 rfl dX8_moved_57 ?_
      obtain ⟨s3, v3, h12, h⟩ := bcl_i h
      refine r_seq (A := bJ κ s3 64 [(7, (0, x7)), (0, (2, x0)), (1, (0, x1)), (2, (0, x2)), (3, (0, x3)), (4, (0, x4)), (5, (0, x5)), (6, (2, x6))] [(0, v3), (0, x4)]) ?_ (fun k0 => ?_)
      case refine_2 =>
        by_cases h13 : bg s0 0 x6 0 = 6
        · have hq0 := (bte_i h12).1 h13
          exact r_callFD hκ (n' := 0) (index := 154) (C := "EditsMeet$Keep") (w_X5_inserts Γ0 l0 hq0) (lw_meth q1607) q2389 q1605 q137 (by decide +kernel) (by decide +kernel) (t := 5) h13 rfl rfl (by decide) rfl (Nat.le_of_ble_eq_true rfl) dX8_moved_59 k0
        replace h12 := (bte_i h12).2 h13
        by_cases h14 : bg s0 0 x6 0 = 15
        · have hq0 := (bte_i h12).1 h14
          exact r_callFD hκ (n' := 0) (index := 154) (C := "EditsMeet$Delete") (w_X5_inserts Γ0 l0 hq0) (lw_meth q1607) q2389 q1605 q137 (by decide +kernel) (by decide +kernel) (t := 14) h14 rfl rfl (by decide) rfl (Nat.le_of_ble_eq_true rfl) dX8_moved_59 k0
        replace h12 := (bte_i h12).2 h14
        by_cases h15 : bg s0 0 x6 0 = 16
        · have hq0 := (bte_i h12).1 h15
          exact r_callFD hκ (n' := 0) (index := 154) (C := "EditsMeet$Insert") (w_X5_inserts Γ0 l0 hq0) (lw_meth q1607) q2389 q1605 q137 (by decide +kernel) (by decide +kernel) (t := 15) h15 rfl rfl (by decide) rfl (Nat.le_of_ble_eq_true rfl) dX8_moved_59 k0
        replace h12 := (bte_i h12).2 h15
        by_cases h16 : bg s0 0 x6 0 = 17
        · have hq0 := (bte_i h12).1 h16
          exact r_callFD hκ (n' := 0) (index := 154) (C := "EditsMeet$Mark") (w_X5_inserts Γ0 l0 hq0) (lw_meth q1607) q2389 q1605 q137 (by decide +kernel) (by decide +kernel) (t := 16) h16 rfl rfl (by decide) rfl (Nat.le_of_ble_eq_true rfl) dX8_moved_59 k0
        replace h12 := (bte_i h12).2 h16
        cases h12
      refine r_if_eq hκ (tgt := 82) (by decide) dX8_moved_64 (fun h17 => ?_) (fun h17 => ?_)
      · replace h := (bte_i h).1 h17
        exact r_sub [1, 2, 3, 4, 6, 7] rfl (ih 4 _ _ _ _ _ _ _ h rfl)
      · replace h := (bte_i h).2 h17
        refine r_iload hκ 0 rfl dX8_moved_67 ?_
        refine r_if_eq hκ (tgt := 82) (by decide) dX8_moved_69 (fun h18 => ?_) (fun h18 => ?_)
        · replace h := (bte_i h).1 h18
          exact r_sub [1, 2, 3, 4, 6, 7] rfl (ih 4 _ _ _ _ _ _ _ h rfl)
        · replace h := (bte_i h).2 h18
          refine r_aload hκ 7 rfl dX8_moved_72 ?_
          obtain ⟨s4, v4, h19, h⟩ := bcl_i h
          refine r_seq (A := bJ κ s4 79 [(7, (0, x7)), (0, (2, x0)), (1, (0, x1)), (2, (0, x2)), (3, (0, x3)), (4, (0, x4)), (5, (0, x5)), (6, (2, x6))] [(0, v4), (0, x4)]) ?_ (fun k0 => ?_)
          case refine_2 =>
            by_cases h20 : bg s3 0 x6 0 = 6
            · have hq0 := (bte_i h19).1 h20
              exact r_callF hκ (n' := 0) (index := 99) (C := "EditsMeet$Keep") (w_X6_n Γ0 l0 hq0) (lw_app (lw_l4 q1358 q882 q865 q138) (lw_meth q867)) (by decide +kernel) (by decide +kernel) (t := 5) h20 rfl rfl (by decide) rfl (Nat.le_of_ble_eq_true rfl) dX8_moved_74 k0
            replace h19 := (bte_i h19).2 h20
            by_cases h21 : bg s3 0 x6 0 = 15
            · have hq0 := (bte_i h19).1 h21
              exact r_callF hκ (n' := 0) (index := 99) (C := "EditsMeet$Delete") (w_X6_n Γ0 l0 hq0) (lw_app (lw_l4 q1358 q863 q865 q138) (lw_meth q867)) (by decide +kernel) (by decide +kernel) (t := 14) h21 rfl rfl (by decide) rfl (Nat.le_of_ble_eq_true rfl) dX8_moved_74 k0
            replace h19 := (bte_i h19).2 h21
            by_cases h22 : bg s3 0 x6 0 = 16
            · have hq0 := (bte_i h19).1 h22
              exact r_callF hκ (n' := 0) (index := 99) (C := "EditsMeet$Insert") (w_X17_n Γ0 l0 hq0) (lw_app (lw_l4 q1358 q868 q870 q165) (lw_meth q872)) (by decide +kernel) (by decide +kernel) (t := 15) h22 rfl rfl (by decide) rfl (Nat.le_of_ble_eq_true rfl) dX8_moved_74 k0
            replace h19 := (bte_i h19).2 h22
            by_cases h23 : bg s3 0 x6 0 = 17
            · have hq0 := (bte_i h19).1 h23
              exact r_callF hκ (n' := 0) (index := 99) (C := "EditsMeet$Mark") (w_X6_n Γ0 l0 hq0) (lw_app (lw_l4 q1358 q884 q865 q138) (lw_meth q867)) (by decide +kernel) (by decide +kernel) (t := 16) h23 rfl rfl (by decide) rfl (Nat.le_of_ble_eq_true rfl) dX8_moved_74 k0
            replace h19 := (bte_i h19).2 h23
            cases h19
          refine r_goto hκ (tgt := 83) (by decide) dX8_moved_79 ?_
          exact r_sub [1, 2, 3, 4, 6, 7] rfl (ih 5 _ _ _ _ _ _ _ h rfl)
  | 4, h =>
      refine r_iconst hκ dX8_moved_82 ?_
      exact r_sub [0, 1, 2, 3, 4, 5] rfl (ih 5 _ _ _ _ _ _ _ h rfl)
  | 5, h =>
      refine r_iadd hκ dX8_moved_83 ?_
      refine r_istore hκ (L2 := [(4, (0, (x7 + x6))), (0, (2, x0)), (1, (0, x1)), (2, (0, x2)), (3, (0, x3)), (5, (0, x4)), (6, (2, x5))]) (by decide) rfl dX8_moved_84 ?_
      refine r_iload hκ 0 rfl dX8_moved_86 ?_
      refine r_aload hκ 6 rfl dX8_moved_88 ?_
      obtain ⟨s5, v5, h24, h⟩ := bcl_i h
      refine r_seq (A := bJ κ s5 95 [(4, (0, (x7 + x6))), (0, (2, x0)), (1, (0, x1)), (2, (0, x2)), (3, (0, x3)), (5, (0, x4)), (6, (2, x5))] [(0, v5), (0, (x7 + x6))]) ?_ (fun k0 => ?_)
      case refine_2 =>
        by_cases h25 : bg s0 0 x5 0 = 6
        · have hq0 := (bte_i h24).1 h25
          exact r_callFD hκ (n' := 0) (index := 156) (C := "EditsMeet$Keep") (w_X5_deletes Γ0 l0 hq0) (lw_meth q1496) q2391 q1494 q137 (by decide +kernel) (by decide +kernel) (t := 5) h25 rfl rfl (by decide) rfl (Nat.le_of_ble_eq_true rfl) dX8_moved_90 k0
        replace h24 := (bte_i h24).2 h25
        by_cases h26 : bg s0 0 x5 0 = 15
        · have hq0 := (bte_i h24).1 h26
          exact r_callFD hκ (n' := 0) (index := 156) (C := "EditsMeet$Delete") (w_X5_deletes Γ0 l0 hq0) (lw_meth q1496) q2391 q1494 q137 (by decide +kernel) (by decide +kernel) (t := 14) h26 rfl rfl (by decide) rfl (Nat.le_of_ble_eq_true rfl) dX8_moved_90 k0
        replace h24 := (bte_i h24).2 h26
        by_cases h27 : bg s0 0 x5 0 = 16
        · have hq0 := (bte_i h24).1 h27
          exact r_callFD hκ (n' := 0) (index := 156) (C := "EditsMeet$Insert") (w_X5_deletes Γ0 l0 hq0) (lw_meth q1496) q2391 q1494 q137 (by decide +kernel) (by decide +kernel) (t := 15) h27 rfl rfl (by decide) rfl (Nat.le_of_ble_eq_true rfl) dX8_moved_90 k0
        replace h24 := (bte_i h24).2 h27
        by_cases h28 : bg s0 0 x5 0 = 17
        · have hq0 := (bte_i h24).1 h28
          exact r_callFD hκ (n' := 0) (index := 156) (C := "EditsMeet$Mark") (w_X5_deletes Γ0 l0 hq0) (lw_meth q1496) q2391 q1494 q137 (by decide +kernel) (by decide +kernel) (t := 16) h28 rfl rfl (by decide) rfl (Nat.le_of_ble_eq_true rfl) dX8_moved_90 k0
        replace h24 := (bte_i h24).2 h28
        cases h24
      refine r_if_eq hκ (tgt := 118) (by decide) dX8_moved_95 (fun h29 => ?_) (fun h29 => ?_)
      · replace h := (bte_i h).1 h29
        refine r_iconst hκ dX8_moved_118 ?_
        exact r_sub [1, 2, 3, 4, 5, 6] rfl (ih 6 _ _ _ _ _ _ _ h rfl)
      · replace h := (bte_i h).2 h29
        refine r_iconst hκ dX8_moved_98 ?_
        refine r_aload hκ 6 rfl dX8_moved_99 ?_
        obtain ⟨s6, v6, h30, h⟩ := bcl_i h
        refine r_seq (A := bJ κ s6 106 [(4, (0, (x7 + x6))), (0, (2, x0)), (1, (0, x1)), (2, (0, x2)), (3, (0, x3)), (5, (0, x4)), (6, (2, x5))] [(0, v6), (0, 0), (0, (x7 + x6))]) ?_ (fun k0 => ?_)
        case refine_2 =>
          by_cases h31 : bg s5 0 x5 0 = 6
          · have hq0 := (bte_i h30).1 h31
            exact r_callF hκ (n' := 0) (index := 99) (C := "EditsMeet$Keep") (w_X6_n Γ0 l0 hq0) (lw_app (lw_l4 q1358 q882 q865 q138) (lw_meth q867)) (by decide +kernel) (by decide +kernel) (t := 5) h31 rfl rfl (by decide) rfl (Nat.le_of_ble_eq_true rfl) dX8_moved_101 k0
          replace h30 := (bte_i h30).2 h31
          by_cases h32 : bg s5 0 x5 0 = 15
          · have hq0 := (bte_i h30).1 h32
            exact r_callF hκ (n' := 0) (index := 99) (C := "EditsMeet$Delete") (w_X6_n Γ0 l0 hq0) (lw_app (lw_l4 q1358 q863 q865 q138) (lw_meth q867)) (by decide +kernel) (by decide +kernel) (t := 14) h32 rfl rfl (by decide) rfl (Nat.le_of_ble_eq_true rfl) dX8_moved_101 k0
          replace h30 := (bte_i h30).2 h32
          by_cases h33 : bg s5 0 x5 0 = 16
          · have hq0 := (bte_i h30).1 h33
            exact r_callF hκ (n' := 0) (index := 99) (C := "EditsMeet$Insert") (w_X17_n Γ0 l0 hq0) (lw_app (lw_l4 q1358 q868 q870 q165) (lw_meth q872)) (by decide +kernel) (by decide +kernel) (t := 15) h33 rfl rfl (by decide) rfl (Nat.le_of_ble_eq_true rfl) dX8_moved_101 k0
          replace h30 := (bte_i h30).2 h33
          by_cases h34 : bg s5 0 x5 0 = 17
          · have hq0 := (bte_i h30).1 h34
            exact r_callF hκ (n' := 0) (index := 99) (C := "EditsMeet$Mark") (w_X6_n Γ0 l0 hq0) (lw_app (lw_l4 q1358 q884 q865 q138) (lw_meth q867)) (by decide +kernel) (by decide +kernel) (t := 16) h34 rfl rfl (by decide) rfl (Nat.le_of_ble_eq_true rfl) dX8_moved_101 k0
          replace h30 := (bte_i h30).2 h34
          cases h30
        refine r_iload_n hκ 2 rfl rfl dX8_moved_106 ?_
        refine r_iload_n hκ 4 rfl rfl dX8_moved_107 ?_
        refine r_isub hκ dX8_moved_108 ?_
        refine r_mmin hκ q2392 q1055 q161 q1056 (by decide) (Nat.le_of_ble_eq_true rfl) dX8_moved_109 ?_
        refine r_mmax hκ q2393 q1037 q161 q1038 (by decide) (Nat.le_of_ble_eq_true rfl) dX8_moved_112 ?_
        refine r_goto hκ (tgt := 119) (by decide) dX8_moved_115 ?_
        exact r_sub [1, 2, 3, 4, 5, 6] rfl (ih 6 _ _ _ _ _ _ _ h rfl)
  | 6, h =>
      refine r_isub hκ dX8_moved_119 ?_
      refine r_istore hκ (L2 := [(4, (0, (x7 - x6))), (0, (2, x0)), (1, (0, x1)), (2, (0, x2)), (3, (0, x3)), (5, (0, x4)), (6, (2, x5))]) (by decide) rfl dX8_moved_120 ?_
      refine r_iload_n hκ 4 rfl rfl dX8_moved_122 ?_
      refine r_aload hκ 6 rfl dX8_moved_123 ?_
      obtain ⟨s7, v7, h35, h⟩ := bcl_i h
      refine r_seq (A := bJ κ s7 130 [(4, (0, (x7 - x6))), (0, (2, x0)), (1, (0, x1)), (2, (0, x2)), (3, (0, x3)), (5, (0, x4)), (6, (2, x5))] [(0, v7), (0, x3)]) ?_ (fun k0 => ?_)
      case refine_2 =>
        by_cases h36 : bg s0 0 x5 0 = 6
        · have hq0 := (bte_i h35).1 h36
          exact r_callF hκ (n' := 0) (index := 166) (C := "EditsMeet$Keep") (w_X6_takes Γ0 l0 hq0) (lw_app (lw_l4 q1568 q1578 q929 q138) (lw_meth q934)) (by decide +kernel) (by decide +kernel) (t := 5) h36 rfl rfl (by decide) rfl (Nat.le_of_ble_eq_true rfl) dX8_moved_125 k0
        replace h35 := (bte_i h35).2 h36
        by_cases h37 : bg s0 0 x5 0 = 15
        · have hq0 := (bte_i h35).1 h37
          exact r_callF hκ (n' := 0) (index := 166) (C := "EditsMeet$Delete") (w_X6_takes Γ0 l0 hq0) (lw_app (lw_l4 q1568 q1571 q929 q138) (lw_meth q934)) (by decide +kernel) (by decide +kernel) (t := 14) h37 rfl rfl (by decide) rfl (Nat.le_of_ble_eq_true rfl) dX8_moved_125 k0
        replace h35 := (bte_i h35).2 h37
        by_cases h38 : bg s0 0 x5 0 = 16
        · have hq0 := (bte_i h35).1 h38
          exact r_callFD hκ (n' := 0) (index := 166) (C := "EditsMeet$Insert") (w_X5_takes Γ0 l0 hq0) (lw_meth q1577) q1568 q1575 q137 (by decide +kernel) (by decide +kernel) (t := 15) h38 rfl rfl (by decide) rfl (Nat.le_of_ble_eq_true rfl) dX8_moved_125 k0
        replace h35 := (bte_i h35).2 h38
        by_cases h39 : bg s0 0 x5 0 = 17
        · have hq0 := (bte_i h35).1 h39
          exact r_callF hκ (n' := 0) (index := 166) (C := "EditsMeet$Mark") (w_X6_takes Γ0 l0 hq0) (lw_app (lw_l4 q1568 q1580 q929 q138) (lw_meth q934)) (by decide +kernel) (by decide +kernel) (t := 16) h39 rfl rfl (by decide) rfl (Nat.le_of_ble_eq_true rfl) dX8_moved_125 k0
        replace h35 := (bte_i h35).2 h39
        cases h35
      refine r_iadd hκ dX8_moved_130 ?_
      refine r_istore_n hκ (L2 := [(3, (0, (x3 + v7))), (4, (0, (x7 - x6))), (0, (2, x0)), (1, (0, x1)), (2, (0, x2)), (5, (0, x4)), (6, (2, x5))]) (by decide) rfl rfl dX8_moved_131 ?_
      refine r_iinc hκ (L2 := [(5, (0, (x4 + 1))), (3, (0, (x3 + v7))), (4, (0, (x7 - x6))), (0, (2, x0)), (1, (0, x1)), (2, (0, x2)), (6, (2, x5))]) 5 rfl (by decide) rfl dX8_moved_132 ?_
      refine r_goto hκ (tgt := 8) (by decide) dX8_moved_135 ?_
      exact r_sub [3, 4, 5, 1, 2, 0] rfl (ih 0 _ _ _ _ _ _ _ h rfl)
  | b + 7, h => trivial
set_option maxHeartbeats 4000000 in
set_option maxRecDepth 100000 in
theorem w_X8_moved (Γ0 : bG) (l0 : Launch) {s0 st' : bS} {v a0 a1 a2 : Int} (h : F_X8_moved s0 a0 a1 a2 = some (st', v)) : bCt Γ0 l0 yX8_moved cX8_moved 8 (some .int) 5 100 [(2, a0), (0, a1), (0, a2)] s0 st' (some (0, v)) := by
  refine b_ent (own := RX8) (by decide +kernel) rfl (Nat.le_of_ble_eq_true rfl) (L := [(0, (2, a0)), (1, (0, a1)), (2, (0, a2))]) rfl ?_
  intro κ hκ hi hf
  unfold F_X8_moved at h
  refine r_iconst hκ dX8_moved_0 ?_
  refine r_istore_n hκ (L2 := [(3, (0, 0)), (0, (2, a0)), (1, (0, a1)), (2, (0, a2))]) (by decide) rfl rfl dX8_moved_1 ?_
  refine r_iload_n hκ 2 rfl rfl dX8_moved_2 ?_
  refine r_istore hκ (L2 := [(4, (0, a1)), (3, (0, 0)), (0, (2, a0)), (1, (0, a1)), (2, (0, a2))]) (by decide) rfl dX8_moved_3 ?_
  refine r_iconst hκ dX8_moved_5 ?_
  refine r_istore hκ (L2 := [(5, (0, 0)), (4, (0, a1)), (3, (0, 0)), (0, (2, a0)), (1, (0, a1)), (2, (0, a2))]) (by decide) rfl dX8_moved_6 ?_
  exact r_sub [3, 4, 5, 2, 1, 0] rfl (w_X8_moved_r hκ hi hf 0 _ _ _ _ _ _ _ _ _ h)
/-- EditsMeet$Client.moves(LEditsMeet$Edit;Z)V -/
def F_X9_moves (s0 : bS) (a0 a1 a2 : Int) : Option (bS × Int) :=
  bck (bg s0 0 a0 0 = 8) <|
  bck (bg s0 0 (bg s0 146 a0 0) 0 = 3) <|
  bcl (F_X2_does s0 (bg s0 146 a0 0) a1) fun s1 v1 =>
  bck (bg s1 0 a0 0 = 8) <|
  bck (bg s1 0 a0 0 = 8) <|
  bck (bg s1 0 (bg s1 150 a0 0) 0 = 1003 ∧ (0 : Int) ≤ 0 ∧ 0 < bg s1 4 (bg s1 150 a0 0) 0) <|
  bck (bg s1 0 a1 0 = 7) <|
  bcl (F_X8_moved s1 a1 (bg s1 20 (bg s1 150 a0 0) 0) a2) fun s2 v2 =>
  bck (bg s2 0 (bg s1 150 a0 0) 0 = 1003 ∧ (0 : Int) ≤ 0 ∧ 0 < bg s2 4 (bg s1 150 a0 0) 0) <|
  bst (bw s2 20 (bg s1 150 a0 0) 0 v2) fun s3 =>
  bck (bg s3 0 a0 0 = 8) <|
  bck (bg s3 0 a0 0 = 8) <|
  bck (bg s3 0 (bg s3 150 a0 0) 0 = 1003 ∧ (0 : Int) ≤ 1 ∧ 1 < bg s3 4 (bg s3 150 a0 0) 0) <|
  bck (bg s3 0 a1 0 = 7) <|
  bcl (F_X8_moved s3 a1 (bg s3 20 (bg s3 150 a0 0) 1) a2) fun s4 v3 =>
  bck (bg s4 0 (bg s3 150 a0 0) 0 = 1003 ∧ (0 : Int) ≤ 1 ∧ 1 < bg s4 4 (bg s3 150 a0 0) 0) <|
  bst (bw s4 20 (bg s3 150 a0 0) 1 v3) fun s5 =>
  some (s5, 0)
set_option maxHeartbeats 4000000 in
set_option maxRecDepth 100000 in
theorem w_X9_moves (Γ0 : bG) (l0 : Launch) {s0 st' : bS} {v a0 a1 a2 : Int} (h : F_X9_moves s0 a0 a1 a2 = some (st', v)) : bCt Γ0 l0 yX9_moves cX9_moves 3 none 7 162 [(2, a0), (2, a1), (0, a2)] s0 st' none := by
  refine b_ent (own := RX9) (by decide +kernel) rfl (Nat.le_of_ble_eq_true rfl) (L := [(0, (2, a0)), (1, (2, a1)), (2, (0, a2))]) rfl ?_
  intro κ hκ hi hf
  unfold F_X9_moves at h
  refine r_aload_n hκ 0 rfl rfl dX9_moves_0 ?_
  obtain ⟨h1, h⟩ := bck_i h
  refine r_get hκ (t := 7) (k := 0) (r := 146) h1 rfl in_X9 (by decide) rfl q484 (Or.inl rfl) dX9_moves_1 ?_
  refine r_aload_n hκ 1 rfl rfl dX9_moves_4 ?_
  obtain ⟨h2, h⟩ := bck_i h
  obtain ⟨s1, v1, h3, h⟩ := bcl_i h
  refine r_callV hκ (n' := 1) (index := 77) (w_X2_does Γ0 l0 h3) (lw_V q2347 q2348 q2349 q123 q2350) (by decide +kernel) (t := 2) h2 rfl rfl (by decide) rfl (Nat.le_of_ble_eq_true rfl) dX9_moves_5 ?_
  refine r_aload_n hκ 0 rfl rfl dX9_moves_8 ?_
  obtain ⟨h4, h⟩ := bck_i h
  refine r_get hκ (t := 7) (k := 1) (r := 150) h4 rfl in_X9 (by decide) rfl q487 (Or.inl rfl) dX9_moves_9 ?_
  refine r_iconst hκ dX9_moves_12 ?_
  refine r_aload_n hκ 1 rfl rfl dX9_moves_13 ?_
  refine r_aload_n hκ 0 rfl rfl dX9_moves_14 ?_
  obtain ⟨h5, h⟩ := bck_i h
  refine r_get hκ (t := 7) (k := 1) (r := 150) h5 rfl in_X9 (by decide) rfl q487 (Or.inl rfl) dX9_moves_15 ?_
  refine r_iconst hκ dX9_moves_18 ?_
  obtain ⟨⟨h6, h7⟩, h⟩ := bck_i h
  refine r_iald hκ h6 h7 dX9_moves_19 ?_
  refine r_iload_n hκ 2 rfl rfl dX9_moves_20 ?_
  obtain ⟨h8, h⟩ := bck_i h
  obtain ⟨s2, v2, h9, h⟩ := bcl_i h
  refine r_callV hκ (n' := 2) (index := 81) (w_X8_moved Γ0 l0 h9) (lw_V q2384 q2385 q2386 q140 q2387) (by decide +kernel) (t := 6) h8 rfl rfl (by decide) rfl (Nat.le_of_ble_eq_true rfl) dX9_moves_21 ?_
  obtain ⟨⟨h10, h11⟩, h⟩ := bck_i h
  refine r_iast hκ h10 h11 dX9_moves_24 (fun s3 es3 => ?_)
  replace h := bst_i h s3 es3
  refine r_aload_n hκ 0 rfl rfl dX9_moves_25 ?_
  obtain ⟨h12, h⟩ := bck_i h
  refine r_get hκ (t := 7) (k := 1) (r := 150) h12 rfl in_X9 (by decide) rfl q487 (Or.inl rfl) dX9_moves_26 ?_
  refine r_iconst hκ dX9_moves_29 ?_
  refine r_aload_n hκ 1 rfl rfl dX9_moves_30 ?_
  refine r_aload_n hκ 0 rfl rfl dX9_moves_31 ?_
  obtain ⟨h13, h⟩ := bck_i h
  refine r_get hκ (t := 7) (k := 1) (r := 150) h13 rfl in_X9 (by decide) rfl q487 (Or.inl rfl) dX9_moves_32 ?_
  refine r_iconst hκ dX9_moves_35 ?_
  obtain ⟨⟨h14, h15⟩, h⟩ := bck_i h
  refine r_iald hκ h14 h15 dX9_moves_36 ?_
  refine r_iload_n hκ 2 rfl rfl dX9_moves_37 ?_
  obtain ⟨h16, h⟩ := bck_i h
  obtain ⟨s4, v3, h17, h⟩ := bcl_i h
  refine r_callV hκ (n' := 2) (index := 81) (w_X8_moved Γ0 l0 h17) (lw_V q2384 q2385 q2386 q140 q2387) (by decide +kernel) (t := 6) h16 rfl rfl (by decide) rfl (Nat.le_of_ble_eq_true rfl) dX9_moves_38 ?_
  obtain ⟨⟨h18, h19⟩, h⟩ := bck_i h
  refine r_iast hκ h18 h19 dX9_moves_41 (fun s5 es5 => ?_)
  replace h := bst_i h s5 es5
  exact r_vretH hκ hf h dX9_moves_42
/-- EditsMeet$Edit.swaps(LEditsMeet$Edit;)V -/
def F_X8_swaps (s0 : bS) (a0 a1 : Int) : Option (bS × Int) :=
  bck (bg s0 0 a0 0 = 7) <|
  bck (bg s0 0 a1 0 = 7) <|
  bck ((bg s0 0 a0 0 = 7)) <|
  bst (bw s0 134 a0 0 (bg s0 134 a1 0)) fun s1 =>
  bck ((bg s1 0 a1 0 = 7)) <|
  bst (bw s1 134 a1 0 (bg s0 134 a0 0)) fun s2 =>
  some (s2, 0)
set_option maxHeartbeats 4000000 in
set_option maxRecDepth 100000 in
theorem w_X8_swaps (Γ0 : bG) (l0 : Launch) {s0 st' : bS} {v a0 a1 : Int} (h : F_X8_swaps s0 a0 a1 = some (st', v)) : bCt Γ0 l0 yX8_swaps cX8_swaps 3 none 0 0 [(2, a0), (2, a1)] s0 st' none := by
  refine b_ent (own := RX8) (by decide +kernel) rfl (Nat.le_of_ble_eq_true rfl) (L := [(0, (2, a0)), (1, (2, a1))]) rfl ?_
  intro κ hκ hi hf
  unfold F_X8_swaps at h
  refine r_aload_n hκ 0 rfl rfl dX8_swaps_0 ?_
  obtain ⟨h1, h⟩ := bck_i h
  refine r_get hκ (t := 6) (k := 0) (r := 134) h1 rfl in_X8 (by decide) rfl q408 (Or.inl rfl) dX8_swaps_1 ?_
  refine r_astore_n hκ (L2 := [(2, (2, (bg s0 134 a0 0))), (0, (2, a0)), (1, (2, a1))]) (by decide) rfl rfl dX8_swaps_4 ?_
  refine r_aload_n hκ 1 rfl rfl dX8_swaps_5 ?_
  refine r_aload_n hκ 2 rfl rfl dX8_swaps_6 ?_
  obtain ⟨h2, h⟩ := bck_i h
  refine r_get hκ (t := 6) (k := 0) (r := 134) h2 rfl in_X8 (by decide) rfl q408 (Or.inl rfl) dX8_swaps_7 ?_
  obtain ⟨h3, h⟩ := bck_i h
  refine r_put hκ (t := 6) (k := 0) (r := 134) (ty := (.object "java/util/ArrayList")) tyX8 tyX8_ok nmX8 h3 rfl in_X8 (by decide) rfl q408 (Or.inl rfl) rfl rfl rfl trivial (Or.inl (by decide)) dX8_swaps_10 (fun s1 es1 => ?_)
  replace h := bst_i h s1 es1
  refine r_aload_n hκ 2 rfl rfl dX8_swaps_13 ?_
  refine r_aload_n hκ 0 rfl rfl dX8_swaps_14 ?_
  obtain ⟨h4, h⟩ := bck_i h
  refine r_put hκ (t := 6) (k := 0) (r := 134) (ty := (.object "java/util/ArrayList")) tyX8 tyX8_ok nmX8 h4 rfl in_X8 (by decide) rfl q408 (Or.inl rfl) rfl rfl rfl trivial (Or.inl (by decide)) dX8_swaps_15 (fun s2 es2 => ?_)
  replace h := bst_i h s2 es2
  exact r_vretH hκ hf h dX8_swaps_18
/-- EditsMeet$Edit.becomes(LEditsMeet$Edit;)LEditsMeet$Edit; -/
def F_X8_becomes_r (b : Nat) (x0 x1 x2 : Int) (s0 : bS) : Option (bS × Int) :=
  match b with
  | 0 =>
    bck (bg s0 0 x1 0 = 7) <|
    bcl (F_X8_many s0 x1) fun s2 v2 =>
    bte (i32 v2 ≤ i32 x2)
    (some (s2, x0))
    (bck (bg s2 0 x0 0 = 7) <|
    bck (bg s2 0 x1 0 = 7) <|
    bcl (F_X8_get s2 x1 x2) fun s3 v3 =>
    bck (bg s3 0 (bg s2 134 x0 0) 0 = 21) <|
    bcl (F_J10_add s3 (bg s2 134 x0 0) v3) fun s4 v4 =>
    F_X8_becomes_r 0 x0 x1 (x2 + 1) s4)
  | _ => none
partial_fixpoint
def F_X8_becomes (s0 : bS) (a0 a1 : Int) : Option (bS × Int) :=
  bck (bg s0 0 a0 0 = 7) <|
  bcl (F_X8_empties s0 a0) fun s1 v1 =>
  F_X8_becomes_r 0 a0 a1 0 s1
set_option maxHeartbeats 4000000 in
set_option maxRecDepth 100000 in
set_option synthInstance.maxHeartbeats 4000000 in
theorem w_X8_becomes_r {Γ0 : bG} {l0 : Launch} {κ : bK} {st' : bS} {v : Int} (hκ : bOk κ Γ0 l0 cX8_becomes RX8 3 7 171) (hi : bIn κ yX8_becomes) (hf : bFin κ (some (.object "EditsMeet$Edit")) st' (some (2, v))) (b : Nat) (x0 x1 x2 : Int) (s0 : bS) (h : F_X8_becomes_r b x0 x1 x2 s0 = some (st', v)) : match (generalizing := false) b with | 0 => bJ κ s0 6 [(0, (2, x0)), (1, (2, x1)), (2, (0, x2))] [] | _ => True := by
  refine F_X8_becomes_r.partial_correctness x0 x1 (fun b x2 s0 r => r = (st', v) → match (generalizing := false) b with | 0 => bJ κ s0 6 [(0, (2, x0)), (1, (2, x1)), (2, (0, x2))] [] | _ => True) ?_ b x2 s0 _ h rfl
  intro f' ih b x2 s0 r h hr
  subst hr
  match b, h with
  | 0, h =>
      refine r_iload_n hκ 2 rfl rfl dX8_becomes_6 ?_
      refine r_aload_n hκ 1 rfl rfl dX8_becomes_7 ?_
      obtain ⟨h3, h⟩ := bck_i h
      obtain ⟨s2, v2, h4, h⟩ := bcl_i h
      refine r_callV hκ (n' := 0) (index := 39) (w_X8_many Γ0 l0 h4) (lw_V q2408 q807 q808 q140 q809) (by decide +kernel) (t := 6) h3 rfl rfl (by decide) rfl (Nat.le_of_ble_eq_true rfl) dX8_becomes_8 ?_
      refine r_icmp_ge hκ (tgt := 33) (by decide) dX8_becomes_11 (fun h5 => ?_) (fun h5 => ?_)
      · replace h := (bte_i h).1 h5
        refine r_aload_n hκ 0 rfl rfl dX8_becomes_33 ?_
        exact r_aretH hκ hf h rt_o dX8_becomes_34
      · replace h := (bte_i h).2 h5
        refine r_aload_n hκ 0 rfl rfl dX8_becomes_14 ?_
        obtain ⟨h6, h⟩ := bck_i h
        refine r_get hκ (t := 6) (k := 0) (r := 134) h6 rfl in_X8 (by decide) rfl q408 (Or.inl rfl) dX8_becomes_15 ?_
        refine r_aload_n hκ 1 rfl rfl dX8_becomes_18 ?_
        refine r_iload_n hκ 2 rfl rfl dX8_becomes_19 ?_
        obtain ⟨h7, h⟩ := bck_i h
        obtain ⟨s3, v3, h8, h⟩ := bcl_i h
        refine r_callV hκ (n' := 1) (index := 43) (w_X8_get Γ0 l0 h8) (lw_V q2409 q815 q816 q140 q817) (by decide +kernel) (t := 6) h7 rfl rfl (by decide) rfl (Nat.le_of_ble_eq_true rfl) dX8_becomes_20 ?_
        obtain ⟨h9, h⟩ := bck_i h
        obtain ⟨s4, v4, h10, h⟩ := bcl_i h
        refine r_callV hκ (n' := 1) (index := 47) (w_J10_add Γ0 l0 h10) (lw_V q1419 q1420 q1421 q134 q1422) (by decide +kernel) (t := 20) h9 rfl rfl (by decide) rfl (Nat.le_of_ble_eq_true rfl) dX8_becomes_23 ?_
        refine r_pop hκ (bd_cat0k _) dX8_becomes_26 ?_
        refine r_iinc hκ (L2 := [(2, (0, (x2 + 1))), (0, (2, x0)), (1, (2, x1))]) 2 rfl (by decide) rfl dX8_becomes_27 ?_
        refine r_goto hκ (tgt := 6) (by decide) dX8_becomes_30 ?_
        exact r_sub [1, 2, 0] rfl (ih 0 _ _ _ h rfl)
  | b + 1, h => trivial
set_option maxHeartbeats 4000000 in
set_option maxRecDepth 100000 in
theorem w_X8_becomes (Γ0 : bG) (l0 : Launch) {s0 st' : bS} {v a0 a1 : Int} (h : F_X8_becomes s0 a0 a1 = some (st', v)) : bCt Γ0 l0 yX8_becomes cX8_becomes 3 (some (.object "EditsMeet$Edit")) 7 171 [(2, a0), (2, a1)] s0 st' (some (2, v)) := by
  refine b_ent (own := RX8) (by decide +kernel) rfl (Nat.le_of_ble_eq_true rfl) (L := [(0, (2, a0)), (1, (2, a1))]) rfl ?_
  intro κ hκ hi hf
  unfold F_X8_becomes at h
  refine r_aload_n hκ 0 rfl rfl dX8_becomes_0 ?_
  obtain ⟨h1, h⟩ := bck_i h
  obtain ⟨s1, v1, h2, h⟩ := bcl_i h
  refine r_callV hκ (n' := 0) (index := 36) (w_X8_empties Γ0 l0 h2) (lw_V q2407 q2056 q2057 q140 q2058) (by decide +kernel) (t := 6) h1 rfl rfl (by decide) rfl (Nat.le_of_ble_eq_true rfl) dX8_becomes_1 ?_
  refine r_iconst hκ dX8_becomes_4 ?_
  refine r_istore_n hκ (L2 := [(2, (0, 0)), (0, (2, a0)), (1, (2, a1))]) (by decide) rfl rfl dX8_becomes_5 ?_
  exact r_sub [1, 2, 0] rfl (w_X8_becomes_r hκ hi hf 0 _ _ _ _ h)
/-- EditsMeet$Client.waitsFor(LEditsMeet$Edit;)V -/
def F_X9_waitsFor (s0 : bS) (a0 a1 : Int) : Option (bS × Int) :=
  bck (bg s0 0 a0 0 = 8) <|
  bte (i32 (bg s0 196 a0 0) = 0)
  (bck (bg s0 0 a0 0 = 8) <|
  bck (bg s0 0 (bg s0 190 a0 0) 0 = 7) <|
  bcl (F_X8_becomes s0 (bg s0 190 a0 0) a1) fun s1 v1 =>
  bck ((bg s1 0 a0 0 = 8) ∧ ((1 : Int) = 0 ∨ (1 : Int) = 1)) <|
  bst (bw s1 196 a0 0 1) fun s2 =>
  some (s2, 0))
  (bck (bg s0 0 a0 0 = 8) <|
  bck (bg s0 0 a0 0 = 8) <|
  bck (bg s0 0 a0 0 = 8) <|
  bck (bg s0 0 (bg s0 162 a0 0) 0 = 4) <|
  bcl (F_X3_behind s0 (bg s0 162 a0 0) (bg s0 194 a0 0) (bg s0 190 a0 0) a1) fun s3 v2 =>
  bck (bg s3 0 a0 0 = 8) <|
  bck (bg s3 0 a0 0 = 8) <|
  bck (bg s3 0 (bg s3 190 a0 0) 0 = 7) <|
  bcl (F_X8_swaps s3 (bg s3 190 a0 0) (bg s3 194 a0 0)) fun s4 v3 =>
  bck ((bg s4 0 a0 0 = 8) ∧ ((1 : Int) = 0 ∨ (1 : Int) = 1)) <|
  bst (bw s4 196 a0 0 1) fun s5 =>
  some (s5, 0))
set_option maxHeartbeats 4000000 in
set_option maxRecDepth 100000 in
theorem w_X9_waitsFor (Γ0 : bG) (l0 : Launch) {s0 st' : bS} {v a0 a1 : Int} (h : F_X9_waitsFor s0 a0 a1 = some (st', v)) : bCt Γ0 l0 yX9_waitsFor cX9_waitsFor 2 none 13 310 [(2, a0), (2, a1)] s0 st' none := by
  refine b_ent (own := RX9) (by decide +kernel) rfl (Nat.le_of_ble_eq_true rfl) (L := [(0, (2, a0)), (1, (2, a1))]) rfl ?_
  intro κ hκ hi hf
  unfold F_X9_waitsFor at h
  refine r_aload_n hκ 0 rfl rfl dX9_waitsFor_0 ?_
  obtain ⟨h1, h⟩ := bck_i h
  refine r_get hκ (t := 7) (k := 13) (r := 196) h1 rfl in_X9 (by decide) rfl q509 (Or.inl rfl) dX9_waitsFor_1 ?_
  refine r_if_eq hκ (tgt := 38) (by decide) dX9_waitsFor_4 (fun h2 => ?_) (fun h2 => ?_)
  · replace h := (bte_i h).1 h2
    refine r_aload_n hκ 0 rfl rfl dX9_waitsFor_38 ?_
    obtain ⟨h3, h⟩ := bck_i h
    refine r_get hκ (t := 7) (k := 11) (r := 190) h3 rfl in_X9 (by decide) rfl q507 (Or.inl rfl) dX9_waitsFor_39 ?_
    refine r_aload_n hκ 1 rfl rfl dX9_waitsFor_42 ?_
    obtain ⟨h4, h⟩ := bck_i h
    obtain ⟨s1, v1, h5, h⟩ := bcl_i h
    refine r_callV hκ (n' := 1) (index := 58) (w_X8_becomes Γ0 l0 h5) (lw_V q2403 q2404 q2405 q140 q2406) (by decide +kernel) (t := 6) h4 rfl rfl (by decide) rfl (Nat.le_of_ble_eq_true rfl) dX9_waitsFor_43 ?_
    refine r_pop hκ (bd_cat2k _) dX9_waitsFor_46 ?_
    refine r_aload_n hκ 0 rfl rfl dX9_waitsFor_47 ?_
    refine r_iconst hκ dX9_waitsFor_48 ?_
    obtain ⟨⟨h6, h7⟩, h⟩ := bck_i h
    refine r_put hκ (t := 7) (k := 13) (r := 196) (ty := .boolean) tyX9 tyX9_ok nmX9 h6 rfl in_X9 (by decide) rfl q509 (Or.inl rfl) rfl rfl rfl h7 (Or.inl (by decide)) dX9_waitsFor_49 (fun s2 es2 => ?_)
    replace h := bst_i h s2 es2
    exact r_vretH hκ hf h dX9_waitsFor_52
  · replace h := (bte_i h).2 h2
    refine r_aload_n hκ 0 rfl rfl dX9_waitsFor_7 ?_
    obtain ⟨h8, h⟩ := bck_i h
    refine r_get hκ (t := 7) (k := 4) (r := 162) h8 rfl in_X9 (by decide) rfl q493 (Or.inl rfl) dX9_waitsFor_8 ?_
    refine r_aload_n hκ 0 rfl rfl dX9_waitsFor_11 ?_
    obtain ⟨h9, h⟩ := bck_i h
    refine r_get hκ (t := 7) (k := 12) (r := 194) h9 rfl in_X9 (by decide) rfl q508 (Or.inl rfl) dX9_waitsFor_12 ?_
    refine r_aload_n hκ 0 rfl rfl dX9_waitsFor_15 ?_
    obtain ⟨h10, h⟩ := bck_i h
    refine r_get hκ (t := 7) (k := 11) (r := 190) h10 rfl in_X9 (by decide) rfl q507 (Or.inl rfl) dX9_waitsFor_16 ?_
    refine r_aload_n hκ 1 rfl rfl dX9_waitsFor_19 ?_
    obtain ⟨h11, h⟩ := bck_i h
    obtain ⟨s3, v2, h12, h⟩ := bcl_i h
    refine r_callV hκ (n' := 3) (index := 85) (w_X3_behind Γ0 l0 h12) (lw_V q2398 q2052 q2053 q135 q2054) (by decide +kernel) (t := 3) h11 rfl rfl (by decide) rfl (Nat.le_of_ble_eq_true rfl) dX9_waitsFor_20 ?_
    refine r_pop hκ (bd_cat2k _) dX9_waitsFor_23 ?_
    refine r_aload_n hκ 0 rfl rfl dX9_waitsFor_24 ?_
    obtain ⟨h13, h⟩ := bck_i h
    refine r_get hκ (t := 7) (k := 11) (r := 190) h13 rfl in_X9 (by decide) rfl q507 (Or.inl rfl) dX9_waitsFor_25 ?_
    refine r_aload_n hκ 0 rfl rfl dX9_waitsFor_28 ?_
    obtain ⟨h14, h⟩ := bck_i h
    refine r_get hκ (t := 7) (k := 12) (r := 194) h14 rfl in_X9 (by decide) rfl q508 (Or.inl rfl) dX9_waitsFor_29 ?_
    obtain ⟨h15, h⟩ := bck_i h
    obtain ⟨s4, v3, h16, h⟩ := bcl_i h
    refine r_callV hκ (n' := 1) (index := 91) (w_X8_swaps Γ0 l0 h16) (lw_V q2399 q2400 q2401 q140 q2402) (by decide +kernel) (t := 6) h15 rfl rfl (by decide) rfl (Nat.le_of_ble_eq_true rfl) dX9_waitsFor_32 ?_
    refine r_goto hκ (tgt := 47) (by decide) dX9_waitsFor_35 ?_
    refine r_aload_n hκ 0 rfl rfl dX9_waitsFor_47 ?_
    refine r_iconst hκ dX9_waitsFor_48 ?_
    obtain ⟨⟨h17, h18⟩, h⟩ := bck_i h
    refine r_put hκ (t := 7) (k := 13) (r := 196) (ty := .boolean) tyX9 tyX9_ok nmX9 h17 rfl in_X9 (by decide) rfl q509 (Or.inl rfl) rfl rfl rfl h18 (Or.inl (by decide)) dX9_waitsFor_49 (fun s5 es5 => ?_)
    replace h := bst_i h s5 es5
    exact r_vretH hκ hf h dX9_waitsFor_52
/-- EditsMeet$Client.sends(LEditsMeet$Edit;)V -/
def F_X9_sends (s0 : bS) (a0 a1 : Int) : Option (bS × Int) :=
  bck (bg s0 0 a0 0 = 8) <|
  bck (bg s0 0 (bg s0 170 a0 0) 0 = 7) <|
  bcl (F_X8_becomes s0 (bg s0 170 a0 0) a1) fun s1 v1 =>
  bck ((bg s1 0 a0 0 = 8) ∧ ((1 : Int) = 0 ∨ (1 : Int) = 1)) <|
  bst (bw s1 172 a0 0 1) fun s2 =>
  bck ((bg s2 0 a0 0 = 8)) <|
  bst (bw s2 178 a0 0 a1) fun s3 =>
  bck (bg s3 0 a0 0 = 8) <|
  bck ((bg s3 0 a0 0 = 8)) <|
  bst (bw s3 180 a0 0 (bg s3 164 a0 0)) fun s4 =>
  bck ((bg s4 0 a0 0 = 8) ∧ ((0 : Int) = 0 ∨ (0 : Int) = 1)) <|
  bst (bw s4 184 a0 0 0) fun s5 =>
  some (s5, 0)
set_option maxHeartbeats 4000000 in
set_option maxRecDepth 100000 in
theorem w_X9_sends (Γ0 : bG) (l0 : Launch) {s0 st' : bS} {v a0 a1 : Int} (h : F_X9_sends s0 a0 a1 = some (st', v)) : bCt Γ0 l0 yX9_sends cX9_sends 2 none 8 193 [(2, a0), (2, a1)] s0 st' none := by
  refine b_ent (own := RX9) (by decide +kernel) rfl (Nat.le_of_ble_eq_true rfl) (L := [(0, (2, a0)), (1, (2, a1))]) rfl ?_
  intro κ hκ hi hf
  unfold F_X9_sends at h
  refine r_aload_n hκ 0 rfl rfl dX9_sends_0 ?_
  obtain ⟨h1, h⟩ := bck_i h
  refine r_get hκ (t := 7) (k := 6) (r := 170) h1 rfl in_X9 (by decide) rfl q497 (Or.inl rfl) dX9_sends_1 ?_
  refine r_aload_n hκ 1 rfl rfl dX9_sends_4 ?_
  obtain ⟨h2, h⟩ := bck_i h
  obtain ⟨s1, v1, h3, h⟩ := bcl_i h
  refine r_callV hκ (n' := 1) (index := 58) (w_X8_becomes Γ0 l0 h3) (lw_V q2403 q2404 q2405 q140 q2406) (by decide +kernel) (t := 6) h2 rfl rfl (by decide) rfl (Nat.le_of_ble_eq_true rfl) dX9_sends_5 ?_
  refine r_pop hκ (bd_cat2k _) dX9_sends_8 ?_
  refine r_aload_n hκ 0 rfl rfl dX9_sends_9 ?_
  refine r_iconst hκ dX9_sends_10 ?_
  obtain ⟨⟨h4, h5⟩, h⟩ := bck_i h
  refine r_put hκ (t := 7) (k := 7) (r := 172) (ty := .boolean) tyX9 tyX9_ok nmX9 h4 rfl in_X9 (by decide) rfl q498 (Or.inl rfl) rfl rfl rfl h5 (Or.inl (by decide)) dX9_sends_11 (fun s2 es2 => ?_)
  replace h := bst_i h s2 es2
  refine r_aload_n hκ 0 rfl rfl dX9_sends_14 ?_
  refine r_aload_n hκ 1 rfl rfl dX9_sends_15 ?_
  obtain ⟨h6, h⟩ := bck_i h
  refine r_put hκ (t := 7) (k := 8) (r := 178) (ty := (.object "EditsMeet$Edit")) tyX9 tyX9_ok nmX9 h6 rfl in_X9 (by decide) rfl q500 (Or.inl rfl) rfl rfl rfl trivial (Or.inl (by decide)) dX9_sends_16 (fun s3 es3 => ?_)
  replace h := bst_i h s3 es3
  refine r_aload_n hκ 0 rfl rfl dX9_sends_19 ?_
  refine r_aload_n hκ 0 rfl rfl dX9_sends_20 ?_
  obtain ⟨h7, h⟩ := bck_i h
  refine r_get hκ (t := 7) (k := 5) (r := 164) h7 rfl in_X9 (by decide) rfl q494 (Or.inl rfl) dX9_sends_21 ?_
  obtain ⟨h8, h⟩ := bck_i h
  refine r_put hκ (t := 7) (k := 9) (r := 180) (ty := .int) tyX9 tyX9_ok nmX9 h8 rfl in_X9 (by decide) rfl q502 (Or.inl rfl) rfl rfl rfl trivial (Or.inl (by decide)) dX9_sends_24 (fun s4 es4 => ?_)
  replace h := bst_i h s4 es4
  refine r_aload_n hκ 0 rfl rfl dX9_sends_27 ?_
  refine r_iconst hκ dX9_sends_28 ?_
  obtain ⟨⟨h9, h10⟩, h⟩ := bck_i h
  refine r_put hκ (t := 7) (k := 10) (r := 184) (ty := .boolean) tyX9 tyX9_ok nmX9 h9 rfl in_X9 (by decide) rfl q504 (Or.inl rfl) rfl rfl rfl h10 (Or.inl (by decide)) dX9_sends_29 (fun s5 es5 => ?_)
  replace h := bst_i h s5 es5
  exact r_vretH hκ hf h dX9_sends_32
/-- EditsMeet$Client.does(LEditsMeet$Edit;LEditsMeet$Pile;)V -/
def F_X9_does (s0 : bS) (a0 a1 a2 : Int) : Option (bS × Int) :=
  bck (bg s0 0 a0 0 = 8) <|
  bck (bg s0 0 a2 0 = 9) <|
  bcl (F_X10_puts s0 a2) fun s1 v1 =>
  bck (bg s1 0 (bg s0 146 a0 0) 0 = 3) <|
  bcl (F_X2_turned s1 (bg s0 146 a0 0) v1 a1) fun s2 v2 =>
  bck (bg s2 0 a0 0 = 8) <|
  bcl (F_X9_moves s2 a0 a1 1) fun s3 v3 =>
  bck (bg s3 0 a0 0 = 8) <|
  bte (i32 (bg s3 172 a0 0) = 0)
  (bck (bg s3 0 a0 0 = 8) <|
  bcl (F_X9_sends s3 a0 a1) fun s4 v4 =>
  some (s4, 0))
  (bck (bg s3 0 a0 0 = 8) <|
  bcl (F_X9_waitsFor s3 a0 a1) fun s5 v5 =>
  some (s5, 0))
set_option maxHeartbeats 4000000 in
set_option maxRecDepth 100000 in
theorem w_X9_does (Γ0 : bG) (l0 : Launch) {s0 st' : bS} {v a0 a1 a2 : Int} (h : F_X9_does s0 a0 a1 a2 = some (st', v)) : bCt Γ0 l0 yX9_does cX9_does 3 none 14 331 [(2, a0), (2, a1), (2, a2)] s0 st' none := by
  refine b_ent (own := RX9) (by decide +kernel) rfl (Nat.le_of_ble_eq_true rfl) (L := [(0, (2, a0)), (1, (2, a1)), (2, (2, a2))]) rfl ?_
  intro κ hκ hi hf
  unfold F_X9_does at h
  refine r_aload_n hκ 0 rfl rfl dX9_does_0 ?_
  obtain ⟨h1, h⟩ := bck_i h
  refine r_get hκ (t := 7) (k := 0) (r := 146) h1 rfl in_X9 (by decide) rfl q484 (Or.inl rfl) dX9_does_1 ?_
  refine r_aload_n hκ 2 rfl rfl dX9_does_4 ?_
  obtain ⟨h2, h⟩ := bck_i h
  obtain ⟨s1, v1, h3, h⟩ := bcl_i h
  refine r_callV hκ (n' := 0) (index := 94) (w_X10_puts Γ0 l0 h3) (lw_V q2280 q2281 q2282 q142 q2283) (by decide +kernel) (t := 8) h2 rfl rfl (by decide) rfl (Nat.le_of_ble_eq_true rfl) dX9_does_5 ?_
  refine r_aload_n hκ 1 rfl rfl dX9_does_8 ?_
  obtain ⟨h4, h⟩ := bck_i h
  obtain ⟨s2, v2, h5, h⟩ := bcl_i h
  refine r_callV hκ (n' := 2) (index := 98) (w_X2_turned Γ0 l0 h5) (lw_V q2342 q2172 q2173 q123 q2174) (by decide +kernel) (t := 2) h4 rfl rfl (by decide) rfl (Nat.le_of_ble_eq_true rfl) dX9_does_9 ?_
  refine r_pop hκ (bd_cat2k _) dX9_does_12 ?_
  refine r_aload_n hκ 0 rfl rfl dX9_does_13 ?_
  refine r_aload_n hκ 1 rfl rfl dX9_does_14 ?_
  refine r_iconst hκ dX9_does_15 ?_
  obtain ⟨h6, h⟩ := bck_i h
  obtain ⟨s3, v3, h7, h⟩ := bcl_i h
  refine r_callV hκ (n' := 2) (index := 102) (w_X9_moves Γ0 l0 h7) (lw_V q2343 q2345 qs40 q141 q2346) (by decide +kernel) (t := 7) h6 rfl rfl (by decide) rfl (Nat.le_of_ble_eq_true rfl) dX9_does_16 ?_
  refine r_aload_n hκ 0 rfl rfl dX9_does_19 ?_
  obtain ⟨h8, h⟩ := bck_i h
  refine r_get hκ (t := 7) (k := 7) (r := 172) h8 rfl in_X9 (by decide) rfl q498 (Or.inl rfl) dX9_does_20 ?_
  refine r_if_eq hκ (tgt := 34) (by decide) dX9_does_23 (fun h9 => ?_) (fun h9 => ?_)
  · replace h := (bte_i h).1 h9
    refine r_aload_n hκ 0 rfl rfl dX9_does_34 ?_
    refine r_aload_n hκ 1 rfl rfl dX9_does_35 ?_
    obtain ⟨h10, h⟩ := bck_i h
    obtain ⟨s4, v4, h11, h⟩ := bcl_i h
    refine r_callV hκ (n' := 1) (index := 109) (w_X9_sends Γ0 l0 h11) (lw_V q2410 q2412 qs42 q141 q2413) (by decide +kernel) (t := 7) h10 rfl rfl (by decide) rfl (Nat.le_of_ble_eq_true rfl) dX9_does_36 ?_
    exact r_vretH hκ hf h dX9_does_39
  · replace h := (bte_i h).2 h9
    refine r_aload_n hκ 0 rfl rfl dX9_does_26 ?_
    refine r_aload_n hκ 1 rfl rfl dX9_does_27 ?_
    obtain ⟨h12, h⟩ := bck_i h
    obtain ⟨s5, v5, h13, h⟩ := bcl_i h
    refine r_callV hκ (n' := 1) (index := 106) (w_X9_waitsFor Γ0 l0 h13) (lw_V q2394 q2396 qs41 q141 q2397) (by decide +kernel) (t := 7) h12 rfl rfl (by decide) rfl (Nat.le_of_ble_eq_true rfl) dX9_does_28 ?_
    refine r_goto hκ (tgt := 39) (by decide) dX9_does_31 ?_
    exact r_vretH hκ hf h dX9_does_39
/-- EditsMeet$Text.edit(ILEditsMeet$Part;)LEditsMeet$Edit; -/
def F_X2_edit (s0 : bS) (a0 a1 a2 : Int) : Option (bS × Int) :=
  bck (bc s0 + 1 ≤ bCM ∧ bk s0 + 3 ≤ bKM) <|
  bst (bnw s0 7 0 3) fun s1 =>
  bck (bg s1 0 (bnx s0 : Int) 0 = 7) <|
  bcl (F_X8_init s1 (bnx s0 : Int)) fun s2 v1 =>
  bcl (F_X5_keep s2 a1) fun s3 v2 =>
  bck (bg s3 0 (bnx s0 : Int) 0 = 7) <|
  bcl (F_X8_adds s3 (bnx s0 : Int) v2) fun s4 v3 =>
  bck (bg s4 0 v3 0 = 7) <|
  bcl (F_X8_adds s4 v3 a2) fun s5 v4 =>
  bck (bg s5 0 a0 0 = 3) <|
  bcl (F_X2_length s5 a0) fun s6 v5 =>
  bcl (bte (bg s6 0 a2 0 = 6) (F_X6_takes s6 a2) (bte (bg s6 0 a2 0 = 15) (F_X6_takes s6 a2) (bte (bg s6 0 a2 0 = 16) (F_X5_takes s6 a2) (bte (bg s6 0 a2 0 = 17) (F_X6_takes s6 a2) (none))))) fun s7 v6 =>
  bcl (F_X5_keep s7 ((v5 - a1) - v6)) fun s8 v7 =>
  bck (bg s8 0 v4 0 = 7) <|
  bcl (F_X8_adds s8 v4 v7) fun s9 v8 =>
  bck (bg s9 0 v8 0 = 7) <|
  bcl (F_X8_ends s9 v8) fun s10 v9 =>
  some (s10, v9)
set_option maxHeartbeats 4000000 in
set_option maxRecDepth 100000 in
theorem w_X2_edit (Γ0 : bG) (l0 : Launch) {s0 st' : bS} {v a0 a1 a2 : Int} (h : F_X2_edit s0 a0 a1 a2 = some (st', v)) : bCt Γ0 l0 yX2_edit cX2_edit 4 (some (.object "EditsMeet$Edit")) 11 262 [(2, a0), (0, a1), (2, a2)] s0 st' (some (2, v)) := by
  refine b_ent (own := RX2) (by decide +kernel) rfl (Nat.le_of_ble_eq_true rfl) (L := [(0, (2, a0)), (1, (0, a1)), (2, (2, a2))]) rfl ?_
  intro κ hκ hi hf
  unfold F_X2_edit at h
  obtain ⟨h1, h⟩ := bck_i h
  refine r_new hκ (t := 6) tyX8 tyX8_ok dfX8 rfl in_X8 q2442 q395 q140 h1 dX2_edit_0 (fun s1 es1 => ?_)
  replace h := bst_i h s1 es1
  refine r_dup hκ (bd_cat2k _) dX2_edit_3 ?_
  obtain ⟨h2, h⟩ := bck_i h
  obtain ⟨s2, v1, h3, h⟩ := bcl_i h
  refine r_callIN hκ (n' := 0) (host := "EditsMeet") (index := 118) (w_X8_init Γ0 l0 h3) (lw_meth q398) (by decide +kernel) q140 (by decide +kernel) q397 rfl (t := 6) h2 rfl rfl (by decide) rfl (Nat.le_of_ble_eq_true rfl) dX2_edit_4 ?_
  refine r_iload_n hκ 1 rfl rfl dX2_edit_7 ?_
  obtain ⟨s3, v2, h4, h⟩ := bcl_i h
  refine r_callS hκ (n' := 1) (index := 119) (w_X5_keep Γ0 l0 h4) (lw_S q2444 q379 q137 q380) (by decide +kernel) rfl (by decide) rfl (Nat.le_of_ble_eq_true rfl) dX2_edit_8 ?_
  obtain ⟨h5, h⟩ := bck_i h
  obtain ⟨s4, v3, h6, h⟩ := bcl_i h
  refine r_callV hκ (n' := 1) (index := 96) (w_X8_adds Γ0 l0 h6) (lw_V q2183 q1354 q1355 q140 q1356) (by decide +kernel) (t := 6) h5 rfl rfl (by decide) rfl (Nat.le_of_ble_eq_true rfl) dX2_edit_11 ?_
  refine r_aload_n hκ 2 rfl rfl dX2_edit_14 ?_
  obtain ⟨h7, h⟩ := bck_i h
  obtain ⟨s5, v4, h8, h⟩ := bcl_i h
  refine r_callV hκ (n' := 1) (index := 96) (w_X8_adds Γ0 l0 h8) (lw_V q2183 q1354 q1355 q140 q1356) (by decide +kernel) (t := 6) h7 rfl rfl (by decide) rfl (Nat.le_of_ble_eq_true rfl) dX2_edit_15 ?_
  refine r_astore_n hκ (L2 := [(3, (2, v4)), (0, (2, a0)), (1, (0, a1)), (2, (2, a2))]) (by decide) rfl rfl dX2_edit_18 ?_
  refine r_aload_n hκ 0 rfl rfl dX2_edit_19 ?_
  refine r_aload_n hκ 1 rfl rfl dX2_edit_20 ?_
  obtain ⟨h9, h⟩ := bck_i h
  obtain ⟨s6, v5, h10, h⟩ := bcl_i h
  refine r_callV hκ (n' := 0) (index := 37) (w_X2_length Γ0 l0 h10) (lw_V q2445 q2167 q2168 q123 q2169) (by decide +kernel) (t := 2) h9 rfl rfl (by decide) rfl (Nat.le_of_ble_eq_true rfl) dX2_edit_21 ?_
  refine r_iload_n hκ 2 rfl rfl dX2_edit_24 ?_
  refine r_isub hκ dX2_edit_25 ?_
  refine r_aload_n hκ 3 rfl rfl dX2_edit_26 ?_
  obtain ⟨s7, v6, h11, h⟩ := bcl_i h
  refine r_seq (A := bJ κ s7 32 [(3, (2, v4)), (0, (2, a0)), (1, (0, a1)), (2, (2, a2))] [(0, v6), (0, (v5 - a1)), (2, v4)]) ?_ (fun k0 => ?_)
  case refine_2 =>
    by_cases h12 : bg s6 0 a2 0 = 6
    · have hq0 := (bte_i h11).1 h12
      exact r_callF hκ (n' := 0) (index := 111) (C := "EditsMeet$Keep") (w_X6_takes Γ0 l0 hq0) (lw_app (lw_l4 q2219 q1578 q929 q138) (lw_meth q934)) (by decide +kernel) (by decide +kernel) (t := 5) h12 rfl rfl (by decide) rfl (Nat.le_of_ble_eq_true rfl) dX2_edit_27 k0
    replace h11 := (bte_i h11).2 h12
    by_cases h13 : bg s6 0 a2 0 = 15
    · have hq0 := (bte_i h11).1 h13
      exact r_callF hκ (n' := 0) (index := 111) (C := "EditsMeet$Delete") (w_X6_takes Γ0 l0 hq0) (lw_app (lw_l4 q2219 q1571 q929 q138) (lw_meth q934)) (by decide +kernel) (by decide +kernel) (t := 14) h13 rfl rfl (by decide) rfl (Nat.le_of_ble_eq_true rfl) dX2_edit_27 k0
    replace h11 := (bte_i h11).2 h13
    by_cases h14 : bg s6 0 a2 0 = 16
    · have hq0 := (bte_i h11).1 h14
      exact r_callFD hκ (n' := 0) (index := 111) (C := "EditsMeet$Insert") (w_X5_takes Γ0 l0 hq0) (lw_meth q1577) q2219 q1575 q137 (by decide +kernel) (by decide +kernel) (t := 15) h14 rfl rfl (by decide) rfl (Nat.le_of_ble_eq_true rfl) dX2_edit_27 k0
    replace h11 := (bte_i h11).2 h14
    by_cases h15 : bg s6 0 a2 0 = 17
    · have hq0 := (bte_i h11).1 h15
      exact r_callF hκ (n' := 0) (index := 111) (C := "EditsMeet$Mark") (w_X6_takes Γ0 l0 hq0) (lw_app (lw_l4 q2219 q1580 q929 q138) (lw_meth q934)) (by decide +kernel) (by decide +kernel) (t := 16) h15 rfl rfl (by decide) rfl (Nat.le_of_ble_eq_true rfl) dX2_edit_27 k0
    replace h11 := (bte_i h11).2 h15
    cases h11
  refine r_isub hκ dX2_edit_32 ?_
  obtain ⟨s8, v7, h16, h⟩ := bcl_i h
  refine r_callS hκ (n' := 1) (index := 119) (w_X5_keep Γ0 l0 h16) (lw_S q2444 q379 q137 q380) (by decide +kernel) rfl (by decide) rfl (Nat.le_of_ble_eq_true rfl) dX2_edit_33 ?_
  obtain ⟨h17, h⟩ := bck_i h
  obtain ⟨s9, v8, h18, h⟩ := bcl_i h
  refine r_callV hκ (n' := 1) (index := 96) (w_X8_adds Γ0 l0 h18) (lw_V q2183 q1354 q1355 q140 q1356) (by decide +kernel) (t := 6) h17 rfl rfl (by decide) rfl (Nat.le_of_ble_eq_true rfl) dX2_edit_36 ?_
  obtain ⟨h19, h⟩ := bck_i h
  obtain ⟨s10, v9, h20, h⟩ := bcl_i h
  refine r_callV hκ (n' := 0) (index := 114) (w_X8_ends Γ0 l0 h20) (lw_V q2220 q1394 q1395 q140 q1396) (by decide +kernel) (t := 6) h19 rfl rfl (by decide) rfl (Nat.le_of_ble_eq_true rfl) dX2_edit_39 ?_
  exact r_aretH hκ hf h rt_o dX2_edit_42
/-- EditsMeet.has(II)Z -/
def F_X0_has (s0 : bS) (a0 a1 : Int) : Option (bS × Int) :=
  bte (i32 (b_iand (b_ishr a0 a1) 1) = i32 1)
  (some (s0, 1))
  (some (s0, 0))
set_option maxHeartbeats 4000000 in
set_option maxRecDepth 100000 in
theorem w_X0_has (Γ0 : bG) (l0 : Launch) {s0 st' : bS} {v a0 a1 : Int} (h : F_X0_has s0 a0 a1 = some (st', v)) : bCt Γ0 l0 yX0_has cX0_has 2 (some .boolean) 0 0 [(0, a0), (0, a1)] s0 st' (some (0, v)) := by
  refine b_ent (own := RX0) (by decide +kernel) rfl (Nat.le_of_ble_eq_true rfl) (L := [(0, (0, a0)), (1, (0, a1))]) rfl ?_
  intro κ hκ hi hf
  unfold F_X0_has at h
  refine r_iload_n hκ 0 rfl rfl dX0_has_0 ?_
  refine r_iload_n hκ 1 rfl rfl dX0_has_1 ?_
  refine r_ishr hκ dX0_has_2 ?_
  refine r_iconst hκ dX0_has_3 ?_
  refine r_iand hκ dX0_has_4 ?_
  refine r_iconst hκ dX0_has_5 ?_
  refine r_icmp_ne hκ (tgt := 13) (by decide) dX0_has_6 (fun h1 => ?_) (fun h1 => ?_)
  · replace h := (bte_i h).2 h1
    refine r_iconst hκ dX0_has_13 ?_
    exact r_iretH hκ hf h (nar_bool (by decide)) dX0_has_14
  · replace h := (bte_i h).1 h1
    refine r_iconst hκ dX0_has_9 ?_
    refine r_goto hκ (tgt := 14) (by decide) dX0_has_10 ?_
    exact r_iretH hκ hf h (nar_bool (by decide)) dX0_has_14
/-- EditsMeet$Client.isDue()Z -/
def F_X9_isDue (s0 : bS) (a0 : Int) : Option (bS × Int) :=
  bck (bg s0 0 a0 0 = 8) <|
  bte (i32 (bg s0 172 a0 0) = 0)
  (some (s0, 0))
  (bck (bg s0 0 a0 0 = 8) <|
  bte (i32 (bg s0 184 a0 0) = 0)
  (some (s0, 1))
  (some (s0, 0)))
set_option maxHeartbeats 4000000 in
set_option maxRecDepth 100000 in
theorem w_X9_isDue (Γ0 : bG) (l0 : Launch) {s0 st' : bS} {v a0 : Int} (h : F_X9_isDue s0 a0 = some (st', v)) : bCt Γ0 l0 yX9_isDue cX9_isDue 1 (some .boolean) 0 0 [(2, a0)] s0 st' (some (0, v)) := by
  refine b_ent (own := RX9) (by decide +kernel) rfl (Nat.le_of_ble_eq_true rfl) (L := [(0, (2, a0))]) rfl ?_
  intro κ hκ hi hf
  unfold F_X9_isDue at h
  refine r_aload_n hκ 0 rfl rfl dX9_isDue_0 ?_
  obtain ⟨h1, h⟩ := bck_i h
  refine r_get hκ (t := 7) (k := 7) (r := 172) h1 rfl in_X9 (by decide) rfl q498 (Or.inl rfl) dX9_isDue_1 ?_
  refine r_if_eq hκ (tgt := 18) (by decide) dX9_isDue_4 (fun h2 => ?_) (fun h2 => ?_)
  · replace h := (bte_i h).1 h2
    refine r_iconst hκ dX9_isDue_18 ?_
    exact r_iretH hκ hf h (nar_bool (by decide)) dX9_isDue_19
  · replace h := (bte_i h).2 h2
    refine r_aload_n hκ 0 rfl rfl dX9_isDue_7 ?_
    obtain ⟨h3, h⟩ := bck_i h
    refine r_get hκ (t := 7) (k := 10) (r := 184) h3 rfl in_X9 (by decide) rfl q504 (Or.inl rfl) dX9_isDue_8 ?_
    refine r_if_ne hκ (tgt := 18) (by decide) dX9_isDue_11 (fun h4 => ?_) (fun h4 => ?_)
    · replace h := (bte_i h).2 h4
      refine r_iconst hκ dX9_isDue_18 ?_
      exact r_iretH hκ hf h (nar_bool (by decide)) dX9_isDue_19
    · replace h := (bte_i h).1 h4
      refine r_iconst hκ dX9_isDue_14 ?_
      refine r_goto hκ (tgt := 19) (by decide) dX9_isDue_15 ?_
      exact r_iretH hκ hf h (nar_bool (by decide)) dX9_isDue_19
/-- EditsMeet$World.isFull()Z -/
def F_X1_isFull (s0 : bS) (a0 : Int) : Option (bS × Int) :=
  bck (bg s0 0 a0 0 = 2) <|
  bck (bg s0 0 (bg s0 74 a0 0) 0 = 21) <|
  bcl (F_J10_size s0 (bg s0 74 a0 0)) fun s1 v1 =>
  bte (i32 v1 = i32 90)
  (some (s1, 1))
  (some (s1, 0))
set_option maxHeartbeats 4000000 in
set_option maxRecDepth 100000 in
theorem w_X1_isFull (Γ0 : bG) (l0 : Launch) {s0 st' : bS} {v a0 : Int} (h : F_X1_isFull s0 a0 = some (st', v)) : bCt Γ0 l0 yX1_isFull cX1_isFull 1 (some .boolean) 1 20 [(2, a0)] s0 st' (some (0, v)) := by
  refine b_ent (own := RX1) (by decide +kernel) rfl (Nat.le_of_ble_eq_true rfl) (L := [(0, (2, a0))]) rfl ?_
  intro κ hκ hi hf
  unfold F_X1_isFull at h
  refine r_aload_n hκ 0 rfl rfl dX1_isFull_0 ?_
  obtain ⟨h1, h⟩ := bck_i h
  refine r_get hκ (t := 1) (k := 2) (r := 74) h1 rfl in_X1 (by decide) rfl q543 (Or.inl rfl) dX1_isFull_1 ?_
  obtain ⟨h2, h⟩ := bck_i h
  obtain ⟨s1, v1, h3, h⟩ := bcl_i h
  refine r_callV hκ (n' := 0) (index := 60) (w_J10_size Γ0 l0 h3) (lw_V q2491 q811 q812 q134 q813) (by decide +kernel) (t := 20) h2 rfl rfl (by decide) rfl (Nat.le_of_ble_eq_true rfl) dX1_isFull_4 ?_
  refine r_bipush hκ (by decide) dX1_isFull_7 ?_
  refine r_icmp_ne hκ (tgt := 16) (by decide) dX1_isFull_9 (fun h4 => ?_) (fun h4 => ?_)
  · replace h := (bte_i h).2 h4
    refine r_iconst hκ dX1_isFull_16 ?_
    exact r_iretH hκ hf h (nar_bool (by decide)) dX1_isFull_17
  · replace h := (bte_i h).1 h4
    refine r_iconst hκ dX1_isFull_12 ?_
    refine r_goto hκ (tgt := 17) (by decide) dX1_isFull_13 ?_
    exact r_iretH hκ hf h (nar_bool (by decide)) dX1_isFull_17
/-- EditsMeet$Edit.copied()LEditsMeet$Edit; -/
def F_X8_copied (s0 : bS) (a0 : Int) : Option (bS × Int) :=
  bck (bc s0 + 1 ≤ bCM ∧ bk s0 + 3 ≤ bKM) <|
  bst (bnw s0 7 0 3) fun s1 =>
  bck (bg s1 0 (bnx s0 : Int) 0 = 7) <|
  bcl (F_X8_init s1 (bnx s0 : Int)) fun s2 v1 =>
  bck (bg s2 0 (bnx s0 : Int) 0 = 7) <|
  bcl (F_X8_becomes s2 (bnx s0 : Int) a0) fun s3 v2 =>
  some (s3, v2)
set_option maxHeartbeats 4000000 in
set_option maxRecDepth 100000 in
theorem w_X8_copied (Γ0 : bG) (l0 : Launch) {s0 st' : bS} {v a0 : Int} (h : F_X8_copied s0 a0 = some (st', v)) : bCt Γ0 l0 yX8_copied cX8_copied 1 (some (.object "EditsMeet$Edit")) 8 193 [(2, a0)] s0 st' (some (2, v)) := by
  refine b_ent (own := RX8) (by decide +kernel) rfl (Nat.le_of_ble_eq_true rfl) (L := [(0, (2, a0))]) rfl ?_
  intro κ hκ hi hf
  unfold F_X8_copied at h
  obtain ⟨h1, h⟩ := bck_i h
  refine r_new hκ (t := 6) tyX8 tyX8_ok dfX8 rfl in_X8 q2508 q395 q140 h1 dX8_copied_0 (fun s1 es1 => ?_)
  replace h := bst_i h s1 es1
  refine r_dup hκ (bd_cat2k _) dX8_copied_3 ?_
  obtain ⟨h2, h⟩ := bck_i h
  obtain ⟨s2, v1, h3, h⟩ := bcl_i h
  refine r_callI hκ (n' := 0) (index := 51) (w_X8_init Γ0 l0 h3) (lw_meth q398) q140 q2509 q397 rfl (by decide +kernel) (t := 6) h2 rfl rfl (by decide) rfl (Nat.le_of_ble_eq_true rfl) dX8_copied_4 ?_
  refine r_aload_n hκ 0 rfl rfl dX8_copied_7 ?_
  obtain ⟨h4, h⟩ := bck_i h
  obtain ⟨s3, v2, h5, h⟩ := bcl_i h
  refine r_callV hκ (n' := 1) (index := 52) (w_X8_becomes Γ0 l0 h5) (lw_V q2510 q2404 q2405 q140 q2406) (by decide +kernel) (t := 6) h4 rfl rfl (by decide) rfl (Nat.le_of_ble_eq_true rfl) dX8_copied_8 ?_
  exact r_aretH hκ hf h rt_o dX8_copied_11
/-- EditsMeet$Weaver.overAll(LEditsMeet$Edit;Ljava/util/ArrayList;I)LEditsMeet$Edit; -/
def F_X3_overAll_r (b : Nat) (x0 x1 x2 x3 x4 x5 : Int) (s0 : bS) : Option (bS × Int) :=
  match b with
  | 0 =>
    bck (bg s0 0 x1 0 = 21) <|
    bcl (F_J10_size s0 x1) fun s1 v1 =>
    bte (i32 v1 ≤ i32 x3)
    (bck (bg s1 0 x2 0 = 7) <|
    bcl (F_X8_copied s1 x2) fun s2 v2 =>
    some (s2, v2))
    (bck (bg s1 0 x0 0 = 4) <|
    bte (bReq x2 (bg s1 110 x0 0))
    (bck (bg s1 0 x0 0 = 4) <|
    F_X3_overAll_r 1 x0 x1 x2 x3 (bg s1 114 x0 0) x0 s1)
    (bck (bg s1 0 x0 0 = 4) <|
    F_X3_overAll_r 1 x0 x1 x2 x3 (bg s1 110 x0 0) x0 s1))
  | 1 =>
    bck (bg s0 0 x1 0 = 21) <|
    bcl (F_J10_get s0 x1 x3) fun s3 v3 =>
    bck (v3 < 0 ∨ bg s3 0 v3 0 = 18) <|
    bck (bg s3 0 v3 0 = 18) <|
    bck (bg s3 0 x5 0 = 4) <|
    bcl (F_X3_over s3 x5 x4 x2 (bg s3 402 v3 0) 0) fun s4 v4 =>
    F_X3_overAll_r 0 x0 x1 v4 (x3 + 1) 0 0 s4
  | _ => none
partial_fixpoint
def F_X3_overAll (s0 : bS) (a0 a1 a2 a3 : Int) : Option (bS × Int) :=
  F_X3_overAll_r 0 a0 a2 a1 a3 0 0 s0
set_option maxHeartbeats 4000000 in
set_option maxRecDepth 100000 in
set_option synthInstance.maxHeartbeats 4000000 in
theorem w_X3_overAll_r {Γ0 : bG} {l0 : Launch} {κ : bK} {st' : bS} {v : Int} (hκ : bOk κ Γ0 l0 cX3_overAll RX3 6 12 289) (hi : bIn κ yX3_overAll) (hf : bFin κ (some (.object "EditsMeet$Edit")) st' (some (2, v))) (b : Nat) (x0 x1 x2 x3 x4 x5 : Int) (s0 : bS) (h : F_X3_overAll_r b x0 x1 x2 x3 x4 x5 s0 = some (st', v)) : match (generalizing := false) b with | 0 => bJ κ s0 6 [(0, (2, x0)), (2, (2, x1)), (4, (2, x2)), (5, (0, x3))] [] | 1 => bJ κ s0 36 [(0, (2, x0)), (2, (2, x1)), (4, (2, x2)), (5, (0, x3))] [(2, x4), (2, x5)] | _ => True := by
  refine F_X3_overAll_r.partial_correctness x0 x1 (fun b x2 x3 x4 x5 s0 r => r = (st', v) → match (generalizing := false) b with | 0 => bJ κ s0 6 [(0, (2, x0)), (2, (2, x1)), (4, (2, x2)), (5, (0, x3))] [] | 1 => bJ κ s0 36 [(0, (2, x0)), (2, (2, x1)), (4, (2, x2)), (5, (0, x3))] [(2, x4), (2, x5)] | _ => True) ?_ b x2 x3 x4 x5 s0 _ h rfl
  intro f' ih b x2 x3 x4 x5 s0 r h hr
  subst hr
  match b, h with
  | 0, h =>
      refine r_iload hκ 3 rfl dX3_overAll_6 ?_
      refine r_aload_n hκ 1 rfl rfl dX3_overAll_8 ?_
      obtain ⟨h1, h⟩ := bck_i h
      obtain ⟨s1, v1, h2, h⟩ := bcl_i h
      refine r_callV hκ (n' := 0) (index := 138) (w_J10_size Γ0 l0 h2) (lw_V q2500 q811 q812 q134 q813) (by decide +kernel) (t := 20) h1 rfl rfl (by decide) rfl (Nat.le_of_ble_eq_true rfl) dX3_overAll_9 ?_
      refine r_icmp_ge hκ (tgt := 62) (by decide) dX3_overAll_12 (fun h3 => ?_) (fun h3 => ?_)
      · replace h := (bte_i h).1 h3
        refine r_aload hκ 2 rfl dX3_overAll_62 ?_
        obtain ⟨h4, h⟩ := bck_i h
        obtain ⟨s2, v2, h5, h⟩ := bcl_i h
        refine r_callV hκ (n' := 0) (index := 152) (w_X8_copied Γ0 l0 h5) (lw_V q2504 q2505 q2506 q140 q2507) (by decide +kernel) (t := 6) h4 rfl rfl (by decide) rfl (Nat.le_of_ble_eq_true rfl) dX3_overAll_64 ?_
        exact r_aretH hκ hf h rt_o dX3_overAll_67
      · replace h := (bte_i h).2 h3
        refine r_aload_n hκ 0 rfl rfl dX3_overAll_15 ?_
        refine r_aload hκ 2 rfl dX3_overAll_16 ?_
        refine r_aload_n hκ 0 rfl rfl dX3_overAll_18 ?_
        obtain ⟨h6, h⟩ := bck_i h
        refine r_get hκ (t := 3) (k := 4) (r := 110) h6 rfl in_X3 (by decide) rfl q422 (Or.inl rfl) dX3_overAll_19 ?_
        refine r_acmp_ne hκ (tgt := 32) (by decide) dX3_overAll_22 (fun h7 => ?_) (fun h7 => ?_)
        · replace h := (bte_i h).2 h7
          refine r_aload_n hκ 0 rfl rfl dX3_overAll_32 ?_
          obtain ⟨h8, h⟩ := bck_i h
          refine r_get hκ (t := 3) (k := 4) (r := 110) h8 rfl in_X3 (by decide) rfl q422 (Or.inl rfl) dX3_overAll_33 ?_
          exact r_sub [0, 1, 2, 3] rfl (ih 1 _ _ _ _ _ _ h rfl)
        · replace h := (bte_i h).1 h7
          refine r_aload_n hκ 0 rfl rfl dX3_overAll_25 ?_
          obtain ⟨h9, h⟩ := bck_i h
          refine r_get hκ (t := 3) (k := 5) (r := 114) h9 rfl in_X3 (by decide) rfl q423 (Or.inl rfl) dX3_overAll_26 ?_
          refine r_goto hκ (tgt := 36) (by decide) dX3_overAll_29 ?_
          exact r_sub [0, 1, 2, 3] rfl (ih 1 _ _ _ _ _ _ h rfl)
  | 1, h =>
      refine r_aload hκ 2 rfl dX3_overAll_36 ?_
      refine r_aload_n hκ 1 rfl rfl dX3_overAll_38 ?_
      refine r_iload hκ 3 rfl dX3_overAll_39 ?_
      obtain ⟨h10, h⟩ := bck_i h
      obtain ⟨s3, v3, h11, h⟩ := bcl_i h
      refine r_callV hκ (n' := 1) (index := 143) (w_J10_get Γ0 l0 h11) (lw_V q2501 q819 q820 q134 q821) (by decide +kernel) (t := 20) h10 rfl rfl (by decide) rfl (Nat.le_of_ble_eq_true rfl) dX3_overAll_41 ?_
      obtain ⟨h12, h⟩ := bck_i h
      refine r_cast hκ q2502 (Or.elim h12 (fun h12 => Or.inl h12) (fun h12 => Or.inr ⟨17, _, h12, rfl, Or.inl rfl⟩)) dX3_overAll_44 ?_
      obtain ⟨h13, h⟩ := bck_i h
      refine r_get hκ (t := 17) (k := 0) (r := 402) h13 rfl in_X19 (by decide) rfl q2520 (Or.inl rfl) dX3_overAll_47 ?_
      refine r_iconst hκ dX3_overAll_50 ?_
      obtain ⟨h14, h⟩ := bck_i h
      obtain ⟨s4, v4, h15, h⟩ := bcl_i h
      refine r_callV hκ (n' := 4) (index := 131) (w_X3_over Γ0 l0 h15) (lw_V q2503 q2142 q2143 q135 q2144) (by decide +kernel) (t := 3) h14 rfl rfl (by decide) rfl (Nat.le_of_ble_eq_true rfl) dX3_overAll_51 ?_
      refine r_astore hκ (L2 := [(4, (2, v4)), (0, (2, x0)), (2, (2, x1)), (5, (0, x3))]) (by decide) rfl dX3_overAll_54 ?_
      refine r_iinc hκ (L2 := [(5, (0, (x3 + 1))), (4, (2, v4)), (0, (2, x0)), (2, (2, x1))]) 3 rfl (by decide) rfl dX3_overAll_56 ?_
      refine r_goto hκ (tgt := 6) (by decide) dX3_overAll_59 ?_
      exact r_sub [2, 3, 1, 0] rfl (ih 0 _ _ _ _ _ _ h rfl)
  | b + 2, h => trivial
set_option maxHeartbeats 4000000 in
set_option maxRecDepth 100000 in
theorem w_X3_overAll (Γ0 : bG) (l0 : Launch) {s0 st' : bS} {v a0 a1 a2 a3 : Int} (h : F_X3_overAll s0 a0 a1 a2 a3 = some (st', v)) : bCt Γ0 l0 yX3_overAll cX3_overAll 6 (some (.object "EditsMeet$Edit")) 12 289 [(2, a0), (2, a1), (2, a2), (0, a3)] s0 st' (some (2, v)) := by
  refine b_ent (own := RX3) (by decide +kernel) rfl (Nat.le_of_ble_eq_true rfl) (L := [(0, (2, a0)), (1, (2, a1)), (2, (2, a2)), (3, (0, a3))]) rfl ?_
  intro κ hκ hi hf
  unfold F_X3_overAll at h
  refine r_aload_n hκ 1 rfl rfl dX3_overAll_0 ?_
  refine r_astore hκ (L2 := [(4, (2, a1)), (0, (2, a0)), (1, (2, a1)), (2, (2, a2)), (3, (0, a3))]) (by decide) rfl dX3_overAll_1 ?_
  refine r_iload_n hκ 4 rfl rfl dX3_overAll_3 ?_
  refine r_istore hκ (L2 := [(5, (0, a3)), (4, (2, a1)), (0, (2, a0)), (1, (2, a1)), (2, (2, a2)), (3, (0, a3))]) (by decide) rfl dX3_overAll_4 ?_
  exact r_sub [2, 4, 1, 0] rfl (w_X3_overAll_r hκ hi hf 0 _ _ _ _ _ _ _ h)
/-- EditsMeet$Revision.<init>(LEditsMeet$Edit;I)V -/
def F_X19_init (s0 : bS) (a0 a1 a2 : Int) : Option (bS × Int) :=
  bck ((0 : Int) ≤ a0) <|
  bck ((bg s0 0 a0 0 = 18)) <|
  bst (bw s0 402 a0 0 a1) fun s1 =>
  bck ((bg s1 0 a0 0 = 18)) <|
  bst (bw s1 404 a0 0 a2) fun s2 =>
  some (s2, 0)
set_option maxHeartbeats 4000000 in
set_option maxRecDepth 100000 in
theorem w_X19_init (Γ0 : bG) (l0 : Launch) {s0 st' : bS} {v a0 a1 a2 : Int} (h : F_X19_init s0 a0 a1 a2 = some (st', v)) : bCt Γ0 l0 yX19_init cX19_init 3 none 1 20 [(2, a0), (2, a1), (0, a2)] s0 st' none := by
  refine b_ent (own := RX19) (by decide +kernel) rfl (Nat.le_of_ble_eq_true rfl) (L := [(0, (2, a0)), (1, (2, a1)), (2, (0, a2))]) rfl ?_
  intro κ hκ hi hf
  unfold F_X19_init at h
  refine r_aload_n hκ 0 rfl rfl dX19_init_0 ?_
  obtain ⟨h1, h⟩ := bck_i h
  refine r_oinit hκ h1 q2517 q183 q184 (by decide) (Nat.le_of_ble_eq_true rfl) dX19_init_1 ?_
  refine r_aload_n hκ 0 rfl rfl dX19_init_4 ?_
  refine r_aload_n hκ 1 rfl rfl dX19_init_5 ?_
  obtain ⟨h2, h⟩ := bck_i h
  refine r_putF hκ (hi.init rfl) (t := 17) (k := 0) (r := 402) (ty := (.object "EditsMeet$Edit")) tyX19 tyX19_ok nmX19 h2 rfl in_X19 (by decide) rfl q2518 rfl rfl rfl rfl rfl trivial (Or.inl (by decide)) dX19_init_6 (fun s1 es1 => ?_)
  replace h := bst_i h s1 es1
  refine r_aload_n hκ 0 rfl rfl dX19_init_9 ?_
  refine r_iload_n hκ 2 rfl rfl dX19_init_10 ?_
  obtain ⟨h3, h⟩ := bck_i h
  refine r_putF hκ (hi.init rfl) (t := 17) (k := 1) (r := 404) (ty := .int) tyX19 tyX19_ok nmX19 h3 rfl in_X19 (by decide) rfl q2522 rfl rfl rfl rfl rfl trivial (Or.inl (by decide)) dX19_init_11 (fun s2 es2 => ?_)
  replace h := bst_i h s2 es2
  exact r_vretH hκ hf h dX19_init_14
/-- EditsMeet$World.serves(I)V -/
def F_X1_serves (s0 : bS) (a0 a1 : Int) : Option (bS × Int) :=
  bck (bg s0 0 a0 0 = 2) <|
  bck (bg s0 0 (bg s0 66 a0 0) 0 = 1007 ∧ (0 : Int) ≤ a1 ∧ a1 < bg s0 4 (bg s0 66 a0 0) 0) <|
  bck (bg s0 0 a0 0 = 2) <|
  bck (bg s0 0 (bg s0 10 (bg s0 66 a0 0) a1) 0 = 8) <|
  bck (bg s0 0 a0 0 = 2) <|
  bck (bg s0 0 (bg s0 10 (bg s0 66 a0 0) a1) 0 = 8) <|
  bck (bg s0 0 (bg s0 78 a0 0) 0 = 4) <|
  bcl (F_X3_overAll s0 (bg s0 78 a0 0) (bg s0 178 (bg s0 10 (bg s0 66 a0 0) a1) 0) (bg s0 74 a0 0) (bg s0 180 (bg s0 10 (bg s0 66 a0 0) a1) 0)) fun s1 v1 =>
  bck (bg s1 0 a0 0 = 2) <|
  bck (bg s1 0 (bg s1 70 a0 0) 0 = 3) <|
  bcl (F_X2_does s1 (bg s1 70 a0 0) v1) fun s2 v2 =>
  bck (bg s2 0 a0 0 = 2) <|
  bck (bc s2 + 1 ≤ bCM ∧ bk s2 + 2 ≤ bKM) <|
  bst (bnw s2 18 0 2) fun s3 =>
  bck (bg s3 0 (bnx s2 : Int) 0 = 18) <|
  bcl (F_X19_init s3 (bnx s2 : Int) v1 a1) fun s4 v3 =>
  bck (bg s4 0 (bg s2 74 a0 0) 0 = 21) <|
  bcl (F_J10_add s4 (bg s2 74 a0 0) (bnx s2 : Int)) fun s5 v4 =>
  bck ((bg s5 0 (bg s0 10 (bg s0 66 a0 0) a1) 0 = 8) ∧ ((1 : Int) = 0 ∨ (1 : Int) = 1)) <|
  bst (bw s5 184 (bg s0 10 (bg s0 66 a0 0) a1) 0 1) fun s6 =>
  some (s6, 0)
set_option maxHeartbeats 4000000 in
set_option maxRecDepth 100000 in
theorem w_X1_serves (Γ0 : bG) (l0 : Launch) {s0 st' : bS} {v a0 a1 : Int} (h : F_X1_serves s0 a0 a1 = some (st', v)) : bCt Γ0 l0 yX1_serves cX1_serves 4 none 13 314 [(2, a0), (0, a1)] s0 st' none := by
  refine b_ent (own := RX1) (by decide +kernel) rfl (Nat.le_of_ble_eq_true rfl) (L := [(0, (2, a0)), (1, (0, a1))]) rfl ?_
  intro κ hκ hi hf
  unfold F_X1_serves at h
  refine r_aload_n hκ 0 rfl rfl dX1_serves_0 ?_
  obtain ⟨h1, h⟩ := bck_i h
  refine r_get hκ (t := 1) (k := 0) (r := 66) h1 rfl in_X1 (by decide) rfl q539 (Or.inl rfl) dX1_serves_1 ?_
  refine r_iload_n hκ 1 rfl rfl dX1_serves_4 ?_
  obtain ⟨⟨h2, h3⟩, h⟩ := bck_i h
  refine r_aald hκ (t := 7) (by decide) h2 h3 dX1_serves_5 ?_
  refine r_astore_n hκ (L2 := [(2, (2, (bg s0 10 (bg s0 66 a0 0) a1))), (0, (2, a0)), (1, (0, a1))]) (by decide) rfl rfl dX1_serves_6 ?_
  refine r_aload_n hκ 1 rfl rfl dX1_serves_7 ?_
  obtain ⟨h4, h⟩ := bck_i h
  refine r_get hκ (t := 1) (k := 3) (r := 78) h4 rfl in_X1 (by decide) rfl q545 (Or.inl rfl) dX1_serves_8 ?_
  refine r_aload_n hκ 0 rfl rfl dX1_serves_11 ?_
  obtain ⟨h5, h⟩ := bck_i h
  refine r_get hκ (t := 7) (k := 8) (r := 178) h5 rfl in_X9 (by decide) rfl q501 (Or.inl rfl) dX1_serves_12 ?_
  refine r_aload_n hκ 1 rfl rfl dX1_serves_15 ?_
  obtain ⟨h6, h⟩ := bck_i h
  refine r_get hκ (t := 1) (k := 2) (r := 74) h6 rfl in_X1 (by decide) rfl q543 (Or.inl rfl) dX1_serves_16 ?_
  refine r_aload_n hκ 0 rfl rfl dX1_serves_19 ?_
  obtain ⟨h7, h⟩ := bck_i h
  refine r_get hκ (t := 7) (k := 9) (r := 180) h7 rfl in_X9 (by decide) rfl q503 (Or.inl rfl) dX1_serves_20 ?_
  obtain ⟨h8, h⟩ := bck_i h
  obtain ⟨s1, v1, h9, h⟩ := bcl_i h
  refine r_callV hκ (n' := 3) (index := 71) (w_X3_overAll Γ0 l0 h9) (lw_V q2496 q2497 q2498 q135 q2499) (by decide +kernel) (t := 3) h8 rfl rfl (by decide) rfl (Nat.le_of_ble_eq_true rfl) dX1_serves_23 ?_
  refine r_astore_n hκ (L2 := [(3, (2, v1)), (2, (2, (bg s0 10 (bg s0 66 a0 0) a1))), (0, (2, a0)), (1, (0, a1))]) (by decide) rfl rfl dX1_serves_26 ?_
  refine r_aload_n hκ 2 rfl rfl dX1_serves_27 ?_
  obtain ⟨h10, h⟩ := bck_i h
  refine r_get hκ (t := 1) (k := 1) (r := 70) h10 rfl in_X1 (by decide) rfl q541 (Or.inl rfl) dX1_serves_28 ?_
  refine r_aload_n hκ 0 rfl rfl dX1_serves_31 ?_
  obtain ⟨h11, h⟩ := bck_i h
  obtain ⟨s2, v2, h12, h⟩ := bcl_i h
  refine r_callV hκ (n' := 1) (index := 75) (w_X2_does Γ0 l0 h12) (lw_V q2511 q2348 q2349 q123 q2350) (by decide +kernel) (t := 2) h11 rfl rfl (by decide) rfl (Nat.le_of_ble_eq_true rfl) dX1_serves_32 ?_
  refine r_aload_n hκ 2 rfl rfl dX1_serves_35 ?_
  obtain ⟨h13, h⟩ := bck_i h
  refine r_get hκ (t := 1) (k := 2) (r := 74) h13 rfl in_X1 (by decide) rfl q543 (Or.inl rfl) dX1_serves_36 ?_
  obtain ⟨h14, h⟩ := bck_i h
  refine r_new hκ (t := 17) tyX19 tyX19_ok dfX19 rfl in_X19 q2512 q2513 q169 h14 dX1_serves_39 (fun s3 es3 => ?_)
  replace h := bst_i h s3 es3
  refine r_dup hκ (bd_cat2k _) dX1_serves_42 ?_
  refine r_aload_n hκ 0 rfl rfl dX1_serves_43 ?_
  refine r_iload_n hκ 3 rfl rfl dX1_serves_44 ?_
  obtain ⟨h15, h⟩ := bck_i h
  obtain ⟨s4, v3, h16, h⟩ := bcl_i h
  refine r_callI hκ (n' := 2) (index := 81) (w_X19_init Γ0 l0 h16) (lw_meth q2516) q169 q2514 q2515 rfl (by decide +kernel) (t := 17) h15 rfl rfl (by decide) rfl (Nat.le_of_ble_eq_true rfl) dX1_serves_45 ?_
  obtain ⟨h17, h⟩ := bck_i h
  obtain ⟨s5, v4, h18, h⟩ := bcl_i h
  refine r_callV hκ (n' := 1) (index := 84) (w_J10_add Γ0 l0 h18) (lw_V q2530 q1420 q1421 q134 q1422) (by decide +kernel) (t := 20) h17 rfl rfl (by decide) rfl (Nat.le_of_ble_eq_true rfl) dX1_serves_48 ?_
  refine r_pop hκ (bd_cat0k _) dX1_serves_51 ?_
  refine r_aload_n hκ 1 rfl rfl dX1_serves_52 ?_
  refine r_iconst hκ dX1_serves_53 ?_
  obtain ⟨⟨h19, h20⟩, h⟩ := bck_i h
  refine r_put hκ (t := 7) (k := 10) (r := 184) (ty := .boolean) tyX9 tyX9_ok nmX9 h19 rfl in_X9 (by decide) rfl q505 (Or.inl rfl) rfl rfl rfl h20 (Or.inl (by decide)) dX1_serves_54 (fun s6 es6 => ?_)
  replace h := bst_i h s6 es6
  exact r_vretH hκ hf h dX1_serves_57
/-- EditsMeet$World.mayHear(I)Z -/
def F_X1_mayHear (s0 : bS) (a0 a1 : Int) : Option (bS × Int) :=
  bck (bg s0 0 a0 0 = 2) <|
  bck (bg s0 0 (bg s0 66 a0 0) 0 = 1007 ∧ (0 : Int) ≤ a1 ∧ a1 < bg s0 4 (bg s0 66 a0 0) 0) <|
  bck (bg s0 0 (bg s0 10 (bg s0 66 a0 0) a1) 0 = 8) <|
  bck (bg s0 0 a0 0 = 2) <|
  bck (bg s0 0 (bg s0 74 a0 0) 0 = 21) <|
  bcl (F_J10_size s0 (bg s0 74 a0 0)) fun s1 v1 =>
  bte (i32 v1 ≤ i32 (bg s0 164 (bg s0 10 (bg s0 66 a0 0) a1) 0))
  (some (s1, 0))
  (some (s1, 1))
set_option maxHeartbeats 4000000 in
set_option maxRecDepth 100000 in
theorem w_X1_mayHear (Γ0 : bG) (l0 : Launch) {s0 st' : bS} {v a0 a1 : Int} (h : F_X1_mayHear s0 a0 a1 = some (st', v)) : bCt Γ0 l0 yX1_mayHear cX1_mayHear 2 (some .boolean) 1 20 [(2, a0), (0, a1)] s0 st' (some (0, v)) := by
  refine b_ent (own := RX1) (by decide +kernel) rfl (Nat.le_of_ble_eq_true rfl) (L := [(0, (2, a0)), (1, (0, a1))]) rfl ?_
  intro κ hκ hi hf
  unfold F_X1_mayHear at h
  refine r_aload_n hκ 0 rfl rfl dX1_mayHear_0 ?_
  obtain ⟨h1, h⟩ := bck_i h
  refine r_get hκ (t := 1) (k := 0) (r := 66) h1 rfl in_X1 (by decide) rfl q539 (Or.inl rfl) dX1_mayHear_1 ?_
  refine r_iload_n hκ 1 rfl rfl dX1_mayHear_4 ?_
  obtain ⟨⟨h2, h3⟩, h⟩ := bck_i h
  refine r_aald hκ (t := 7) (by decide) h2 h3 dX1_mayHear_5 ?_
  obtain ⟨h4, h⟩ := bck_i h
  refine r_get hκ (t := 7) (k := 5) (r := 164) h4 rfl in_X9 (by decide) rfl q495 (Or.inl rfl) dX1_mayHear_6 ?_
  refine r_aload_n hκ 0 rfl rfl dX1_mayHear_9 ?_
  obtain ⟨h5, h⟩ := bck_i h
  refine r_get hκ (t := 1) (k := 2) (r := 74) h5 rfl in_X1 (by decide) rfl q543 (Or.inl rfl) dX1_mayHear_10 ?_
  obtain ⟨h6, h⟩ := bck_i h
  obtain ⟨s1, v1, h7, h⟩ := bcl_i h
  refine r_callV hκ (n' := 0) (index := 60) (w_J10_size Γ0 l0 h7) (lw_V q2491 q811 q812 q134 q813) (by decide +kernel) (t := 20) h6 rfl rfl (by decide) rfl (Nat.le_of_ble_eq_true rfl) dX1_mayHear_13 ?_
  refine r_icmp_ge hκ (tgt := 23) (by decide) dX1_mayHear_16 (fun h8 => ?_) (fun h8 => ?_)
  · replace h := (bte_i h).1 h8
    refine r_iconst hκ dX1_mayHear_23 ?_
    exact r_iretH hκ hf h (nar_bool (by decide)) dX1_mayHear_24
  · replace h := (bte_i h).2 h8
    refine r_iconst hκ dX1_mayHear_19 ?_
    refine r_goto hκ (tgt := 24) (by decide) dX1_mayHear_20 ?_
    exact r_iretH hκ hf h (nar_bool (by decide)) dX1_mayHear_24
/-- EditsMeet$Client.hearsOwn()V -/
def F_X9_hearsOwn (s0 : bS) (a0 : Int) : Option (bS × Int) :=
  bck (bg s0 0 a0 0 = 8) <|
  bck ((bg s0 0 a0 0 = 8)) <|
  bst (bw s0 164 a0 0 ((bg s0 164 a0 0) + 1)) fun s1 =>
  bck ((bg s1 0 a0 0 = 8) ∧ ((0 : Int) = 0 ∨ (0 : Int) = 1)) <|
  bst (bw s1 172 a0 0 0) fun s2 =>
  bck (bg s2 0 a0 0 = 8) <|
  bte (i32 (bg s2 196 a0 0) = 0)
  (some (s2, 0))
  (bck (bg s2 0 a0 0 = 8) <|
  bck (bg s2 0 (bg s2 190 a0 0) 0 = 7) <|
  bcl (F_X8_copied s2 (bg s2 190 a0 0)) fun s3 v1 =>
  bck (bg s3 0 a0 0 = 8) <|
  bcl (F_X9_sends s3 a0 v1) fun s4 v2 =>
  bck ((bg s4 0 a0 0 = 8) ∧ ((0 : Int) = 0 ∨ (0 : Int) = 1)) <|
  bst (bw s4 196 a0 0 0) fun s5 =>
  some (s5, 0))
set_option maxHeartbeats 4000000 in
set_option maxRecDepth 100000 in
theorem w_X9_hearsOwn (Γ0 : bG) (l0 : Launch) {s0 st' : bS} {v a0 : Int} (h : F_X9_hearsOwn s0 a0 = some (st', v)) : bCt Γ0 l0 yX9_hearsOwn cX9_hearsOwn 1 none 9 214 [(2, a0)] s0 st' none := by
  refine b_ent (own := RX9) (by decide +kernel) rfl (Nat.le_of_ble_eq_true rfl) (L := [(0, (2, a0))]) rfl ?_
  intro κ hκ hi hf
  unfold F_X9_hearsOwn at h
  refine r_aload_n hκ 0 rfl rfl dX9_hearsOwn_0 ?_
  refine r_dup hκ (bd_cat2k _) dX9_hearsOwn_1 ?_
  obtain ⟨h1, h⟩ := bck_i h
  refine r_get hκ (t := 7) (k := 5) (r := 164) h1 rfl in_X9 (by decide) rfl q494 (Or.inl rfl) dX9_hearsOwn_2 ?_
  refine r_iconst hκ dX9_hearsOwn_5 ?_
  refine r_iadd hκ dX9_hearsOwn_6 ?_
  obtain ⟨h2, h⟩ := bck_i h
  refine r_put hκ (t := 7) (k := 5) (r := 164) (ty := .int) tyX9 tyX9_ok nmX9 h2 rfl in_X9 (by decide) rfl q494 (Or.inl rfl) rfl rfl rfl trivial (Or.inl (by decide)) dX9_hearsOwn_7 (fun s1 es1 => ?_)
  replace h := bst_i h s1 es1
  refine r_aload_n hκ 0 rfl rfl dX9_hearsOwn_10 ?_
  refine r_iconst hκ dX9_hearsOwn_11 ?_
  obtain ⟨⟨h3, h4⟩, h⟩ := bck_i h
  refine r_put hκ (t := 7) (k := 7) (r := 172) (ty := .boolean) tyX9 tyX9_ok nmX9 h3 rfl in_X9 (by decide) rfl q498 (Or.inl rfl) rfl rfl rfl h4 (Or.inl (by decide)) dX9_hearsOwn_12 (fun s2 es2 => ?_)
  replace h := bst_i h s2 es2
  refine r_aload_n hκ 0 rfl rfl dX9_hearsOwn_15 ?_
  obtain ⟨h5, h⟩ := bck_i h
  refine r_get hκ (t := 7) (k := 13) (r := 196) h5 rfl in_X9 (by decide) rfl q509 (Or.inl rfl) dX9_hearsOwn_16 ?_
  refine r_if_eq hκ (tgt := 38) (by decide) dX9_hearsOwn_19 (fun h6 => ?_) (fun h6 => ?_)
  · replace h := (bte_i h).1 h6
    exact r_vretH hκ hf h dX9_hearsOwn_38
  · replace h := (bte_i h).2 h6
    refine r_aload_n hκ 0 rfl rfl dX9_hearsOwn_22 ?_
    refine r_aload_n hκ 0 rfl rfl dX9_hearsOwn_23 ?_
    obtain ⟨h7, h⟩ := bck_i h
    refine r_get hκ (t := 7) (k := 11) (r := 190) h7 rfl in_X9 (by decide) rfl q507 (Or.inl rfl) dX9_hearsOwn_24 ?_
    obtain ⟨h8, h⟩ := bck_i h
    obtain ⟨s3, v1, h9, h⟩ := bcl_i h
    refine r_callV hκ (n' := 0) (index := 112) (w_X8_copied Γ0 l0 h9) (lw_V q2556 q2505 q2506 q140 q2507) (by decide +kernel) (t := 6) h8 rfl rfl (by decide) rfl (Nat.le_of_ble_eq_true rfl) dX9_hearsOwn_27 ?_
    obtain ⟨h10, h⟩ := bck_i h
    obtain ⟨s4, v2, h11, h⟩ := bcl_i h
    refine r_callV hκ (n' := 1) (index := 109) (w_X9_sends Γ0 l0 h11) (lw_V q2410 q2412 qs42 q141 q2413) (by decide +kernel) (t := 7) h10 rfl rfl (by decide) rfl (Nat.le_of_ble_eq_true rfl) dX9_hearsOwn_30 ?_
    refine r_aload_n hκ 0 rfl rfl dX9_hearsOwn_33 ?_
    refine r_iconst hκ dX9_hearsOwn_34 ?_
    obtain ⟨⟨h12, h13⟩, h⟩ := bck_i h
    refine r_put hκ (t := 7) (k := 13) (r := 196) (ty := .boolean) tyX9 tyX9_ok nmX9 h12 rfl in_X9 (by decide) rfl q509 (Or.inl rfl) rfl rfl rfl h13 (Or.inl (by decide)) dX9_hearsOwn_35 (fun s5 es5 => ?_)
    replace h := bst_i h s5 es5
    exact r_vretH hκ hf h dX9_hearsOwn_38
/-- EditsMeet$Weaver.passes(LEditsMeet$Edit;LEditsMeet$Edit;)LEditsMeet$Edit; -/
def F_X3_passes_r (b : Nat) (x0 x1 x2 x3 x4 : Int) (s0 : bS) : Option (bS × Int) :=
  match b with
  | 0 =>
    bck (bg s0 0 x4 0 = 4) <|
    bcl (F_X3_over s0 x4 x3 x2 x1 1) fun s2 v2 =>
    bck (bg s2 0 x0 0 = 4) <|
    bck (bg s2 0 x1 0 = 7) <|
    bcl (F_X8_swaps s2 x1 (bg s2 106 x0 0)) fun s3 v3 =>
    some (s3, v2)
  | _ => none
def F_X3_passes (s0 : bS) (a0 a1 a2 : Int) : Option (bS × Int) :=
  bck (bg s0 0 a0 0 = 4) <|
  bck (bg s0 0 a0 0 = 4) <|
  bcl (F_X3_over s0 a0 (bg s0 106 a0 0) a1 a2 0) fun s1 v1 =>
  bck (bg s1 0 a0 0 = 4) <|
  bte (bReq a2 (bg s1 110 a0 0))
  (bck (bg s1 0 a0 0 = 4) <|
  F_X3_passes_r 0 a0 a1 a2 (bg s1 114 a0 0) a0 s1)
  (bck (bg s1 0 a0 0 = 4) <|
  F_X3_passes_r 0 a0 a1 a2 (bg s1 110 a0 0) a0 s1)
set_option maxHeartbeats 4000000 in
set_option maxRecDepth 100000 in
set_option synthInstance.maxHeartbeats 4000000 in
theorem w_X3_passes_r {Γ0 : bG} {l0 : Launch} {κ : bK} {st' : bS} {v : Int} (hκ : bOk κ Γ0 l0 cX3_passes RX3 4 12 289) (hi : bIn κ yX3_passes) (hf : bFin κ (some (.object "EditsMeet$Edit")) st' (some (2, v))) (b : Nat) (x0 x1 x2 x3 x4 : Int) (s0 : bS) (h : F_X3_passes_r b x0 x1 x2 x3 x4 s0 = some (st', v)) : match (generalizing := false) b with | 0 => bJ κ s0 32 [(0, (2, x0)), (1, (2, x1)), (2, (2, x2))] [(2, x3), (2, x4)] | _ => True := by
  unfold F_X3_passes_r at h
  match b, h with
  | 0, h =>
      refine r_aload_n hκ 2 rfl rfl dX3_passes_32 ?_
      refine r_aload_n hκ 1 rfl rfl dX3_passes_33 ?_
      refine r_iconst hκ dX3_passes_34 ?_
      obtain ⟨h8, h⟩ := bck_i h
      obtain ⟨s2, v2, h9, h⟩ := bcl_i h
      refine r_callV hκ (n' := 4) (index := 131) (w_X3_over Γ0 l0 h9) (lw_V q2503 q2142 q2143 q135 q2144) (by decide +kernel) (t := 3) h8 rfl rfl (by decide) rfl (Nat.le_of_ble_eq_true rfl) dX3_passes_35 ?_
      refine r_astore_n hκ (L2 := [(3, (2, v2)), (0, (2, x0)), (1, (2, x1)), (2, (2, x2))]) (by decide) rfl rfl dX3_passes_38 ?_
      refine r_aload_n hκ 2 rfl rfl dX3_passes_39 ?_
      refine r_aload_n hκ 1 rfl rfl dX3_passes_40 ?_
      obtain ⟨h10, h⟩ := bck_i h
      refine r_get hκ (t := 3) (k := 3) (r := 106) h10 rfl in_X3 (by decide) rfl q421 (Or.inl rfl) dX3_passes_41 ?_
      obtain ⟨h11, h⟩ := bck_i h
      obtain ⟨s3, v3, h12, h⟩ := bcl_i h
      refine r_callV hκ (n' := 1) (index := 135) (w_X8_swaps Γ0 l0 h12) (lw_V q2565 q2400 q2401 q140 q2402) (by decide +kernel) (t := 6) h11 rfl rfl (by decide) rfl (Nat.le_of_ble_eq_true rfl) dX3_passes_44 ?_
      refine r_aload_n hκ 0 rfl rfl dX3_passes_47 ?_
      exact r_aretH hκ hf h rt_o dX3_passes_48
  | b + 1, h => trivial
set_option maxHeartbeats 4000000 in
set_option maxRecDepth 100000 in
theorem w_X3_passes (Γ0 : bG) (l0 : Launch) {s0 st' : bS} {v a0 a1 a2 : Int} (h : F_X3_passes s0 a0 a1 a2 = some (st', v)) : bCt Γ0 l0 yX3_passes cX3_passes 4 (some (.object "EditsMeet$Edit")) 12 289 [(2, a0), (2, a1), (2, a2)] s0 st' (some (2, v)) := by
  refine b_ent (own := RX3) (by decide +kernel) rfl (Nat.le_of_ble_eq_true rfl) (L := [(0, (2, a0)), (1, (2, a1)), (2, (2, a2))]) rfl ?_
  intro κ hκ hi hf
  unfold F_X3_passes at h
  refine r_aload_n hκ 0 rfl rfl dX3_passes_0 ?_
  refine r_aload_n hκ 0 rfl rfl dX3_passes_1 ?_
  obtain ⟨h1, h⟩ := bck_i h
  refine r_get hκ (t := 3) (k := 3) (r := 106) h1 rfl in_X3 (by decide) rfl q421 (Or.inl rfl) dX3_passes_2 ?_
  refine r_aload_n hκ 1 rfl rfl dX3_passes_5 ?_
  refine r_aload_n hκ 2 rfl rfl dX3_passes_6 ?_
  refine r_iconst hκ dX3_passes_7 ?_
  obtain ⟨h2, h⟩ := bck_i h
  obtain ⟨s1, v1, h3, h⟩ := bcl_i h
  refine r_callV hκ (n' := 4) (index := 131) (w_X3_over Γ0 l0 h3) (lw_V q2503 q2142 q2143 q135 q2144) (by decide +kernel) (t := 3) h2 rfl rfl (by decide) rfl (Nat.le_of_ble_eq_true rfl) dX3_passes_8 ?_
  refine r_pop hκ (bd_cat2k _) dX3_passes_11 ?_
  refine r_aload_n hκ 0 rfl rfl dX3_passes_12 ?_
  refine r_aload_n hκ 2 rfl rfl dX3_passes_13 ?_
  refine r_aload_n hκ 0 rfl rfl dX3_passes_14 ?_
  obtain ⟨h4, h⟩ := bck_i h
  refine r_get hκ (t := 3) (k := 4) (r := 110) h4 rfl in_X3 (by decide) rfl q422 (Or.inl rfl) dX3_passes_15 ?_
  refine r_acmp_ne hκ (tgt := 28) (by decide) dX3_passes_18 (fun h5 => ?_) (fun h5 => ?_)
  · replace h := (bte_i h).2 h5
    refine r_aload_n hκ 0 rfl rfl dX3_passes_28 ?_
    obtain ⟨h6, h⟩ := bck_i h
    refine r_get hκ (t := 3) (k := 4) (r := 110) h6 rfl in_X3 (by decide) rfl q422 (Or.inl rfl) dX3_passes_29 ?_
    exact r_sub [0, 1, 2] rfl (w_X3_passes_r hκ hi hf 0 _ _ _ _ _ _ h)
  · replace h := (bte_i h).1 h5
    refine r_aload_n hκ 0 rfl rfl dX3_passes_21 ?_
    obtain ⟨h7, h⟩ := bck_i h
    refine r_get hκ (t := 3) (k := 5) (r := 114) h7 rfl in_X3 (by decide) rfl q423 (Or.inl rfl) dX3_passes_22 ?_
    refine r_goto hκ (tgt := 32) (by decide) dX3_passes_25 ?_
    exact r_sub [0, 1, 2] rfl (w_X3_passes_r hκ hi hf 0 _ _ _ _ _ _ h)
/-- EditsMeet$Pile.goesOver(LEditsMeet$Edit;LEditsMeet$Weaver;)V -/
def F_X10_goesOver_r (b : Nat) (x0 x1 x2 : Int) (s0 : bS) : Option (bS × Int) :=
  match b with
  | 0 =>
    bcl (bte (bg s0 0 x2 0 = 5) (F_X4_hasNext s0 x2) (bte (bg s0 0 x2 0 = 24) (F_J27_hasNext s0 x2) (bte (bg s0 0 x2 0 = 25) (F_J28_hasNext s0 x2) (none)))) fun s2 v2 =>
    bte (i32 v2 = 0)
    (some (s2, 0))
    (bcl (bte (bg s2 0 x2 0 = 5) (F_X4_next s2 x2) (bte (bg s2 0 x2 0 = 24) (F_J27_next s2 x2) (bte (bg s2 0 x2 0 = 25) (F_J28_next s2 x2) (none)))) fun s3 v3 =>
    bck (v3 < 0 ∨ bg s3 0 v3 0 = 7) <|
    bck (bg s3 0 x0 0 = 4) <|
    bcl (F_X3_passes s3 x0 v3 x1) fun s4 v4 =>
    F_X10_goesOver_r 0 x0 v4 x2 s4)
  | _ => none
partial_fixpoint
def F_X10_goesOver (s0 : bS) (a0 a1 a2 : Int) : Option (bS × Int) :=
  bck (bg s0 0 a0 0 = 9) <|
  bck (bg s0 0 (bg s0 202 a0 0) 0 = 22) <|
  bcl (F_J12_descendingIterator s0 (bg s0 202 a0 0)) fun s1 v1 =>
  F_X10_goesOver_r 0 a2 a1 v1 s1
set_option maxHeartbeats 4000000 in
set_option maxRecDepth 100000 in
set_option synthInstance.maxHeartbeats 4000000 in
theorem w_X10_goesOver_r {Γ0 : bG} {l0 : Launch} {κ : bK} {st' : bS} {v : Int} (hκ : bOk κ Γ0 l0 cX10_goesOver RX10 5 13 312) (hi : bIn κ yX10_goesOver) (hf : bFin κ none st' none) (b : Nat) (x0 x1 x2 : Int) (s0 : bS) (h : F_X10_goesOver_r b x0 x1 x2 s0 = some (st', v)) : match (generalizing := false) b with | 0 => bJ κ s0 11 [(2, (2, x0)), (3, (2, x1)), (4, (2, x2))] [] | _ => True := by
  refine F_X10_goesOver_r.partial_correctness x0 x2 (fun b x1 s0 r => r = (st', v) → match (generalizing := false) b with | 0 => bJ κ s0 11 [(2, (2, x0)), (3, (2, x1)), (4, (2, x2))] [] | _ => True) ?_ b x1 s0 _ h rfl
  intro f' ih b x1 s0 r h hr
  subst hr
  match b, h with
  | 0, h =>
      refine r_aload hκ 2 rfl dX10_goesOver_11 ?_
      obtain ⟨s2, v2, h4, h⟩ := bcl_i h
      refine r_seq (A := bJ κ s2 18 [(2, (2, x0)), (3, (2, x1)), (4, (2, x2))] [(0, v2)]) ?_ (fun k0 => ?_)
      case refine_2 =>
        by_cases h5 : bg s0 0 x2 0 = 5
        · have hq0 := (bte_i h4).1 h5
          exact r_callF hκ (n' := 0) (index := 47) (C := "EditsMeet$Goes") (w_X4_hasNext Γ0 l0 hq0) (lw_app (lw_l4 q2612 q1676 q1678 q136) (lw_meth q1680)) (by decide +kernel) (by decide +kernel) (t := 4) h5 rfl rfl (by decide) rfl (Nat.le_of_ble_eq_true rfl) dX10_goesOver_13 k0
        replace h4 := (bte_i h4).2 h5
        by_cases h6 : bg s0 0 x2 0 = 24
        · have hq0 := (bte_i h4).1 h6
          exact r_callF hκ (n' := 0) (index := 47) (C := "java/util/LinkedList$DescendingIterator") (w_J27_hasNext Γ0 l0 hq0) (lw_app (lw_l4 q2612 q1702 q1704 q170) (lw_meth q1706)) (by decide +kernel) (by decide +kernel) (t := 23) h6 rfl rfl (by decide) rfl (Nat.le_of_ble_eq_true rfl) dX10_goesOver_13 k0
        replace h4 := (bte_i h4).2 h6
        by_cases h7 : bg s0 0 x2 0 = 25
        · have hq0 := (bte_i h4).1 h7
          exact r_callF hκ (n' := 0) (index := 47) (C := "java/util/LinkedList$ListItr") (w_J28_hasNext Γ0 l0 hq0) (lw_app (lw_l4 q2612 q1712 q1714 q171) (lw_meth q1716)) (by decide +kernel) (by decide +kernel) (t := 24) h7 rfl rfl (by decide) rfl (Nat.le_of_ble_eq_true rfl) dX10_goesOver_13 k0
        replace h4 := (bte_i h4).2 h7
        cases h4
      refine r_if_eq hκ (tgt := 40) (by decide) dX10_goesOver_18 (fun h8 => ?_) (fun h8 => ?_)
      · replace h := (bte_i h).1 h8
        exact r_vretH hκ hf h dX10_goesOver_40
      · replace h := (bte_i h).2 h8
        refine r_aload_n hκ 0 rfl rfl dX10_goesOver_21 ?_
        refine r_aload hκ 2 rfl dX10_goesOver_22 ?_
        obtain ⟨s3, v3, h9, h⟩ := bcl_i h
        refine r_seq (A := bJ κ s3 29 [(2, (2, x0)), (3, (2, x1)), (4, (2, x2))] [(2, v3), (2, x0)]) ?_ (fun k0 => ?_)
        case refine_2 =>
          by_cases h10 : bg s2 0 x2 0 = 5
          · have hq0 := (bte_i h9).1 h10
            exact r_callF hκ (n' := 0) (index := 52) (C := "EditsMeet$Goes") (w_X4_next Γ0 l0 hq0) (lw_app (lw_l4 q2614 q1721 q1723 q136) (lw_meth q1725)) (by decide +kernel) (by decide +kernel) (t := 4) h10 rfl rfl (by decide) rfl (Nat.le_of_ble_eq_true rfl) dX10_goesOver_24 k0
          replace h9 := (bte_i h9).2 h10
          by_cases h11 : bg s2 0 x2 0 = 24
          · have hq0 := (bte_i h9).1 h11
            exact r_callF hκ (n' := 0) (index := 52) (C := "java/util/LinkedList$DescendingIterator") (w_J27_next Γ0 l0 hq0) (lw_app (lw_l4 q2614 q1955 q1957 q170) (lw_meth q1959)) (by decide +kernel) (by decide +kernel) (t := 23) h11 rfl rfl (by decide) rfl (Nat.le_of_ble_eq_true rfl) dX10_goesOver_24 k0
          replace h9 := (bte_i h9).2 h11
          by_cases h12 : bg s2 0 x2 0 = 25
          · have hq0 := (bte_i h9).1 h12
            exact r_callF hκ (n' := 0) (index := 52) (C := "java/util/LinkedList$ListItr") (w_J28_next Γ0 l0 hq0) (lw_app (lw_l4 q2614 q1969 q1971 q171) (lw_meth q1973)) (by decide +kernel) (by decide +kernel) (t := 24) h12 rfl rfl (by decide) rfl (Nat.le_of_ble_eq_true rfl) dX10_goesOver_24 k0
          replace h9 := (bte_i h9).2 h12
          cases h9
        obtain ⟨h13, h⟩ := bck_i h
        refine r_cast hκ q2293 (Or.elim h13 (fun h13 => Or.inl h13) (fun h13 => Or.inr ⟨6, _, h13, rfl, Or.inl rfl⟩)) dX10_goesOver_29 ?_
        refine r_aload_n hκ 1 rfl rfl dX10_goesOver_32 ?_
        obtain ⟨h14, h⟩ := bck_i h
        obtain ⟨s4, v4, h15, h⟩ := bcl_i h
        refine r_callV hκ (n' := 2) (index := 96) (w_X3_passes Γ0 l0 h15) (lw_V q2615 q2562 q2563 q135 q2564) (by decide +kernel) (t := 3) h14 rfl rfl (by decide) rfl (Nat.le_of_ble_eq_true rfl) dX10_goesOver_33 ?_
        refine r_astore_n hκ (L2 := [(3, (2, v4)), (2, (2, x0)), (4, (2, x2))]) (by decide) rfl rfl dX10_goesOver_36 ?_
        refine r_goto hκ (tgt := 11) (by decide) dX10_goesOver_37 ?_
        exact r_sub [1, 0, 2] rfl (ih 0 _ _ _ h rfl)
  | b + 1, h => trivial
set_option maxHeartbeats 4000000 in
set_option maxRecDepth 100000 in
theorem w_X10_goesOver (Γ0 : bG) (l0 : Launch) {s0 st' : bS} {v a0 a1 a2 : Int} (h : F_X10_goesOver s0 a0 a1 a2 = some (st', v)) : bCt Γ0 l0 yX10_goesOver cX10_goesOver 5 none 13 312 [(2, a0), (2, a1), (2, a2)] s0 st' none := by
  refine b_ent (own := RX10) (by decide +kernel) rfl (Nat.le_of_ble_eq_true rfl) (L := [(0, (2, a0)), (1, (2, a1)), (2, (2, a2))]) rfl ?_
  intro κ hκ hi hf
  unfold F_X10_goesOver at h
  refine r_aload_n hκ 1 rfl rfl dX10_goesOver_0 ?_
  refine r_astore_n hκ (L2 := [(3, (2, a1)), (0, (2, a0)), (1, (2, a1)), (2, (2, a2))]) (by decide) rfl rfl dX10_goesOver_1 ?_
  refine r_aload_n hκ 1 rfl rfl dX10_goesOver_2 ?_
  obtain ⟨h1, h⟩ := bck_i h
  refine r_get hκ (t := 8) (k := 0) (r := 202) h1 rfl in_X10 (by decide) rfl q475 (Or.inl rfl) dX10_goesOver_3 ?_
  obtain ⟨h2, h⟩ := bck_i h
  obtain ⟨s1, v1, h3, h⟩ := bcl_i h
  refine r_callV hκ (n' := 0) (index := 93) (w_J12_descendingIterator Γ0 l0 h3) (lw_V q2570 q2571 q2572 q144 q2573) (by decide +kernel) (t := 21) h2 rfl rfl (by decide) rfl (Nat.le_of_ble_eq_true rfl) dX10_goesOver_6 ?_
  refine r_astore hκ (L2 := [(4, (2, v1)), (3, (2, a1)), (0, (2, a0)), (1, (2, a1)), (2, (2, a2))]) (by decide) rfl dX10_goesOver_9 ?_
  exact r_sub [4, 1, 0] rfl (w_X10_goesOver_r hκ hi hf 0 _ _ _ _ h)
/-- EditsMeet$Client.hears(LEditsMeet$Edit;)V -/
def F_X9_hears_r (b : Nat) (x0 x1 : Int) (s0 : bS) : Option (bS × Int) :=
  match b with
  | 0 =>
    bck (bg s0 0 x0 0 = 8) <|
    bte (i32 (bg s0 196 x0 0) = 0)
    (F_X9_hears_r 1 x0 x1 s0)
    (bck (bg s0 0 x0 0 = 8) <|
    bck (bg s0 0 x0 0 = 8) <|
    bck (bg s0 0 (bg s0 162 x0 0) 0 = 4) <|
    bcl (F_X3_passes s0 (bg s0 162 x0 0) (bg s0 190 x0 0) x1) fun s2 v2 =>
    F_X9_hears_r 1 x0 v2 s2)
  | 1 =>
    bck (bg s0 0 x0 0 = 8) <|
    bcl (F_X9_moves s0 x0 x1 0) fun s3 v3 =>
    bck (bg s3 0 x0 0 = 8) <|
    bck (bg s3 0 (bg s3 194 x0 0) 0 = 7) <|
    bcl (F_X8_becomes s3 (bg s3 194 x0 0) x1) fun s4 v4 =>
    bck (bg s4 0 x0 0 = 8) <|
    bck (bg s4 0 x0 0 = 8) <|
    bck (bg s4 0 x0 0 = 8) <|
    bck (bg s4 0 (bg s4 154 x0 0) 0 = 9) <|
    bcl (F_X10_goesOver s4 (bg s4 154 x0 0) (bg s4 194 x0 0) (bg s4 162 x0 0)) fun s5 v5 =>
    bck (bg s5 0 x0 0 = 8) <|
    bck (bg s5 0 x0 0 = 8) <|
    bck (bg s5 0 x0 0 = 8) <|
    bck (bg s5 0 (bg s5 158 x0 0) 0 = 9) <|
    bcl (F_X10_goesOver s5 (bg s5 158 x0 0) (bg s5 194 x0 0) (bg s5 162 x0 0)) fun s6 v6 =>
    bck (bg s6 0 x0 0 = 8) <|
    bck ((bg s6 0 x0 0 = 8)) <|
    bst (bw s6 164 x0 0 ((bg s6 164 x0 0) + 1)) fun s7 =>
    some (s7, 0)
  | _ => none
partial_fixpoint
def F_X9_hears (s0 : bS) (a0 a1 : Int) : Option (bS × Int) :=
  bck (bg s0 0 a0 0 = 8) <|
  bte (i32 (bg s0 172 a0 0) = 0)
  (F_X9_hears_r 0 a0 a1 s0)
  (bck (bg s0 0 a0 0 = 8) <|
  bck (bg s0 0 a0 0 = 8) <|
  bck (bg s0 0 (bg s0 162 a0 0) 0 = 4) <|
  bcl (F_X3_passes s0 (bg s0 162 a0 0) (bg s0 170 a0 0) a1) fun s1 v1 =>
  F_X9_hears_r 0 a0 v1 s1)
set_option maxHeartbeats 4000000 in
set_option maxRecDepth 100000 in
set_option synthInstance.maxHeartbeats 4000000 in
theorem w_X9_hears_r {Γ0 : bG} {l0 : Launch} {κ : bK} {st' : bS} {v : Int} (hκ : bOk κ Γ0 l0 cX9_hears RX9 3 14 336) (hi : bIn κ yX9_hears) (hf : bFin κ none st' none) (b : Nat) (x0 x1 : Int) (s0 : bS) (h : F_X9_hears_r b x0 x1 s0 = some (st', v)) : match (generalizing := false) b with | 0 => bJ κ s0 23 [(0, (2, x0))] [(2, x1)] | 1 => bJ κ s0 47 [(0, (2, x0))] [(2, x1)] | _ => True := by
  refine F_X9_hears_r.partial_correctness x0 (fun b x1 s0 r => r = (st', v) → match (generalizing := false) b with | 0 => bJ κ s0 23 [(0, (2, x0))] [(2, x1)] | 1 => bJ κ s0 47 [(0, (2, x0))] [(2, x1)] | _ => True) ?_ b x1 s0 _ h rfl
  intro f' ih b x1 s0 r h hr
  subst hr
  match b, h with
  | 0, h =>
      refine r_astore_n hκ (L2 := [(2, (2, x1)), (0, (2, x0))]) (by decide) rfl rfl dX9_hears_23 ?_
      refine r_aload_n hκ 1 rfl rfl dX9_hears_24 ?_
      obtain ⟨h7, h⟩ := bck_i h
      refine r_get hκ (t := 7) (k := 13) (r := 196) h7 rfl in_X9 (by decide) rfl q509 (Or.inl rfl) dX9_hears_25 ?_
      refine r_if_eq hκ (tgt := 46) (by decide) dX9_hears_28 (fun h8 => ?_) (fun h8 => ?_)
      · replace h := (bte_i h).1 h8
        refine r_aload_n hκ 0 rfl rfl dX9_hears_46 ?_
        exact r_sub [1] rfl (ih 1 _ _ _ h rfl)
      · replace h := (bte_i h).2 h8
        refine r_aload_n hκ 1 rfl rfl dX9_hears_31 ?_
        obtain ⟨h9, h⟩ := bck_i h
        refine r_get hκ (t := 7) (k := 4) (r := 162) h9 rfl in_X9 (by decide) rfl q493 (Or.inl rfl) dX9_hears_32 ?_
        refine r_aload_n hκ 1 rfl rfl dX9_hears_35 ?_
        obtain ⟨h10, h⟩ := bck_i h
        refine r_get hκ (t := 7) (k := 11) (r := 190) h10 rfl in_X9 (by decide) rfl q507 (Or.inl rfl) dX9_hears_36 ?_
        refine r_aload_n hκ 0 rfl rfl dX9_hears_39 ?_
        obtain ⟨h11, h⟩ := bck_i h
        obtain ⟨s2, v2, h12, h⟩ := bcl_i h
        refine r_callV hκ (n' := 2) (index := 115) (w_X3_passes Γ0 l0 h12) (lw_V q2561 q2562 q2563 q135 q2564) (by decide +kernel) (t := 3) h11 rfl rfl (by decide) rfl (Nat.le_of_ble_eq_true rfl) dX9_hears_40 ?_
        refine r_goto hκ (tgt := 47) (by decide) dX9_hears_43 ?_
        exact r_sub [1] rfl (ih 1 _ _ _ h rfl)
  | 1, h =>
      refine r_astore_n hκ (L2 := [(2, (2, x1)), (0, (2, x0))]) (by decide) rfl rfl dX9_hears_47 ?_
      refine r_aload_n hκ 1 rfl rfl dX9_hears_48 ?_
      refine r_aload_n hκ 0 rfl rfl dX9_hears_49 ?_
      refine r_iconst hκ dX9_hears_50 ?_
      obtain ⟨h13, h⟩ := bck_i h
      obtain ⟨s3, v3, h14, h⟩ := bcl_i h
      refine r_callV hκ (n' := 2) (index := 102) (w_X9_moves Γ0 l0 h14) (lw_V q2343 q2345 qs40 q141 q2346) (by decide +kernel) (t := 7) h13 rfl rfl (by decide) rfl (Nat.le_of_ble_eq_true rfl) dX9_hears_51 ?_
      refine r_aload_n hκ 1 rfl rfl dX9_hears_54 ?_
      obtain ⟨h15, h⟩ := bck_i h
      refine r_get hκ (t := 7) (k := 12) (r := 194) h15 rfl in_X9 (by decide) rfl q508 (Or.inl rfl) dX9_hears_55 ?_
      refine r_aload_n hκ 0 rfl rfl dX9_hears_58 ?_
      obtain ⟨h16, h⟩ := bck_i h
      obtain ⟨s4, v4, h17, h⟩ := bcl_i h
      refine r_callV hκ (n' := 1) (index := 58) (w_X8_becomes Γ0 l0 h17) (lw_V q2403 q2404 q2405 q140 q2406) (by decide +kernel) (t := 6) h16 rfl rfl (by decide) rfl (Nat.le_of_ble_eq_true rfl) dX9_hears_59 ?_
      refine r_pop hκ (bd_cat2k _) dX9_hears_62 ?_
      refine r_aload_n hκ 1 rfl rfl dX9_hears_63 ?_
      obtain ⟨h18, h⟩ := bck_i h
      refine r_get hκ (t := 7) (k := 2) (r := 154) h18 rfl in_X9 (by decide) rfl q489 (Or.inl rfl) dX9_hears_64 ?_
      refine r_aload_n hκ 1 rfl rfl dX9_hears_67 ?_
      obtain ⟨h19, h⟩ := bck_i h
      refine r_get hκ (t := 7) (k := 12) (r := 194) h19 rfl in_X9 (by decide) rfl q508 (Or.inl rfl) dX9_hears_68 ?_
      refine r_aload_n hκ 1 rfl rfl dX9_hears_71 ?_
      obtain ⟨h20, h⟩ := bck_i h
      refine r_get hκ (t := 7) (k := 4) (r := 162) h20 rfl in_X9 (by decide) rfl q493 (Or.inl rfl) dX9_hears_72 ?_
      obtain ⟨h21, h⟩ := bck_i h
      obtain ⟨s5, v5, h22, h⟩ := bcl_i h
      refine r_callV hκ (n' := 2) (index := 118) (w_X10_goesOver Γ0 l0 h22) (lw_V q2566 q2567 q2568 q142 q2569) (by decide +kernel) (t := 8) h21 rfl rfl (by decide) rfl (Nat.le_of_ble_eq_true rfl) dX9_hears_75 ?_
      refine r_aload_n hκ 1 rfl rfl dX9_hears_78 ?_
      obtain ⟨h23, h⟩ := bck_i h
      refine r_get hκ (t := 7) (k := 3) (r := 158) h23 rfl in_X9 (by decide) rfl q491 (Or.inl rfl) dX9_hears_79 ?_
      refine r_aload_n hκ 1 rfl rfl dX9_hears_82 ?_
      obtain ⟨h24, h⟩ := bck_i h
      refine r_get hκ (t := 7) (k := 12) (r := 194) h24 rfl in_X9 (by decide) rfl q508 (Or.inl rfl) dX9_hears_83 ?_
      refine r_aload_n hκ 1 rfl rfl dX9_hears_86 ?_
      obtain ⟨h25, h⟩ := bck_i h
      refine r_get hκ (t := 7) (k := 4) (r := 162) h25 rfl in_X9 (by decide) rfl q493 (Or.inl rfl) dX9_hears_87 ?_
      obtain ⟨h26, h⟩ := bck_i h
      obtain ⟨s6, v6, h27, h⟩ := bcl_i h
      refine r_callV hκ (n' := 2) (index := 118) (w_X10_goesOver Γ0 l0 h27) (lw_V q2566 q2567 q2568 q142 q2569) (by decide +kernel) (t := 8) h26 rfl rfl (by decide) rfl (Nat.le_of_ble_eq_true rfl) dX9_hears_90 ?_
      refine r_aload_n hκ 1 rfl rfl dX9_hears_93 ?_
      refine r_dup hκ (bd_cat2k _) dX9_hears_94 ?_
      obtain ⟨h28, h⟩ := bck_i h
      refine r_get hκ (t := 7) (k := 5) (r := 164) h28 rfl in_X9 (by decide) rfl q494 (Or.inl rfl) dX9_hears_95 ?_
      refine r_iconst hκ dX9_hears_98 ?_
      refine r_iadd hκ dX9_hears_99 ?_
      obtain ⟨h29, h⟩ := bck_i h
      refine r_put hκ (t := 7) (k := 5) (r := 164) (ty := .int) tyX9 tyX9_ok nmX9 h29 rfl in_X9 (by decide) rfl q494 (Or.inl rfl) rfl rfl rfl trivial (Or.inl (by decide)) dX9_hears_100 (fun s7 es7 => ?_)
      replace h := bst_i h s7 es7
      exact r_vretH hκ hf h dX9_hears_103
  | b + 2, h => trivial
set_option maxHeartbeats 4000000 in
set_option maxRecDepth 100000 in
theorem w_X9_hears (Γ0 : bG) (l0 : Launch) {s0 st' : bS} {v a0 a1 : Int} (h : F_X9_hears s0 a0 a1 = some (st', v)) : bCt Γ0 l0 yX9_hears cX9_hears 3 none 14 336 [(2, a0), (2, a1)] s0 st' none := by
  refine b_ent (own := RX9) (by decide +kernel) rfl (Nat.le_of_ble_eq_true rfl) (L := [(0, (2, a0)), (1, (2, a1))]) rfl ?_
  intro κ hκ hi hf
  unfold F_X9_hears at h
  refine r_aload_n hκ 0 rfl rfl dX9_hears_0 ?_
  obtain ⟨h1, h⟩ := bck_i h
  refine r_get hκ (t := 7) (k := 7) (r := 172) h1 rfl in_X9 (by decide) rfl q498 (Or.inl rfl) dX9_hears_1 ?_
  refine r_if_eq hκ (tgt := 22) (by decide) dX9_hears_4 (fun h2 => ?_) (fun h2 => ?_)
  · replace h := (bte_i h).1 h2
    refine r_aload_n hκ 1 rfl rfl dX9_hears_22 ?_
    exact r_sub [0] rfl (w_X9_hears_r hκ hi hf 0 _ _ _ h)
  · replace h := (bte_i h).2 h2
    refine r_aload_n hκ 0 rfl rfl dX9_hears_7 ?_
    obtain ⟨h3, h⟩ := bck_i h
    refine r_get hκ (t := 7) (k := 4) (r := 162) h3 rfl in_X9 (by decide) rfl q493 (Or.inl rfl) dX9_hears_8 ?_
    refine r_aload_n hκ 0 rfl rfl dX9_hears_11 ?_
    obtain ⟨h4, h⟩ := bck_i h
    refine r_get hκ (t := 7) (k := 6) (r := 170) h4 rfl in_X9 (by decide) rfl q497 (Or.inl rfl) dX9_hears_12 ?_
    refine r_aload_n hκ 1 rfl rfl dX9_hears_15 ?_
    obtain ⟨h5, h⟩ := bck_i h
    obtain ⟨s1, v1, h6, h⟩ := bcl_i h
    refine r_callV hκ (n' := 2) (index := 115) (w_X3_passes Γ0 l0 h6) (lw_V q2561 q2562 q2563 q135 q2564) (by decide +kernel) (t := 3) h5 rfl rfl (by decide) rfl (Nat.le_of_ble_eq_true rfl) dX9_hears_16 ?_
    refine r_goto hκ (tgt := 23) (by decide) dX9_hears_19 ?_
    exact r_sub [0] rfl (w_X9_hears_r hκ hi hf 0 _ _ _ h)
/-- EditsMeet$World.hears(I)V -/
def F_X1_hears (s0 : bS) (a0 a1 : Int) : Option (bS × Int) :=
  bck (bg s0 0 a0 0 = 2) <|
  bck (bg s0 0 a0 0 = 2) <|
  bck (bg s0 0 (bg s0 66 a0 0) 0 = 1007 ∧ (0 : Int) ≤ a1 ∧ a1 < bg s0 4 (bg s0 66 a0 0) 0) <|
  bck (bg s0 0 (bg s0 10 (bg s0 66 a0 0) a1) 0 = 8) <|
  bck (bg s0 0 (bg s0 74 a0 0) 0 = 21) <|
  bcl (F_J10_get s0 (bg s0 74 a0 0) (bg s0 164 (bg s0 10 (bg s0 66 a0 0) a1) 0)) fun s1 v1 =>
  bck (v1 < 0 ∨ bg s1 0 v1 0 = 18) <|
  bck (bg s1 0 v1 0 = 18) <|
  bte (i32 (bg s1 404 v1 0) = i32 a1)
  (bck (bg s1 0 a0 0 = 2) <|
  bck (bg s1 0 (bg s1 66 a0 0) 0 = 1007 ∧ (0 : Int) ≤ a1 ∧ a1 < bg s1 4 (bg s1 66 a0 0) 0) <|
  bck (bg s1 0 (bg s1 10 (bg s1 66 a0 0) a1) 0 = 8) <|
  bcl (F_X9_hearsOwn s1 (bg s1 10 (bg s1 66 a0 0) a1)) fun s3 v3 =>
  some (s3, 0))
  (bck (bg s1 0 a0 0 = 2) <|
  bck (bg s1 0 (bg s1 66 a0 0) 0 = 1007 ∧ (0 : Int) ≤ a1 ∧ a1 < bg s1 4 (bg s1 66 a0 0) 0) <|
  bck (bg s1 0 v1 0 = 18) <|
  bck (bg s1 0 (bg s1 10 (bg s1 66 a0 0) a1) 0 = 8) <|
  bcl (F_X9_hears s1 (bg s1 10 (bg s1 66 a0 0) a1) (bg s1 402 v1 0)) fun s2 v2 =>
  some (s2, 0))
set_option maxHeartbeats 4000000 in
set_option maxRecDepth 100000 in
theorem w_X1_hears (Γ0 : bG) (l0 : Launch) {s0 st' : bS} {v a0 a1 : Int} (h : F_X1_hears s0 a0 a1 = some (st', v)) : bCt Γ0 l0 yX1_hears cX1_hears 3 none 15 358 [(2, a0), (0, a1)] s0 st' none := by
  refine b_ent (own := RX1) (by decide +kernel) rfl (Nat.le_of_ble_eq_true rfl) (L := [(0, (2, a0)), (1, (0, a1))]) rfl ?_
  intro κ hκ hi hf
  unfold F_X1_hears at h
  refine r_aload_n hκ 0 rfl rfl dX1_hears_0 ?_
  obtain ⟨h1, h⟩ := bck_i h
  refine r_get hκ (t := 1) (k := 2) (r := 74) h1 rfl in_X1 (by decide) rfl q543 (Or.inl rfl) dX1_hears_1 ?_
  refine r_aload_n hκ 0 rfl rfl dX1_hears_4 ?_
  obtain ⟨h2, h⟩ := bck_i h
  refine r_get hκ (t := 1) (k := 0) (r := 66) h2 rfl in_X1 (by decide) rfl q539 (Or.inl rfl) dX1_hears_5 ?_
  refine r_iload_n hκ 1 rfl rfl dX1_hears_8 ?_
  obtain ⟨⟨h3, h4⟩, h⟩ := bck_i h
  refine r_aald hκ (t := 7) (by decide) h3 h4 dX1_hears_9 ?_
  obtain ⟨h5, h⟩ := bck_i h
  refine r_get hκ (t := 7) (k := 5) (r := 164) h5 rfl in_X9 (by decide) rfl q495 (Or.inl rfl) dX1_hears_10 ?_
  obtain ⟨h6, h⟩ := bck_i h
  obtain ⟨s1, v1, h7, h⟩ := bcl_i h
  refine r_callV hκ (n' := 1) (index := 95) (w_J10_get Γ0 l0 h7) (lw_V q2551 q819 q820 q134 q821) (by decide +kernel) (t := 20) h6 rfl rfl (by decide) rfl (Nat.le_of_ble_eq_true rfl) dX1_hears_13 ?_
  obtain ⟨h8, h⟩ := bck_i h
  refine r_cast hκ q2512 (Or.elim h8 (fun h8 => Or.inl h8) (fun h8 => Or.inr ⟨17, _, h8, rfl, Or.inl rfl⟩)) dX1_hears_16 ?_
  refine r_astore_n hκ (L2 := [(2, (2, v1)), (0, (2, a0)), (1, (0, a1))]) (by decide) rfl rfl dX1_hears_19 ?_
  refine r_aload_n hκ 0 rfl rfl dX1_hears_20 ?_
  obtain ⟨h9, h⟩ := bck_i h
  refine r_get hκ (t := 17) (k := 1) (r := 404) h9 rfl in_X19 (by decide) rfl q2523 (Or.inl rfl) dX1_hears_21 ?_
  refine r_iload_n hκ 2 rfl rfl dX1_hears_24 ?_
  refine r_icmp_ne hκ (tgt := 40) (by decide) dX1_hears_25 (fun h10 => ?_) (fun h10 => ?_)
  · replace h := (bte_i h).2 h10
    refine r_aload_n hκ 1 rfl rfl dX1_hears_40 ?_
    obtain ⟨h11, h⟩ := bck_i h
    refine r_get hκ (t := 1) (k := 0) (r := 66) h11 rfl in_X1 (by decide) rfl q539 (Or.inl rfl) dX1_hears_41 ?_
    refine r_iload_n hκ 2 rfl rfl dX1_hears_44 ?_
    obtain ⟨⟨h12, h13⟩, h⟩ := bck_i h
    refine r_aald hκ (t := 7) (by decide) h12 h13 dX1_hears_45 ?_
    refine r_aload_n hκ 0 rfl rfl dX1_hears_46 ?_
    obtain ⟨h14, h⟩ := bck_i h
    refine r_get hκ (t := 17) (k := 0) (r := 402) h14 rfl in_X19 (by decide) rfl q2519 (Or.inl rfl) dX1_hears_47 ?_
    obtain ⟨h15, h⟩ := bck_i h
    obtain ⟨s2, v2, h16, h⟩ := bcl_i h
    refine r_callV hκ (n' := 1) (index := 108) (w_X9_hears Γ0 l0 h16) (lw_V q2557 q2558 q2559 q141 q2560) (by decide +kernel) (t := 7) h15 rfl rfl (by decide) rfl (Nat.le_of_ble_eq_true rfl) dX1_hears_50 ?_
    exact r_vretH hκ hf h dX1_hears_53
  · replace h := (bte_i h).1 h10
    refine r_aload_n hκ 1 rfl rfl dX1_hears_28 ?_
    obtain ⟨h17, h⟩ := bck_i h
    refine r_get hκ (t := 1) (k := 0) (r := 66) h17 rfl in_X1 (by decide) rfl q539 (Or.inl rfl) dX1_hears_29 ?_
    refine r_iload_n hκ 2 rfl rfl dX1_hears_32 ?_
    obtain ⟨⟨h18, h19⟩, h⟩ := bck_i h
    refine r_aald hκ (t := 7) (by decide) h18 h19 dX1_hears_33 ?_
    obtain ⟨h20, h⟩ := bck_i h
    obtain ⟨s3, v3, h21, h⟩ := bcl_i h
    refine r_callV hκ (n' := 0) (index := 102) (w_X9_hearsOwn Γ0 l0 h21) (lw_V q2552 q2553 q2554 q141 q2555) (by decide +kernel) (t := 7) h20 rfl rfl (by decide) rfl (Nat.le_of_ble_eq_true rfl) dX1_hears_34 ?_
    refine r_goto hκ (tgt := 53) (by decide) dX1_hears_37 ?_
    exact r_vretH hκ hf h dX1_hears_53
/-- EditsMeet$Pile.size()I -/
def F_X10_size (s0 : bS) (a0 : Int) : Option (bS × Int) :=
  bck (bg s0 0 a0 0 = 9) <|
  bck (bg s0 0 (bg s0 202 a0 0) 0 = 22) <|
  bcl (F_J12_size s0 (bg s0 202 a0 0)) fun s1 v1 =>
  some (s1, v1)
set_option maxHeartbeats 4000000 in
set_option maxRecDepth 100000 in
theorem w_X10_size (Γ0 : bG) (l0 : Launch) {s0 st' : bS} {v a0 : Int} (h : F_X10_size s0 a0 = some (st', v)) : bCt Γ0 l0 yX10_size cX10_size 1 (some .int) 1 20 [(2, a0)] s0 st' (some (0, v)) := by
  refine b_ent (own := RX10) (by decide +kernel) rfl (Nat.le_of_ble_eq_true rfl) (L := [(0, (2, a0))]) rfl ?_
  intro κ hκ hi hf
  unfold F_X10_size at h
  refine r_aload_n hκ 0 rfl rfl dX10_size_0 ?_
  obtain ⟨h1, h⟩ := bck_i h
  refine r_get hκ (t := 8) (k := 0) (r := 202) h1 rfl in_X10 (by decide) rfl q475 (Or.inl rfl) dX10_size_1 ?_
  obtain ⟨h2, h⟩ := bck_i h
  obtain ⟨s1, v1, h3, h⟩ := bcl_i h
  refine r_callV hκ (n' := 0) (index := 68) (w_J12_size Γ0 l0 h3) (lw_V q2284 q1693 q3603 q144 q1694) (by decide +kernel) (t := 21) h2 rfl rfl (by decide) rfl (Nat.le_of_ble_eq_true rfl) dX10_size_4 ?_
  exact r_iretH hκ hf h (nar_int _) dX10_size_7
/-- EditsMeet$Pile.latest()LEditsMeet$Edit; -/
def F_X10_latest (s0 : bS) (a0 : Int) : Option (bS × Int) :=
  bck (bg s0 0 a0 0 = 9) <|
  bck (bg s0 0 (bg s0 202 a0 0) 0 = 22) <|
  bcl (F_J8_isEmpty s0 (bg s0 202 a0 0)) fun s1 v1 =>
  bte (i32 v1 = 0)
  (bck (bg s1 0 a0 0 = 9) <|
  bck (bg s1 0 (bg s1 202 a0 0) 0 = 22) <|
  bcl (F_J12_getLast s1 (bg s1 202 a0 0)) fun s2 v2 =>
  bck (v2 < 0 ∨ bg s2 0 v2 0 = 7) <|
  some (s2, v2))
  (some (s1, (-1)))
set_option maxHeartbeats 4000000 in
set_option maxRecDepth 100000 in
theorem w_X10_latest (Γ0 : bG) (l0 : Launch) {s0 st' : bS} {v a0 : Int} (h : F_X10_latest s0 a0 = some (st', v)) : bCt Γ0 l0 yX10_latest cX10_latest 1 (some (.object "EditsMeet$Edit")) 2 40 [(2, a0)] s0 st' (some (2, v)) := by
  refine b_ent (own := RX10) (by decide +kernel) rfl (Nat.le_of_ble_eq_true rfl) (L := [(0, (2, a0))]) rfl ?_
  intro κ hκ hi hf
  unfold F_X10_latest at h
  refine r_aload_n hκ 0 rfl rfl dX10_latest_0 ?_
  obtain ⟨h1, h⟩ := bck_i h
  refine r_get hκ (t := 8) (k := 0) (r := 202) h1 rfl in_X10 (by decide) rfl q475 (Or.inl rfl) dX10_latest_1 ?_
  obtain ⟨h2, h⟩ := bck_i h
  obtain ⟨s1, v1, h3, h⟩ := bcl_i h
  refine r_callU hκ (index := 72) (C := "java/util/LinkedList") (owner := "java/util/AbstractCollection") (n' := 0) (w_J8_isEmpty Γ0 l0 h3) (fun R s args hts hRR => va_cwU 0 hts (lw_app (lw_l5 q2649 q2650 q2652 q2653 q132) (lw_meth q2654)) rfl rfl rfl rfl (by decide +kernel) hRR) (t := 21) h2 rfl rfl (by decide) rfl (Nat.le_of_ble_eq_true rfl) dX10_latest_4 ?_
  refine r_if_eq hκ (tgt := 14) (by decide) dX10_latest_7 (fun h4 => ?_) (fun h4 => ?_)
  · replace h := (bte_i h).1 h4
    refine r_aload_n hκ 0 rfl rfl dX10_latest_14 ?_
    obtain ⟨h5, h⟩ := bck_i h
    refine r_get hκ (t := 8) (k := 0) (r := 202) h5 rfl in_X10 (by decide) rfl q475 (Or.inl rfl) dX10_latest_15 ?_
    obtain ⟨h6, h⟩ := bck_i h
    obtain ⟨s2, v2, h7, h⟩ := bcl_i h
    refine r_callV hκ (n' := 0) (index := 73) (w_J12_getLast Γ0 l0 h7) (lw_V q2656 q2657 q2658 q144 q2659) (by decide +kernel) (t := 21) h6 rfl rfl (by decide) rfl (Nat.le_of_ble_eq_true rfl) dX10_latest_18 ?_
    obtain ⟨h8, h⟩ := bck_i h
    refine r_cast hκ q2293 (Or.elim h8 (fun h8 => Or.inl h8) (fun h8 => Or.inr ⟨6, _, h8, rfl, Or.inl rfl⟩)) dX10_latest_21 ?_
    exact r_aretH hκ hf h rt_o dX10_latest_24
  · replace h := (bte_i h).2 h4
    refine r_null hκ dX10_latest_10 ?_
    refine r_goto hκ (tgt := 24) (by decide) dX10_latest_11 ?_
    exact r_aretH hκ hf h rt_o dX10_latest_24
/-- EditsMeet$Pile.takes()LEditsMeet$Edit; -/
def F_X10_takes (s0 : bS) (a0 : Int) : Option (bS × Int) :=
  bck (bg s0 0 a0 0 = 9) <|
  bck (bg s0 0 (bg s0 202 a0 0) 0 = 22) <|
  bcl (F_J12_removeLast s0 (bg s0 202 a0 0)) fun s1 v1 =>
  bck (v1 < 0 ∨ bg s1 0 v1 0 = 7) <|
  bck (bg s1 0 a0 0 = 9) <|
  bck (bg s1 0 (bg s1 206 a0 0) 0 = 21) <|
  bcl (F_J10_add s1 (bg s1 206 a0 0) v1) fun s2 v2 =>
  bck (bg s2 0 v1 0 = 7) <|
  bcl (F_X8_copied s2 v1) fun s3 v3 =>
  some (s3, v3)
set_option maxHeartbeats 4000000 in
set_option maxRecDepth 100000 in
theorem w_X10_takes (Γ0 : bG) (l0 : Launch) {s0 st' : bS} {v a0 : Int} (h : F_X10_takes s0 a0 = some (st', v)) : bCt Γ0 l0 yX10_takes cX10_takes 2 (some (.object "EditsMeet$Edit")) 9 213 [(2, a0)] s0 st' (some (2, v)) := by
  refine b_ent (own := RX10) (by decide +kernel) rfl (Nat.le_of_ble_eq_true rfl) (L := [(0, (2, a0))]) rfl ?_
  intro κ hκ hi hf
  unfold F_X10_takes at h
  refine r_aload_n hκ 0 rfl rfl dX10_takes_0 ?_
  obtain ⟨h1, h⟩ := bck_i h
  refine r_get hκ (t := 8) (k := 0) (r := 202) h1 rfl in_X10 (by decide) rfl q475 (Or.inl rfl) dX10_takes_1 ?_
  obtain ⟨h2, h⟩ := bck_i h
  obtain ⟨s1, v1, h3, h⟩ := bcl_i h
  refine r_callV hκ (n' := 0) (index := 76) (w_J12_removeLast Γ0 l0 h3) (lw_V q2664 q2665 q2666 q144 q2667) (by decide +kernel) (t := 21) h2 rfl rfl (by decide) rfl (Nat.le_of_ble_eq_true rfl) dX10_takes_4 ?_
  obtain ⟨h4, h⟩ := bck_i h
  refine r_cast hκ q2293 (Or.elim h4 (fun h4 => Or.inl h4) (fun h4 => Or.inr ⟨6, _, h4, rfl, Or.inl rfl⟩)) dX10_takes_7 ?_
  refine r_astore_n hκ (L2 := [(1, (2, v1)), (0, (2, a0))]) (by decide) rfl rfl dX10_takes_10 ?_
  refine r_aload_n hκ 1 rfl rfl dX10_takes_11 ?_
  obtain ⟨h5, h⟩ := bck_i h
  refine r_get hκ (t := 8) (k := 1) (r := 206) h5 rfl in_X10 (by decide) rfl q476 (Or.inl rfl) dX10_takes_12 ?_
  refine r_aload_n hκ 0 rfl rfl dX10_takes_15 ?_
  obtain ⟨h6, h⟩ := bck_i h
  obtain ⟨s2, v2, h7, h⟩ := bcl_i h
  refine r_callV hκ (n' := 1) (index := 79) (w_J10_add Γ0 l0 h7) (lw_V q2672 q1420 q1421 q134 q1422) (by decide +kernel) (t := 20) h6 rfl rfl (by decide) rfl (Nat.le_of_ble_eq_true rfl) dX10_takes_16 ?_
  refine r_pop hκ (bd_cat0k _) dX10_takes_19 ?_
  refine r_aload_n hκ 0 rfl rfl dX10_takes_20 ?_
  obtain ⟨h8, h⟩ := bck_i h
  obtain ⟨s3, v3, h9, h⟩ := bcl_i h
  refine r_callV hκ (n' := 0) (index := 83) (w_X8_copied Γ0 l0 h9) (lw_V q2673 q2505 q2506 q140 q2507) (by decide +kernel) (t := 6) h8 rfl rfl (by decide) rfl (Nat.le_of_ble_eq_true rfl) dX10_takes_21 ?_
  exact r_aretH hκ hf h rt_o dX10_takes_24
/-- EditsMeet$Client.sent()LEditsMeet$Edit; -/
def F_X9_sent (s0 : bS) (a0 : Int) : Option (bS × Int) :=
  bck (bg s0 0 a0 0 = 8) <|
  bte (i32 (bg s0 172 a0 0) = 0)
  (some (s0, (-1)))
  (bck (bg s0 0 a0 0 = 8) <|
  some (s0, (bg s0 170 a0 0)))
set_option maxHeartbeats 4000000 in
set_option maxRecDepth 100000 in
theorem w_X9_sent (Γ0 : bG) (l0 : Launch) {s0 st' : bS} {v a0 : Int} (h : F_X9_sent s0 a0 = some (st', v)) : bCt Γ0 l0 yX9_sent cX9_sent 1 (some (.object "EditsMeet$Edit")) 0 0 [(2, a0)] s0 st' (some (2, v)) := by
  refine b_ent (own := RX9) (by decide +kernel) rfl (Nat.le_of_ble_eq_true rfl) (L := [(0, (2, a0))]) rfl ?_
  intro κ hκ hi hf
  unfold F_X9_sent at h
  refine r_aload_n hκ 0 rfl rfl dX9_sent_0 ?_
  obtain ⟨h1, h⟩ := bck_i h
  refine r_get hκ (t := 7) (k := 7) (r := 172) h1 rfl in_X9 (by decide) rfl q498 (Or.inl rfl) dX9_sent_1 ?_
  refine r_if_eq hκ (tgt := 14) (by decide) dX9_sent_4 (fun h2 => ?_) (fun h2 => ?_)
  · replace h := (bte_i h).1 h2
    refine r_null hκ dX9_sent_14 ?_
    exact r_aretH hκ hf h rt_o dX9_sent_15
  · replace h := (bte_i h).2 h2
    refine r_aload_n hκ 0 rfl rfl dX9_sent_7 ?_
    obtain ⟨h3, h⟩ := bck_i h
    refine r_get hκ (t := 7) (k := 6) (r := 170) h3 rfl in_X9 (by decide) rfl q497 (Or.inl rfl) dX9_sent_8 ?_
    refine r_goto hκ (tgt := 15) (by decide) dX9_sent_11 ?_
    exact r_aretH hκ hf h rt_o dX9_sent_15
/-- EditsMeet$Client.waits()LEditsMeet$Edit; -/
def F_X9_waits (s0 : bS) (a0 : Int) : Option (bS × Int) :=
  bck (bg s0 0 a0 0 = 8) <|
  bte (i32 (bg s0 196 a0 0) = 0)
  (some (s0, (-1)))
  (bck (bg s0 0 a0 0 = 8) <|
  some (s0, (bg s0 190 a0 0)))
set_option maxHeartbeats 4000000 in
set_option maxRecDepth 100000 in
theorem w_X9_waits (Γ0 : bG) (l0 : Launch) {s0 st' : bS} {v a0 : Int} (h : F_X9_waits s0 a0 = some (st', v)) : bCt Γ0 l0 yX9_waits cX9_waits 1 (some (.object "EditsMeet$Edit")) 0 0 [(2, a0)] s0 st' (some (2, v)) := by
  refine b_ent (own := RX9) (by decide +kernel) rfl (Nat.le_of_ble_eq_true rfl) (L := [(0, (2, a0))]) rfl ?_
  intro κ hκ hi hf
  unfold F_X9_waits at h
  refine r_aload_n hκ 0 rfl rfl dX9_waits_0 ?_
  obtain ⟨h1, h⟩ := bck_i h
  refine r_get hκ (t := 7) (k := 13) (r := 196) h1 rfl in_X9 (by decide) rfl q509 (Or.inl rfl) dX9_waits_1 ?_
  refine r_if_eq hκ (tgt := 14) (by decide) dX9_waits_4 (fun h2 => ?_) (fun h2 => ?_)
  · replace h := (bte_i h).1 h2
    refine r_null hκ dX9_waits_14 ?_
    exact r_aretH hκ hf h rt_o dX9_waits_15
  · replace h := (bte_i h).2 h2
    refine r_aload_n hκ 0 rfl rfl dX9_waits_7 ?_
    obtain ⟨h3, h⟩ := bck_i h
    refine r_get hκ (t := 7) (k := 11) (r := 190) h3 rfl in_X9 (by decide) rfl q507 (Or.inl rfl) dX9_waits_8 ?_
    refine r_goto hκ (tgt := 15) (by decide) dX9_waits_11 ?_
    exact r_aretH hκ hf h rt_o dX9_waits_15
/-- EditsMeet$Text.letter(I)I -/
def F_X2_letter (s0 : bS) (a0 a1 : Int) : Option (bS × Int) :=
  bck (bg s0 0 a0 0 = 3) <|
  bck (bg s0 0 (bg s0 86 a0 0) 0 = 19) <|
  bcl (F_J1_charAt s0 (bg s0 86 a0 0) a1) fun s1 v1 =>
  some (s1, (v1 - 97))
set_option maxHeartbeats 4000000 in
set_option maxRecDepth 100000 in
theorem w_X2_letter (Γ0 : bG) (l0 : Launch) {s0 st' : bS} {v a0 a1 : Int} (h : F_X2_letter s0 a0 a1 = some (st', v)) : bCt Γ0 l0 yX2_letter cX2_letter 2 (some .int) 4 88 [(2, a0), (0, a1)] s0 st' (some (0, v)) := by
  refine b_ent (own := RX2) (by decide +kernel) rfl (Nat.le_of_ble_eq_true rfl) (L := [(0, (2, a0)), (1, (0, a1))]) rfl ?_
  intro κ hκ hi hf
  unfold F_X2_letter at h
  refine r_aload_n hκ 0 rfl rfl dX2_letter_0 ?_
  obtain ⟨h1, h⟩ := bck_i h
  refine r_get hκ (t := 2) (k := 0) (r := 86) h1 rfl in_X2 (by decide) rfl q316 (Or.inl rfl) dX2_letter_1 ?_
  refine r_iload_n hκ 1 rfl rfl dX2_letter_4 ?_
  obtain ⟨h2, h⟩ := bck_i h
  obtain ⟨s1, v1, h3, h⟩ := bcl_i h
  refine r_callV hκ (n' := 1) (index := 33) (w_J1_charAt Γ0 l0 h3) (lw_V q2210 q2034 q3602 q125 q2036) (by decide +kernel) (t := 18) h2 rfl rfl (by decide) rfl (Nat.le_of_ble_eq_true rfl) dX2_letter_5 ?_
  refine r_bipush hκ (by decide) dX2_letter_8 ?_
  refine r_isub hκ dX2_letter_10 ?_
  exact r_iretH hκ hf h (nar_int _) dX2_letter_11
/-- EditsMeet.bits(I)I -/
def F_X0_bits (s0 : bS) (a0 : Int) : Option (bS × Int) :=
  bcl (F_J21_bitCount s0 a0) fun s1 v1 =>
  some (s1, v1)
set_option maxHeartbeats 4000000 in
set_option maxRecDepth 100000 in
theorem w_X0_bits (Γ0 : bG) (l0 : Launch) {s0 st' : bS} {v a0 : Int} (h : F_X0_bits s0 a0 = some (st', v)) : bCt Γ0 l0 yX0_bits cX0_bits 1 (some .int) 1 20 [(0, a0)] s0 st' (some (0, v)) := by
  refine b_ent (own := RX0) (by decide +kernel) rfl (Nat.le_of_ble_eq_true rfl) (L := [(0, (0, a0))]) rfl ?_
  intro κ hκ hi hf
  unfold F_X0_bits at h
  refine r_iload_n hκ 0 rfl rfl dX0_bits_0 ?_
  obtain ⟨s1, v1, h1, h⟩ := bcl_i h
  refine r_callS hκ (n' := 1) (index := 1) (w_J21_bitCount Γ0 l0 h1) (lw_S q953 q954 q158 q955) (by decide +kernel) rfl (by decide) rfl (Nat.le_of_ble_eq_true rfl) dX0_bits_1 ?_
  exact r_iretH hκ hf h (nar_int _) dX0_bits_4
/-- EditsMeet$Keep.turns()I -/
def F_X7_turns (s0 : bS) (a0 : Int) : Option (bS × Int) :=
  bck (bg s0 0 a0 0 = 6) <|
  bcl (F_X5_on s0 a0) fun s1 v1 =>
  bcl (F_X0_bits s1 v1) fun s2 v2 =>
  bck (bg s2 0 a0 0 = 6) <|
  bcl (F_X5_off s2 a0) fun s3 v3 =>
  bcl (F_X0_bits s3 v3) fun s4 v4 =>
  some (s4, (v2 + v4))
set_option maxHeartbeats 4000000 in
set_option maxRecDepth 100000 in
theorem w_X7_turns (Γ0 : bG) (l0 : Launch) {s0 st' : bS} {v a0 : Int} (h : F_X7_turns s0 a0 = some (st', v)) : bCt Γ0 l0 yX7_turns cX7_turns 1 (some .int) 2 40 [(2, a0)] s0 st' (some (0, v)) := by
  refine b_ent (own := RX7) (by decide +kernel) rfl (Nat.le_of_ble_eq_true rfl) (L := [(0, (2, a0))]) rfl ?_
  intro κ hκ hi hf
  unfold F_X7_turns at h
  refine r_aload_n hκ 0 rfl rfl dX7_turns_0 ?_
  obtain ⟨h1, h⟩ := bck_i h
  obtain ⟨s1, v1, h2, h⟩ := bcl_i h
  refine r_callVD hκ (n' := 0) (index := 28) (C := "EditsMeet$Keep") (owner := "EditsMeet$Part") (w_X5_on Γ0 l0 h2) (lw_meth q949) (List.mem_of_getElem? (i := 0) rfl) (List.mem_of_getElem? (i := 1) rfl) q947 q137 (by decide +kernel) (by decide +kernel) (t := 5) h1 rfl rfl (by decide) rfl (Nat.le_of_ble_eq_true rfl) dX7_turns_1 ?_
  obtain ⟨s2, v2, h3, h⟩ := bcl_i h
  refine r_callSN hκ (n' := 1) (host := "EditsMeet") (index := 31) (w_X0_bits Γ0 l0 h3) (lw_meth q952) (by decide +kernel) q121 (by decide +kernel) q951 rfl (by decide) rfl (Nat.le_of_ble_eq_true rfl) dX7_turns_4 ?_
  refine r_aload_n hκ 0 rfl rfl dX7_turns_7 ?_
  obtain ⟨h4, h⟩ := bck_i h
  obtain ⟨s3, v3, h5, h⟩ := bcl_i h
  refine r_callVD hκ (n' := 0) (index := 37) (C := "EditsMeet$Keep") (owner := "EditsMeet$Part") (w_X5_off Γ0 l0 h5) (lw_meth q966) (List.mem_of_getElem? (i := 2) rfl) (List.mem_of_getElem? (i := 3) rfl) q964 q137 (by decide +kernel) (by decide +kernel) (t := 5) h4 rfl rfl (by decide) rfl (Nat.le_of_ble_eq_true rfl) dX7_turns_8 ?_
  obtain ⟨s4, v4, h6, h⟩ := bcl_i h
  refine r_callSN hκ (n' := 1) (host := "EditsMeet") (index := 31) (w_X0_bits Γ0 l0 h6) (lw_meth q952) (by decide +kernel) q121 (by decide +kernel) q951 rfl (by decide) rfl (Nat.le_of_ble_eq_true rfl) dX7_turns_11 ?_
  refine r_iadd hκ dX7_turns_14 ?_
  exact r_iretH hκ hf h (nar_int _) dX7_turns_15
/-- EditsMeet$Text.isPlace(I)Z -/
def F_X2_isPlace (s0 : bS) (a0 a1 : Int) : Option (bS × Int) :=
  bck (bg s0 0 a0 0 = 3) <|
  bcl (F_X2_length s0 a0) fun s1 v1 =>
  bcl (F_X0_isIn s1 a1 0 (v1 - 1)) fun s2 v2 =>
  bck (v2 = 0 ∨ v2 = 1) <|
  some (s2, v2)
set_option maxHeartbeats 4000000 in
set_option maxRecDepth 100000 in
theorem w_X2_isPlace (Γ0 : bG) (l0 : Launch) {s0 st' : bS} {v a0 a1 : Int} (h : F_X2_isPlace s0 a0 a1 = some (st', v)) : bCt Γ0 l0 yX2_isPlace cX2_isPlace 2 (some .boolean) 3 60 [(2, a0), (0, a1)] s0 st' (some (0, v)) := by
  refine b_ent (own := RX2) (by decide +kernel) rfl (Nat.le_of_ble_eq_true rfl) (L := [(0, (2, a0)), (1, (0, a1))]) rfl ?_
  intro κ hκ hi hf
  unfold F_X2_isPlace at h
  refine r_iload_n hκ 1 rfl rfl dX2_isPlace_0 ?_
  refine r_iconst hκ dX2_isPlace_1 ?_
  refine r_aload_n hκ 0 rfl rfl dX2_isPlace_2 ?_
  obtain ⟨h1, h⟩ := bck_i h
  obtain ⟨s1, v1, h2, h⟩ := bcl_i h
  refine r_callV hκ (n' := 0) (index := 37) (w_X2_length Γ0 l0 h2) (lw_V q2445 q2167 q2168 q123 q2169) (by decide +kernel) (t := 2) h1 rfl rfl (by decide) rfl (Nat.le_of_ble_eq_true rfl) dX2_isPlace_3 ?_
  refine r_iconst hκ dX2_isPlace_6 ?_
  refine r_isub hκ dX2_isPlace_7 ?_
  obtain ⟨s2, v2, h3, h⟩ := bcl_i h
  refine r_callSN hκ (n' := 3) (host := "EditsMeet") (index := 38) (w_X0_isIn Γ0 l0 h3) (lw_meth q626) (by decide +kernel) q121 (by decide +kernel) q625 rfl (by decide) rfl (Nat.le_of_ble_eq_true rfl) dX2_isPlace_8 ?_
  obtain ⟨h4, h⟩ := bck_i h
  exact r_iretH hκ hf h (nar_bool h4) dX2_isPlace_11
/-- EditsMeet$Text.differs(LEditsMeet$Text;)I -/
def F_X2_differs_r (b : Nat) (x0 x1 x2 x3 : Int) (s0 : bS) : Option (bS × Int) :=
  match b with
  | 0 =>
    bte (i32 x2 ≤ i32 x3)
    (bck (bg s0 0 x0 0 = 3) <|
    bcl (F_X2_length s0 x0) fun s3 v3 =>
    bck (bg s3 0 x1 0 = 3) <|
    bcl (F_X2_length s3 x1) fun s4 v4 =>
    bte (i32 v3 = i32 v4)
    (some (s4, (-1)))
    (some (s4, x2)))
    (bck (bg s0 0 x0 0 = 3) <|
    bcl (F_X2_letter s0 x0 x3) fun s5 v5 =>
    bck (bg s5 0 x1 0 = 3) <|
    bcl (F_X2_letter s5 x1 x3) fun s6 v6 =>
    bte (i32 v5 = i32 v6)
    (bck (bg s6 0 x0 0 = 3) <|
    bcl (F_X2_mark s6 x0 x3) fun s7 v7 =>
    bck (bg s7 0 x1 0 = 3) <|
    bcl (F_X2_mark s7 x1 x3) fun s8 v8 =>
    bte (i32 v7 = i32 v8)
    (F_X2_differs_r 0 x0 x1 x2 (x3 + 1) s8)
    (some (s8, x3)))
    (some (s6, x3)))
  | _ => none
partial_fixpoint
def F_X2_differs (s0 : bS) (a0 a1 : Int) : Option (bS × Int) :=
  bck (bg s0 0 a0 0 = 3) <|
  bcl (F_X2_length s0 a0) fun s1 v1 =>
  bck (bg s1 0 a1 0 = 3) <|
  bcl (F_X2_length s1 a1) fun s2 v2 =>
  F_X2_differs_r 0 a0 a1 (b_min v1 v2) 0 s2
set_option maxHeartbeats 4000000 in
set_option maxRecDepth 100000 in
set_option synthInstance.maxHeartbeats 4000000 in
theorem w_X2_differs_r {Γ0 : bG} {l0 : Launch} {κ : bK} {st' : bS} {v : Int} (hκ : bOk κ Γ0 l0 cX2_differs RX2 4 5 109) (hi : bIn κ yX2_differs) (hf : bFin κ (some .int) st' (some (0, v))) (b : Nat) (x0 x1 x2 x3 : Int) (s0 : bS) (h : F_X2_differs_r b x0 x1 x2 x3 s0 = some (st', v)) : match (generalizing := false) b with | 0 => bJ κ s0 14 [(0, (2, x0)), (1, (2, x1)), (2, (0, x2)), (3, (0, x3))] [] | _ => True := by
  refine F_X2_differs_r.partial_correctness x0 x1 x2 (fun b x3 s0 r => r = (st', v) → match (generalizing := false) b with | 0 => bJ κ s0 14 [(0, (2, x0)), (1, (2, x1)), (2, (0, x2)), (3, (0, x3))] [] | _ => True) ?_ b x3 s0 _ h rfl
  intro f' ih b x3 s0 r h hr
  subst hr
  match b, h with
  | 0, h =>
      refine r_iload_n hκ 3 rfl rfl dX2_differs_14 ?_
      refine r_iload_n hκ 2 rfl rfl dX2_differs_15 ?_
      refine r_icmp_ge hκ (tgt := 53) (by decide) dX2_differs_16 (fun h5 => ?_) (fun h5 => ?_)
      · replace h := (bte_i h).1 h5
        refine r_aload_n hκ 0 rfl rfl dX2_differs_53 ?_
        obtain ⟨h6, h⟩ := bck_i h
        obtain ⟨s3, v3, h7, h⟩ := bcl_i h
        refine r_callV hκ (n' := 0) (index := 37) (w_X2_length Γ0 l0 h7) (lw_V q2445 q2167 q2168 q123 q2169) (by decide +kernel) (t := 2) h6 rfl rfl (by decide) rfl (Nat.le_of_ble_eq_true rfl) dX2_differs_54 ?_
        refine r_aload_n hκ 1 rfl rfl dX2_differs_57 ?_
        obtain ⟨h8, h⟩ := bck_i h
        obtain ⟨s4, v4, h9, h⟩ := bcl_i h
        refine r_callV hκ (n' := 0) (index := 37) (w_X2_length Γ0 l0 h9) (lw_V q2445 q2167 q2168 q123 q2169) (by decide +kernel) (t := 2) h8 rfl rfl (by decide) rfl (Nat.le_of_ble_eq_true rfl) dX2_differs_58 ?_
        refine r_icmp_ne hκ (tgt := 68) (by decide) dX2_differs_61 (fun h10 => ?_) (fun h10 => ?_)
        · replace h := (bte_i h).2 h10
          refine r_iload_n hκ 2 rfl rfl dX2_differs_68 ?_
          exact r_iretH hκ hf h (nar_int _) dX2_differs_69
        · replace h := (bte_i h).1 h10
          refine r_iconst hκ dX2_differs_64 ?_
          refine r_goto hκ (tgt := 69) (by decide) dX2_differs_65 ?_
          exact r_iretH hκ hf h (nar_int _) dX2_differs_69
      · replace h := (bte_i h).2 h5
        refine r_aload_n hκ 0 rfl rfl dX2_differs_19 ?_
        refine r_iload_n hκ 3 rfl rfl dX2_differs_20 ?_
        obtain ⟨h11, h⟩ := bck_i h
        obtain ⟨s5, v5, h12, h⟩ := bcl_i h
        refine r_callV hκ (n' := 1) (index := 128) (w_X2_letter Γ0 l0 h12) (lw_V q2753 q2741 q2742 q123 q2743) (by decide +kernel) (t := 2) h11 rfl rfl (by decide) rfl (Nat.le_of_ble_eq_true rfl) dX2_differs_21 ?_
        refine r_aload_n hκ 1 rfl rfl dX2_differs_24 ?_
        refine r_iload_n hκ 3 rfl rfl dX2_differs_25 ?_
        obtain ⟨h13, h⟩ := bck_i h
        obtain ⟨s6, v6, h14, h⟩ := bcl_i h
        refine r_callV hκ (n' := 1) (index := 128) (w_X2_letter Γ0 l0 h14) (lw_V q2753 q2741 q2742 q123 q2743) (by decide +kernel) (t := 2) h13 rfl rfl (by decide) rfl (Nat.le_of_ble_eq_true rfl) dX2_differs_26 ?_
        refine r_icmp_ne hκ (tgt := 45) (by decide) dX2_differs_29 (fun h15 => ?_) (fun h15 => ?_)
        · replace h := (bte_i h).2 h15
          refine r_iload_n hκ 3 rfl rfl dX2_differs_45 ?_
          exact r_iretH hκ hf h (nar_int _) dX2_differs_46
        · replace h := (bte_i h).1 h15
          refine r_aload_n hκ 0 rfl rfl dX2_differs_32 ?_
          refine r_iload_n hκ 3 rfl rfl dX2_differs_33 ?_
          obtain ⟨h16, h⟩ := bck_i h
          obtain ⟨s7, v7, h17, h⟩ := bcl_i h
          refine r_callV hκ (n' := 1) (index := 75) (w_X2_mark Γ0 l0 h17) (lw_V q2206 q2207 q2208 q123 q2209) (by decide +kernel) (t := 2) h16 rfl rfl (by decide) rfl (Nat.le_of_ble_eq_true rfl) dX2_differs_34 ?_
          refine r_aload_n hκ 1 rfl rfl dX2_differs_37 ?_
          refine r_iload_n hκ 3 rfl rfl dX2_differs_38 ?_
          obtain ⟨h18, h⟩ := bck_i h
          obtain ⟨s8, v8, h19, h⟩ := bcl_i h
          refine r_callV hκ (n' := 1) (index := 75) (w_X2_mark Γ0 l0 h19) (lw_V q2206 q2207 q2208 q123 q2209) (by decide +kernel) (t := 2) h18 rfl rfl (by decide) rfl (Nat.le_of_ble_eq_true rfl) dX2_differs_39 ?_
          refine r_icmp_eq hκ (tgt := 47) (by decide) dX2_differs_42 (fun h20 => ?_) (fun h20 => ?_)
          · replace h := (bte_i h).1 h20
            refine r_iinc hκ (L2 := [(3, (0, (x3 + 1))), (0, (2, x0)), (1, (2, x1)), (2, (0, x2))]) 3 rfl (by decide) rfl dX2_differs_47 ?_
            refine r_goto hκ (tgt := 14) (by decide) dX2_differs_50 ?_
            exact r_sub [1, 2, 3, 0] rfl (ih 0 _ _ _ h rfl)
          · replace h := (bte_i h).2 h20
            refine r_iload_n hκ 3 rfl rfl dX2_differs_45 ?_
            exact r_iretH hκ hf h (nar_int _) dX2_differs_46
  | b + 1, h => trivial
set_option maxHeartbeats 4000000 in
set_option maxRecDepth 100000 in
theorem w_X2_differs (Γ0 : bG) (l0 : Launch) {s0 st' : bS} {v a0 a1 : Int} (h : F_X2_differs s0 a0 a1 = some (st', v)) : bCt Γ0 l0 yX2_differs cX2_differs 4 (some .int) 5 109 [(2, a0), (2, a1)] s0 st' (some (0, v)) := by
  refine b_ent (own := RX2) (by decide +kernel) rfl (Nat.le_of_ble_eq_true rfl) (L := [(0, (2, a0)), (1, (2, a1))]) rfl ?_
  intro κ hκ hi hf
  unfold F_X2_differs at h
  refine r_aload_n hκ 0 rfl rfl dX2_differs_0 ?_
  obtain ⟨h1, h⟩ := bck_i h
  obtain ⟨s1, v1, h2, h⟩ := bcl_i h
  refine r_callV hκ (n' := 0) (index := 37) (w_X2_length Γ0 l0 h2) (lw_V q2445 q2167 q2168 q123 q2169) (by decide +kernel) (t := 2) h1 rfl rfl (by decide) rfl (Nat.le_of_ble_eq_true rfl) dX2_differs_1 ?_
  refine r_aload_n hκ 1 rfl rfl dX2_differs_4 ?_
  obtain ⟨h3, h⟩ := bck_i h
  obtain ⟨s2, v2, h4, h⟩ := bcl_i h
  refine r_callV hκ (n' := 0) (index := 37) (w_X2_length Γ0 l0 h4) (lw_V q2445 q2167 q2168 q123 q2169) (by decide +kernel) (t := 2) h3 rfl rfl (by decide) rfl (Nat.le_of_ble_eq_true rfl) dX2_differs_5 ?_
  refine r_mmin hκ q2752 q1055 q161 q1056 (by decide) (Nat.le_of_ble_eq_true rfl) dX2_differs_8 ?_
  refine r_istore_n hκ (L2 := [(2, (0, (b_min v1 v2))), (0, (2, a0)), (1, (2, a1))]) (by decide) rfl rfl dX2_differs_11 ?_
  refine r_iconst hκ dX2_differs_12 ?_
  refine r_istore_n hκ (L2 := [(3, (0, 0)), (2, (0, (b_min v1 v2))), (0, (2, a0)), (1, (2, a1))]) (by decide) rfl rfl dX2_differs_13 ?_
  exact r_sub [2, 3, 1, 0] rfl (w_X2_differs_r hκ hi hf 0 _ _ _ _ _ h)
/-- EditsMeet$World.draw(I)I -/
def F_X1_draw (s0 : bS) (a0 a1 : Int) : Option (bS × Int) :=
  bck (bg s0 0 a0 0 = 2) <|
  bck ((bg s0 0 a0 0 = 2)) <|
  bst (bw s0 80 a0 0 (((bg s0 80 a0 0) * 1103515245) + 12345)) fun s1 =>
  bck (bg s1 0 a0 0 = 2) <|
  bck (¬ i32 a1 = 0) <|
  some (s1, (b_irem (b_iushr (bg s1 80 a0 0) 16) a1))
set_option maxHeartbeats 4000000 in
set_option maxRecDepth 100000 in
theorem w_X1_draw (Γ0 : bG) (l0 : Launch) {s0 st' : bS} {v a0 a1 : Int} (h : F_X1_draw s0 a0 a1 = some (st', v)) : bCt Γ0 l0 yX1_draw cX1_draw 2 (some .int) 0 0 [(2, a0), (0, a1)] s0 st' (some (0, v)) := by
  refine b_ent (own := RX1) (by decide +kernel) rfl (Nat.le_of_ble_eq_true rfl) (L := [(0, (2, a0)), (1, (0, a1))]) rfl ?_
  intro κ hκ hi hf
  unfold F_X1_draw at h
  refine r_aload_n hκ 0 rfl rfl dX1_draw_0 ?_
  refine r_aload_n hκ 0 rfl rfl dX1_draw_1 ?_
  obtain ⟨h1, h⟩ := bck_i h
  refine r_get hκ (t := 1) (k := 4) (r := 80) h1 rfl in_X1 (by decide) rfl q547 (Or.inl rfl) dX1_draw_2 ?_
  refine r_ldci hκ (x := 1103515245) q2784 (by decide) dX1_draw_5 ?_
  refine r_imul hκ dX1_draw_7 ?_
  refine r_sipush hκ (by decide) dX1_draw_8 ?_
  refine r_iadd hκ dX1_draw_11 ?_
  obtain ⟨h2, h⟩ := bck_i h
  refine r_put hκ (t := 1) (k := 4) (r := 80) (ty := .int) tyX1 tyX1_ok nmX1 h2 rfl in_X1 (by decide) rfl q547 (Or.inl rfl) rfl rfl rfl trivial (Or.inl (by decide)) dX1_draw_12 (fun s1 es1 => ?_)
  replace h := bst_i h s1 es1
  refine r_aload_n hκ 0 rfl rfl dX1_draw_15 ?_
  obtain ⟨h3, h⟩ := bck_i h
  refine r_get hκ (t := 1) (k := 4) (r := 80) h3 rfl in_X1 (by decide) rfl q547 (Or.inl rfl) dX1_draw_16 ?_
  refine r_bipush hκ (by decide) dX1_draw_19 ?_
  refine r_iushr hκ dX1_draw_21 ?_
  refine r_iload_n hκ 1 rfl rfl dX1_draw_22 ?_
  obtain ⟨h4, h⟩ := bck_i h
  refine r_irem hκ h4 dX1_draw_23 ?_
  exact r_iretH hκ hf h (nar_int _) dX1_draw_24
/-- EditsMeet$Text.becomes(LEditsMeet$Text;)LEditsMeet$Text; -/
def F_X2_becomes (s0 : bS) (a0 a1 : Int) : Option (bS × Int) :=
  bck (bg s0 0 a0 0 = 3) <|
  bck (bg s0 0 (bg s0 86 a0 0) 0 = 19) <|
  bcl (F_J1_setLength s0 (bg s0 86 a0 0) 0) fun s1 v1 =>
  bck (bg s1 0 a0 0 = 3) <|
  bck (bg s1 0 a1 0 = 3) <|
  bck (bg s1 0 (bg s1 86 a0 0) 0 = 19) <|
  bcl (F_J1_append_4 s1 (bg s1 86 a0 0) (bg s1 86 a1 0)) fun s2 v2 =>
  bck (bg s2 0 a0 0 = 3) <|
  bck (bg s2 0 (bg s2 90 a0 0) 0 = 19) <|
  bcl (F_J1_setLength s2 (bg s2 90 a0 0) 0) fun s3 v3 =>
  bck (bg s3 0 a0 0 = 3) <|
  bck (bg s3 0 a1 0 = 3) <|
  bck (bg s3 0 (bg s3 90 a0 0) 0 = 19) <|
  bcl (F_J1_append_4 s3 (bg s3 90 a0 0) (bg s3 90 a1 0)) fun s4 v4 =>
  some (s4, a0)
set_option maxHeartbeats 4000000 in
set_option maxRecDepth 100000 in
theorem w_X2_becomes (Γ0 : bG) (l0 : Launch) {s0 st' : bS} {v a0 a1 : Int} (h : F_X2_becomes s0 a0 a1 = some (st', v)) : bCt Γ0 l0 yX2_becomes cX2_becomes 2 (some (.object "EditsMeet$Text")) 10 227 [(2, a0), (2, a1)] s0 st' (some (2, v)) := by
  refine b_ent (own := RX2) (by decide +kernel) rfl (Nat.le_of_ble_eq_true rfl) (L := [(0, (2, a0)), (1, (2, a1))]) rfl ?_
  intro κ hκ hi hf
  unfold F_X2_becomes at h
  refine r_aload_n hκ 0 rfl rfl dX2_becomes_0 ?_
  obtain ⟨h1, h⟩ := bck_i h
  refine r_get hκ (t := 2) (k := 0) (r := 86) h1 rfl in_X2 (by decide) rfl q316 (Or.inl rfl) dX2_becomes_1 ?_
  refine r_iconst hκ dX2_becomes_4 ?_
  obtain ⟨h2, h⟩ := bck_i h
  obtain ⟨s1, v1, h3, h⟩ := bcl_i h
  refine r_callV hκ (n' := 1) (index := 21) (w_J1_setLength Γ0 l0 h3) (lw_V q2809 q2810 q2811 q125 q2812) (by decide +kernel) (t := 18) h2 rfl rfl (by decide) rfl (Nat.le_of_ble_eq_true rfl) dX2_becomes_5 ?_
  refine r_aload_n hκ 0 rfl rfl dX2_becomes_8 ?_
  obtain ⟨h4, h⟩ := bck_i h
  refine r_get hκ (t := 2) (k := 0) (r := 86) h4 rfl in_X2 (by decide) rfl q316 (Or.inl rfl) dX2_becomes_9 ?_
  refine r_aload_n hκ 1 rfl rfl dX2_becomes_12 ?_
  obtain ⟨h5, h⟩ := bck_i h
  refine r_get hκ (t := 2) (k := 0) (r := 86) h5 rfl in_X2 (by decide) rfl q316 (Or.inl rfl) dX2_becomes_13 ?_
  obtain ⟨h6, h⟩ := bck_i h
  obtain ⟨s2, v2, h7, h⟩ := bcl_i h
  refine r_callV hκ (n' := 1) (index := 25) (w_J1_append_4 Γ0 l0 h7) (lw_V q2858 q2859 q2860 q125 q2861) (by decide +kernel) (t := 18) h6 rfl rfl (by decide) rfl (Nat.le_of_ble_eq_true rfl) dX2_becomes_16 ?_
  refine r_pop hκ (bd_cat2k _) dX2_becomes_19 ?_
  refine r_aload_n hκ 0 rfl rfl dX2_becomes_20 ?_
  obtain ⟨h8, h⟩ := bck_i h
  refine r_get hκ (t := 2) (k := 1) (r := 90) h8 rfl in_X2 (by decide) rfl q317 (Or.inl rfl) dX2_becomes_21 ?_
  refine r_iconst hκ dX2_becomes_24 ?_
  obtain ⟨h9, h⟩ := bck_i h
  obtain ⟨s3, v3, h10, h⟩ := bcl_i h
  refine r_callV hκ (n' := 1) (index := 21) (w_J1_setLength Γ0 l0 h10) (lw_V q2809 q2810 q2811 q125 q2812) (by decide +kernel) (t := 18) h9 rfl rfl (by decide) rfl (Nat.le_of_ble_eq_true rfl) dX2_becomes_25 ?_
  refine r_aload_n hκ 0 rfl rfl dX2_becomes_28 ?_
  obtain ⟨h11, h⟩ := bck_i h
  refine r_get hκ (t := 2) (k := 1) (r := 90) h11 rfl in_X2 (by decide) rfl q317 (Or.inl rfl) dX2_becomes_29 ?_
  refine r_aload_n hκ 1 rfl rfl dX2_becomes_32 ?_
  obtain ⟨h12, h⟩ := bck_i h
  refine r_get hκ (t := 2) (k := 1) (r := 90) h12 rfl in_X2 (by decide) rfl q317 (Or.inl rfl) dX2_becomes_33 ?_
  obtain ⟨h13, h⟩ := bck_i h
  obtain ⟨s4, v4, h14, h⟩ := bcl_i h
  refine r_callV hκ (n' := 1) (index := 25) (w_J1_append_4 Γ0 l0 h14) (lw_V q2858 q2859 q2860 q125 q2861) (by decide +kernel) (t := 18) h13 rfl rfl (by decide) rfl (Nat.le_of_ble_eq_true rfl) dX2_becomes_36 ?_
  refine r_pop hκ (bd_cat2k _) dX2_becomes_39 ?_
  refine r_aload_n hκ 0 rfl rfl dX2_becomes_40 ?_
  exact r_aretH hκ hf h rt_o dX2_becomes_41
/-- EditsMeet$Pile.becomes(LEditsMeet$Pile;)V -/
def F_X10_becomes_r (b : Nat) (x0 x1 : Int) (s0 : bS) : Option (bS × Int) :=
  match b with
  | 0 =>
    bcl (bte (bg s0 0 x1 0 = 5) (F_X4_hasNext s0 x1) (bte (bg s0 0 x1 0 = 24) (F_J27_hasNext s0 x1) (bte (bg s0 0 x1 0 = 25) (F_J28_hasNext s0 x1) (none)))) fun s3 v3 =>
    bte (i32 v3 = 0)
    (some (s3, 0))
    (bcl (bte (bg s3 0 x1 0 = 5) (F_X4_next s3 x1) (bte (bg s3 0 x1 0 = 24) (F_J27_next s3 x1) (bte (bg s3 0 x1 0 = 25) (F_J28_next s3 x1) (none)))) fun s4 v4 =>
    bck (v4 < 0 ∨ bg s4 0 v4 0 = 7) <|
    bck (bg s4 0 x0 0 = 9) <|
    bck (bg s4 0 x0 0 = 9) <|
    bcl (F_X10_place s4 x0) fun s5 v5 =>
    bck (bg s5 0 v5 0 = 7) <|
    bcl (F_X8_becomes s5 v5 v4) fun s6 v6 =>
    bck (bg s6 0 (bg s4 202 x0 0) 0 = 22) <|
    bcl (F_J12_addLast s6 (bg s4 202 x0 0) v6) fun s7 v7 =>
    F_X10_becomes_r 0 x0 x1 s7)
  | _ => none
partial_fixpoint
def F_X10_becomes (s0 : bS) (a0 a1 : Int) : Option (bS × Int) :=
  bck (bg s0 0 a0 0 = 9) <|
  bcl (F_X10_empties s0 a0) fun s1 v1 =>
  bck (bg s1 0 a1 0 = 9) <|
  bck (bg s1 0 (bg s1 202 a1 0) 0 = 22) <|
  bcl (F_J11_iterator s1 (bg s1 202 a1 0)) fun s2 v2 =>
  F_X10_becomes_r 0 a0 v2 s2
set_option maxHeartbeats 4000000 in
set_option maxRecDepth 100000 in
set_option synthInstance.maxHeartbeats 4000000 in
theorem w_X10_becomes_r {Γ0 : bG} {l0 : Launch} {κ : bK} {st' : bS} {v : Int} (hκ : bOk κ Γ0 l0 cX10_becomes RX10 4 11 256) (hi : bIn κ yX10_becomes) (hf : bFin κ none st' none) (b : Nat) (x0 x1 : Int) (s0 : bS) (h : F_X10_becomes_r b x0 x1 s0 = some (st', v)) : match (generalizing := false) b with | 0 => bJ κ s0 12 [(0, (2, x0)), (2, (2, x1))] [] | _ => True := by
  refine F_X10_becomes_r.partial_correctness x0 x1 (fun b s0 r => r = (st', v) → match (generalizing := false) b with | 0 => bJ κ s0 12 [(0, (2, x0)), (2, (2, x1))] [] | _ => True) ?_ b s0 _ h rfl
  intro f' ih b s0 r h hr
  subst hr
  match b, h with
  | 0, h =>
      refine r_aload_n hκ 1 rfl rfl dX10_becomes_12 ?_
      obtain ⟨s3, v3, h6, h⟩ := bcl_i h
      refine r_seq (A := bJ κ s3 18 [(0, (2, x0)), (2, (2, x1))] [(0, v3)]) ?_ (fun k0 => ?_)
      case refine_2 =>
        by_cases h7 : bg s0 0 x1 0 = 5
        · have hq0 := (bte_i h6).1 h7
          exact r_callF hκ (n' := 0) (index := 47) (C := "EditsMeet$Goes") (w_X4_hasNext Γ0 l0 hq0) (lw_app (lw_l4 q2612 q1676 q1678 q136) (lw_meth q1680)) (by decide +kernel) (by decide +kernel) (t := 4) h7 rfl rfl (by decide) rfl (Nat.le_of_ble_eq_true rfl) dX10_becomes_13 k0
        replace h6 := (bte_i h6).2 h7
        by_cases h8 : bg s0 0 x1 0 = 24
        · have hq0 := (bte_i h6).1 h8
          exact r_callF hκ (n' := 0) (index := 47) (C := "java/util/LinkedList$DescendingIterator") (w_J27_hasNext Γ0 l0 hq0) (lw_app (lw_l4 q2612 q1702 q1704 q170) (lw_meth q1706)) (by decide +kernel) (by decide +kernel) (t := 23) h8 rfl rfl (by decide) rfl (Nat.le_of_ble_eq_true rfl) dX10_becomes_13 k0
        replace h6 := (bte_i h6).2 h8
        by_cases h9 : bg s0 0 x1 0 = 25
        · have hq0 := (bte_i h6).1 h9
          exact r_callF hκ (n' := 0) (index := 47) (C := "java/util/LinkedList$ListItr") (w_J28_hasNext Γ0 l0 hq0) (lw_app (lw_l4 q2612 q1712 q1714 q171) (lw_meth q1716)) (by decide +kernel) (by decide +kernel) (t := 24) h9 rfl rfl (by decide) rfl (Nat.le_of_ble_eq_true rfl) dX10_becomes_13 k0
        replace h6 := (bte_i h6).2 h9
        cases h6
      refine r_if_eq hκ (tgt := 49) (by decide) dX10_becomes_18 (fun h10 => ?_) (fun h10 => ?_)
      · replace h := (bte_i h).1 h10
        exact r_vretH hκ hf h dX10_becomes_49
      · replace h := (bte_i h).2 h10
        refine r_aload_n hκ 1 rfl rfl dX10_becomes_21 ?_
        obtain ⟨s4, v4, h11, h⟩ := bcl_i h
        refine r_seq (A := bJ κ s4 27 [(0, (2, x0)), (2, (2, x1))] [(2, v4)]) ?_ (fun k0 => ?_)
        case refine_2 =>
          by_cases h12 : bg s3 0 x1 0 = 5
          · have hq0 := (bte_i h11).1 h12
            exact r_callF hκ (n' := 0) (index := 52) (C := "EditsMeet$Goes") (w_X4_next Γ0 l0 hq0) (lw_app (lw_l4 q2614 q1721 q1723 q136) (lw_meth q1725)) (by decide +kernel) (by decide +kernel) (t := 4) h12 rfl rfl (by decide) rfl (Nat.le_of_ble_eq_true rfl) dX10_becomes_22 k0
          replace h11 := (bte_i h11).2 h12
          by_cases h13 : bg s3 0 x1 0 = 24
          · have hq0 := (bte_i h11).1 h13
            exact r_callF hκ (n' := 0) (index := 52) (C := "java/util/LinkedList$DescendingIterator") (w_J27_next Γ0 l0 hq0) (lw_app (lw_l4 q2614 q1955 q1957 q170) (lw_meth q1959)) (by decide +kernel) (by decide +kernel) (t := 23) h13 rfl rfl (by decide) rfl (Nat.le_of_ble_eq_true rfl) dX10_becomes_22 k0
          replace h11 := (bte_i h11).2 h13
          by_cases h14 : bg s3 0 x1 0 = 25
          · have hq0 := (bte_i h11).1 h14
            exact r_callF hκ (n' := 0) (index := 52) (C := "java/util/LinkedList$ListItr") (w_J28_next Γ0 l0 hq0) (lw_app (lw_l4 q2614 q1969 q1971 q171) (lw_meth q1973)) (by decide +kernel) (by decide +kernel) (t := 24) h14 rfl rfl (by decide) rfl (Nat.le_of_ble_eq_true rfl) dX10_becomes_22 k0
          replace h11 := (bte_i h11).2 h14
          cases h11
        obtain ⟨h15, h⟩ := bck_i h
        refine r_cast hκ q2293 (Or.elim h15 (fun h15 => Or.inl h15) (fun h15 => Or.inr ⟨6, _, h15, rfl, Or.inl rfl⟩)) dX10_becomes_27 ?_
        refine r_astore_n hκ (L2 := [(3, (2, v4)), (0, (2, x0)), (2, (2, x1))]) (by decide) rfl rfl dX10_becomes_30 ?_
        refine r_aload_n hκ 1 rfl rfl dX10_becomes_31 ?_
        obtain ⟨h16, h⟩ := bck_i h
        refine r_get hκ (t := 8) (k := 0) (r := 202) h16 rfl in_X10 (by decide) rfl q475 (Or.inl rfl) dX10_becomes_32 ?_
        refine r_aload_n hκ 1 rfl rfl dX10_becomes_35 ?_
        obtain ⟨h17, h⟩ := bck_i h
        obtain ⟨s5, v5, h18, h⟩ := bcl_i h
        refine r_callV hκ (n' := 0) (index := 56) (w_X10_place Γ0 l0 h18) (lw_V q2294 q2296 qs38 q142 q2297) (by decide +kernel) (t := 8) h17 rfl rfl (by decide) rfl (Nat.le_of_ble_eq_true rfl) dX10_becomes_36 ?_
        refine r_aload_n hκ 0 rfl rfl dX10_becomes_39 ?_
        obtain ⟨h19, h⟩ := bck_i h
        obtain ⟨s6, v6, h20, h⟩ := bcl_i h
        refine r_callV hκ (n' := 1) (index := 60) (w_X8_becomes Γ0 l0 h20) (lw_V q3009 q2404 q2405 q140 q2406) (by decide +kernel) (t := 6) h19 rfl rfl (by decide) rfl (Nat.le_of_ble_eq_true rfl) dX10_becomes_40 ?_
        obtain ⟨h21, h⟩ := bck_i h
        obtain ⟨s7, v7, h22, h⟩ := bcl_i h
        refine r_callV hκ (n' := 1) (index := 64) (w_J12_addLast Γ0 l0 h22) (lw_V q2312 q2313 q2314 q144 q2315) (by decide +kernel) (t := 21) h21 rfl rfl (by decide) rfl (Nat.le_of_ble_eq_true rfl) dX10_becomes_43 ?_
        refine r_goto hκ (tgt := 12) (by decide) dX10_becomes_46 ?_
        exact r_sub [1, 2] rfl (ih 0  _ _ h rfl)
  | b + 1, h => trivial
set_option maxHeartbeats 4000000 in
set_option maxRecDepth 100000 in
theorem w_X10_becomes (Γ0 : bG) (l0 : Launch) {s0 st' : bS} {v a0 a1 : Int} (h : F_X10_becomes s0 a0 a1 = some (st', v)) : bCt Γ0 l0 yX10_becomes cX10_becomes 4 none 11 256 [(2, a0), (2, a1)] s0 st' none := by
  refine b_ent (own := RX10) (by decide +kernel) rfl (Nat.le_of_ble_eq_true rfl) (L := [(0, (2, a0)), (1, (2, a1))]) rfl ?_
  intro κ hκ hi hf
  unfold F_X10_becomes at h
  refine r_aload_n hκ 0 rfl rfl dX10_becomes_0 ?_
  obtain ⟨h1, h⟩ := bck_i h
  obtain ⟨s1, v1, h2, h⟩ := bcl_i h
  refine r_callV hκ (n' := 0) (index := 40) (w_X10_empties Γ0 l0 h2) (lw_V q2932 q2247 q2248 q142 q2249) (by decide +kernel) (t := 8) h1 rfl rfl (by decide) rfl (Nat.le_of_ble_eq_true rfl) dX10_becomes_1 ?_
  refine r_aload_n hκ 1 rfl rfl dX10_becomes_4 ?_
  obtain ⟨h3, h⟩ := bck_i h
  refine r_get hκ (t := 8) (k := 0) (r := 202) h3 rfl in_X10 (by decide) rfl q475 (Or.inl rfl) dX10_becomes_5 ?_
  obtain ⟨h4, h⟩ := bck_i h
  obtain ⟨s2, v2, h5, h⟩ := bcl_i h
  refine r_callU hκ (index := 43) (C := "java/util/LinkedList") (owner := "java/util/AbstractSequentialList") (n' := 0) (w_J11_iterator Γ0 l0 h5) (fun R s args hts hRR => va_cwU 0 hts (lw_app (lw_l5 q2933 q2934 q2936 q2937 q143) (lw_meth q2938)) rfl rfl rfl rfl (by decide +kernel) hRR) (t := 21) h4 rfl rfl (by decide) rfl (Nat.le_of_ble_eq_true rfl) dX10_becomes_8 ?_
  refine r_astore_n hκ (L2 := [(2, (2, v2)), (0, (2, a0)), (1, (2, a1))]) (by decide) rfl rfl dX10_becomes_11 ?_
  exact r_sub [1, 0] rfl (w_X10_becomes_r hκ hi hf 0 _ _ _ h)
/-- EditsMeet$Client.becomes(LEditsMeet$Client;)V -/
def F_X9_becomes (s0 : bS) (a0 a1 : Int) : Option (bS × Int) :=
  bck (bg s0 0 a0 0 = 8) <|
  bck (bg s0 0 a1 0 = 8) <|
  bck (bg s0 0 (bg s0 146 a0 0) 0 = 3) <|
  bcl (F_X2_becomes s0 (bg s0 146 a0 0) (bg s0 146 a1 0)) fun s1 v1 =>
  bck (bg s1 0 a0 0 = 8) <|
  bck (bg s1 0 a1 0 = 8) <|
  bck (bg s1 0 (bg s1 150 a1 0) 0 = 1003 ∧ (0 : Int) ≤ 0 ∧ 0 < bg s1 4 (bg s1 150 a1 0) 0) <|
  bck (bg s1 0 (bg s1 150 a0 0) 0 = 1003 ∧ (0 : Int) ≤ 0 ∧ 0 < bg s1 4 (bg s1 150 a0 0) 0) <|
  bst (bw s1 20 (bg s1 150 a0 0) 0 (bg s1 20 (bg s1 150 a1 0) 0)) fun s2 =>
  bck (bg s2 0 a0 0 = 8) <|
  bck (bg s2 0 a1 0 = 8) <|
  bck (bg s2 0 (bg s2 150 a1 0) 0 = 1003 ∧ (0 : Int) ≤ 1 ∧ 1 < bg s2 4 (bg s2 150 a1 0) 0) <|
  bck (bg s2 0 (bg s2 150 a0 0) 0 = 1003 ∧ (0 : Int) ≤ 1 ∧ 1 < bg s2 4 (bg s2 150 a0 0) 0) <|
  bst (bw s2 20 (bg s2 150 a0 0) 1 (bg s2 20 (bg s2 150 a1 0) 1)) fun s3 =>
  bck (bg s3 0 a0 0 = 8) <|
  bck (bg s3 0 a1 0 = 8) <|
  bck (bg s3 0 (bg s3 154 a0 0) 0 = 9) <|
  bcl (F_X10_becomes s3 (bg s3 154 a0 0) (bg s3 154 a1 0)) fun s4 v2 =>
  bck (bg s4 0 a0 0 = 8) <|
  bck (bg s4 0 a1 0 = 8) <|
  bck (bg s4 0 (bg s4 158 a0 0) 0 = 9) <|
  bcl (F_X10_becomes s4 (bg s4 158 a0 0) (bg s4 158 a1 0)) fun s5 v3 =>
  bck (bg s5 0 a1 0 = 8) <|
  bck ((bg s5 0 a0 0 = 8)) <|
  bst (bw s5 164 a0 0 (bg s5 164 a1 0)) fun s6 =>
  bck (bg s6 0 a0 0 = 8) <|
  bck (bg s6 0 a1 0 = 8) <|
  bck (bg s6 0 (bg s6 170 a0 0) 0 = 7) <|
  bcl (F_X8_becomes s6 (bg s6 170 a0 0) (bg s6 170 a1 0)) fun s7 v4 =>
  bck (bg s7 0 a1 0 = 8) <|
  bck ((bg s7 0 a0 0 = 8) ∧ (((bg s7 172 a1 0) : Int) = 0 ∨ ((bg s7 172 a1 0) : Int) = 1)) <|
  bst (bw s7 172 a0 0 (bg s7 172 a1 0)) fun s8 =>
  bck (bg s8 0 a1 0 = 8) <|
  bck ((bg s8 0 a0 0 = 8)) <|
  bst (bw s8 178 a0 0 (bg s8 178 a1 0)) fun s9 =>
  bck (bg s9 0 a1 0 = 8) <|
  bck ((bg s9 0 a0 0 = 8)) <|
  bst (bw s9 180 a0 0 (bg s9 180 a1 0)) fun s10 =>
  bck (bg s10 0 a1 0 = 8) <|
  bck ((bg s10 0 a0 0 = 8) ∧ (((bg s10 184 a1 0) : Int) = 0 ∨ ((bg s10 184 a1 0) : Int) = 1)) <|
  bst (bw s10 184 a0 0 (bg s10 184 a1 0)) fun s11 =>
  bck (bg s11 0 a0 0 = 8) <|
  bck (bg s11 0 a1 0 = 8) <|
  bck (bg s11 0 (bg s11 190 a0 0) 0 = 7) <|
  bcl (F_X8_becomes s11 (bg s11 190 a0 0) (bg s11 190 a1 0)) fun s12 v5 =>
  bck (bg s12 0 a1 0 = 8) <|
  bck ((bg s12 0 a0 0 = 8) ∧ (((bg s12 196 a1 0) : Int) = 0 ∨ ((bg s12 196 a1 0) : Int) = 1)) <|
  bst (bw s12 196 a0 0 (bg s12 196 a1 0)) fun s13 =>
  some (s13, 0)
set_option maxHeartbeats 4000000 in
set_option maxRecDepth 100000 in
theorem w_X9_becomes (Γ0 : bG) (l0 : Launch) {s0 st' : bS} {v a0 a1 : Int} (h : F_X9_becomes s0 a0 a1 = some (st', v)) : bCt Γ0 l0 yX9_becomes cX9_becomes 2 none 12 279 [(2, a0), (2, a1)] s0 st' none := by
  refine b_ent (own := RX9) (by decide +kernel) rfl (Nat.le_of_ble_eq_true rfl) (L := [(0, (2, a0)), (1, (2, a1))]) rfl ?_
  intro κ hκ hi hf
  unfold F_X9_becomes at h
  refine r_aload_n hκ 0 rfl rfl dX9_becomes_0 ?_
  obtain ⟨h1, h⟩ := bck_i h
  refine r_get hκ (t := 7) (k := 0) (r := 146) h1 rfl in_X9 (by decide) rfl q484 (Or.inl rfl) dX9_becomes_1 ?_
  refine r_aload_n hκ 1 rfl rfl dX9_becomes_4 ?_
  obtain ⟨h2, h⟩ := bck_i h
  refine r_get hκ (t := 7) (k := 0) (r := 146) h2 rfl in_X9 (by decide) rfl q484 (Or.inl rfl) dX9_becomes_5 ?_
  obtain ⟨h3, h⟩ := bck_i h
  obtain ⟨s1, v1, h4, h⟩ := bcl_i h
  refine r_callV hκ (n' := 1) (index := 47) (w_X2_becomes Γ0 l0 h4) (lw_V q2805 q2806 q2807 q123 q2808) (by decide +kernel) (t := 2) h3 rfl rfl (by decide) rfl (Nat.le_of_ble_eq_true rfl) dX9_becomes_8 ?_
  refine r_pop hκ (bd_cat2k _) dX9_becomes_11 ?_
  refine r_aload_n hκ 0 rfl rfl dX9_becomes_12 ?_
  obtain ⟨h5, h⟩ := bck_i h
  refine r_get hκ (t := 7) (k := 1) (r := 150) h5 rfl in_X9 (by decide) rfl q487 (Or.inl rfl) dX9_becomes_13 ?_
  refine r_iconst hκ dX9_becomes_16 ?_
  refine r_aload_n hκ 1 rfl rfl dX9_becomes_17 ?_
  obtain ⟨h6, h⟩ := bck_i h
  refine r_get hκ (t := 7) (k := 1) (r := 150) h6 rfl in_X9 (by decide) rfl q487 (Or.inl rfl) dX9_becomes_18 ?_
  refine r_iconst hκ dX9_becomes_21 ?_
  obtain ⟨⟨h7, h8⟩, h⟩ := bck_i h
  refine r_iald hκ h7 h8 dX9_becomes_22 ?_
  obtain ⟨⟨h9, h10⟩, h⟩ := bck_i h
  refine r_iast hκ h9 h10 dX9_becomes_23 (fun s2 es2 => ?_)
  replace h := bst_i h s2 es2
  refine r_aload_n hκ 0 rfl rfl dX9_becomes_24 ?_
  obtain ⟨h11, h⟩ := bck_i h
  refine r_get hκ (t := 7) (k := 1) (r := 150) h11 rfl in_X9 (by decide) rfl q487 (Or.inl rfl) dX9_becomes_25 ?_
  refine r_iconst hκ dX9_becomes_28 ?_
  refine r_aload_n hκ 1 rfl rfl dX9_becomes_29 ?_
  obtain ⟨h12, h⟩ := bck_i h
  refine r_get hκ (t := 7) (k := 1) (r := 150) h12 rfl in_X9 (by decide) rfl q487 (Or.inl rfl) dX9_becomes_30 ?_
  refine r_iconst hκ dX9_becomes_33 ?_
  obtain ⟨⟨h13, h14⟩, h⟩ := bck_i h
  refine r_iald hκ h13 h14 dX9_becomes_34 ?_
  obtain ⟨⟨h15, h16⟩, h⟩ := bck_i h
  refine r_iast hκ h15 h16 dX9_becomes_35 (fun s3 es3 => ?_)
  replace h := bst_i h s3 es3
  refine r_aload_n hκ 0 rfl rfl dX9_becomes_36 ?_
  obtain ⟨h17, h⟩ := bck_i h
  refine r_get hκ (t := 7) (k := 2) (r := 154) h17 rfl in_X9 (by decide) rfl q489 (Or.inl rfl) dX9_becomes_37 ?_
  refine r_aload_n hκ 1 rfl rfl dX9_becomes_40 ?_
  obtain ⟨h18, h⟩ := bck_i h
  refine r_get hκ (t := 7) (k := 2) (r := 154) h18 rfl in_X9 (by decide) rfl q489 (Or.inl rfl) dX9_becomes_41 ?_
  obtain ⟨h19, h⟩ := bck_i h
  obtain ⟨s4, v2, h20, h⟩ := bcl_i h
  refine r_callV hκ (n' := 1) (index := 51) (w_X10_becomes Γ0 l0 h20) (lw_V q2928 q2929 q2930 q142 q2931) (by decide +kernel) (t := 8) h19 rfl rfl (by decide) rfl (Nat.le_of_ble_eq_true rfl) dX9_becomes_44 ?_
  refine r_aload_n hκ 0 rfl rfl dX9_becomes_47 ?_
  obtain ⟨h21, h⟩ := bck_i h
  refine r_get hκ (t := 7) (k := 3) (r := 158) h21 rfl in_X9 (by decide) rfl q491 (Or.inl rfl) dX9_becomes_48 ?_
  refine r_aload_n hκ 1 rfl rfl dX9_becomes_51 ?_
  obtain ⟨h22, h⟩ := bck_i h
  refine r_get hκ (t := 7) (k := 3) (r := 158) h22 rfl in_X9 (by decide) rfl q491 (Or.inl rfl) dX9_becomes_52 ?_
  obtain ⟨h23, h⟩ := bck_i h
  obtain ⟨s5, v3, h24, h⟩ := bcl_i h
  refine r_callV hκ (n' := 1) (index := 51) (w_X10_becomes Γ0 l0 h24) (lw_V q2928 q2929 q2930 q142 q2931) (by decide +kernel) (t := 8) h23 rfl rfl (by decide) rfl (Nat.le_of_ble_eq_true rfl) dX9_becomes_55 ?_
  refine r_aload_n hκ 0 rfl rfl dX9_becomes_58 ?_
  refine r_aload_n hκ 1 rfl rfl dX9_becomes_59 ?_
  obtain ⟨h25, h⟩ := bck_i h
  refine r_get hκ (t := 7) (k := 5) (r := 164) h25 rfl in_X9 (by decide) rfl q494 (Or.inl rfl) dX9_becomes_60 ?_
  obtain ⟨h26, h⟩ := bck_i h
  refine r_put hκ (t := 7) (k := 5) (r := 164) (ty := .int) tyX9 tyX9_ok nmX9 h26 rfl in_X9 (by decide) rfl q494 (Or.inl rfl) rfl rfl rfl trivial (Or.inl (by decide)) dX9_becomes_63 (fun s6 es6 => ?_)
  replace h := bst_i h s6 es6
  refine r_aload_n hκ 0 rfl rfl dX9_becomes_66 ?_
  obtain ⟨h27, h⟩ := bck_i h
  refine r_get hκ (t := 7) (k := 6) (r := 170) h27 rfl in_X9 (by decide) rfl q497 (Or.inl rfl) dX9_becomes_67 ?_
  refine r_aload_n hκ 1 rfl rfl dX9_becomes_70 ?_
  obtain ⟨h28, h⟩ := bck_i h
  refine r_get hκ (t := 7) (k := 6) (r := 170) h28 rfl in_X9 (by decide) rfl q497 (Or.inl rfl) dX9_becomes_71 ?_
  obtain ⟨h29, h⟩ := bck_i h
  obtain ⟨s7, v4, h30, h⟩ := bcl_i h
  refine r_callV hκ (n' := 1) (index := 58) (w_X8_becomes Γ0 l0 h30) (lw_V q2403 q2404 q2405 q140 q2406) (by decide +kernel) (t := 6) h29 rfl rfl (by decide) rfl (Nat.le_of_ble_eq_true rfl) dX9_becomes_74 ?_
  refine r_pop hκ (bd_cat2k _) dX9_becomes_77 ?_
  refine r_aload_n hκ 0 rfl rfl dX9_becomes_78 ?_
  refine r_aload_n hκ 1 rfl rfl dX9_becomes_79 ?_
  obtain ⟨h31, h⟩ := bck_i h
  refine r_get hκ (t := 7) (k := 7) (r := 172) h31 rfl in_X9 (by decide) rfl q498 (Or.inl rfl) dX9_becomes_80 ?_
  obtain ⟨⟨h32, h33⟩, h⟩ := bck_i h
  refine r_put hκ (t := 7) (k := 7) (r := 172) (ty := .boolean) tyX9 tyX9_ok nmX9 h32 rfl in_X9 (by decide) rfl q498 (Or.inl rfl) rfl rfl rfl h33 (Or.inl (by decide)) dX9_becomes_83 (fun s8 es8 => ?_)
  replace h := bst_i h s8 es8
  refine r_aload_n hκ 0 rfl rfl dX9_becomes_86 ?_
  refine r_aload_n hκ 1 rfl rfl dX9_becomes_87 ?_
  obtain ⟨h34, h⟩ := bck_i h
  refine r_get hκ (t := 7) (k := 8) (r := 178) h34 rfl in_X9 (by decide) rfl q500 (Or.inl rfl) dX9_becomes_88 ?_
  obtain ⟨h35, h⟩ := bck_i h
  refine r_put hκ (t := 7) (k := 8) (r := 178) (ty := (.object "EditsMeet$Edit")) tyX9 tyX9_ok nmX9 h35 rfl in_X9 (by decide) rfl q500 (Or.inl rfl) rfl rfl rfl trivial (Or.inl (by decide)) dX9_becomes_91 (fun s9 es9 => ?_)
  replace h := bst_i h s9 es9
  refine r_aload_n hκ 0 rfl rfl dX9_becomes_94 ?_
  refine r_aload_n hκ 1 rfl rfl dX9_becomes_95 ?_
  obtain ⟨h36, h⟩ := bck_i h
  refine r_get hκ (t := 7) (k := 9) (r := 180) h36 rfl in_X9 (by decide) rfl q502 (Or.inl rfl) dX9_becomes_96 ?_
  obtain ⟨h37, h⟩ := bck_i h
  refine r_put hκ (t := 7) (k := 9) (r := 180) (ty := .int) tyX9 tyX9_ok nmX9 h37 rfl in_X9 (by decide) rfl q502 (Or.inl rfl) rfl rfl rfl trivial (Or.inl (by decide)) dX9_becomes_99 (fun s10 es10 => ?_)
  replace h := bst_i h s10 es10
  refine r_aload_n hκ 0 rfl rfl dX9_becomes_102 ?_
  refine r_aload_n hκ 1 rfl rfl dX9_becomes_103 ?_
  obtain ⟨h38, h⟩ := bck_i h
  refine r_get hκ (t := 7) (k := 10) (r := 184) h38 rfl in_X9 (by decide) rfl q504 (Or.inl rfl) dX9_becomes_104 ?_
  obtain ⟨⟨h39, h40⟩, h⟩ := bck_i h
  refine r_put hκ (t := 7) (k := 10) (r := 184) (ty := .boolean) tyX9 tyX9_ok nmX9 h39 rfl in_X9 (by decide) rfl q504 (Or.inl rfl) rfl rfl rfl h40 (Or.inl (by decide)) dX9_becomes_107 (fun s11 es11 => ?_)
  replace h := bst_i h s11 es11
  refine r_aload_n hκ 0 rfl rfl dX9_becomes_110 ?_
  obtain ⟨h41, h⟩ := bck_i h
  refine r_get hκ (t := 7) (k := 11) (r := 190) h41 rfl in_X9 (by decide) rfl q507 (Or.inl rfl) dX9_becomes_111 ?_
  refine r_aload_n hκ 1 rfl rfl dX9_becomes_114 ?_
  obtain ⟨h42, h⟩ := bck_i h
  refine r_get hκ (t := 7) (k := 11) (r := 190) h42 rfl in_X9 (by decide) rfl q507 (Or.inl rfl) dX9_becomes_115 ?_
  obtain ⟨h43, h⟩ := bck_i h
  obtain ⟨s12, v5, h44, h⟩ := bcl_i h
  refine r_callV hκ (n' := 1) (index := 58) (w_X8_becomes Γ0 l0 h44) (lw_V q2403 q2404 q2405 q140 q2406) (by decide +kernel) (t := 6) h43 rfl rfl (by decide) rfl (Nat.le_of_ble_eq_true rfl) dX9_becomes_118 ?_
  refine r_pop hκ (bd_cat2k _) dX9_becomes_121 ?_
  refine r_aload_n hκ 0 rfl rfl dX9_becomes_122 ?_
  refine r_aload_n hκ 1 rfl rfl dX9_becomes_123 ?_
  obtain ⟨h45, h⟩ := bck_i h
  refine r_get hκ (t := 7) (k := 13) (r := 196) h45 rfl in_X9 (by decide) rfl q509 (Or.inl rfl) dX9_becomes_124 ?_
  obtain ⟨⟨h46, h47⟩, h⟩ := bck_i h
  refine r_put hκ (t := 7) (k := 13) (r := 196) (ty := .boolean) tyX9 tyX9_ok nmX9 h46 rfl in_X9 (by decide) rfl q509 (Or.inl rfl) rfl rfl rfl h47 (Or.inl (by decide)) dX9_becomes_127 (fun s13 es13 => ?_)
  replace h := bst_i h s13 es13
  exact r_vretH hκ hf h dX9_becomes_130
/-- EditsMeet$World.becomes(LEditsMeet$World;)LEditsMeet$World; -/
def F_X1_becomes_r (b : Nat) (x0 x1 x2 : Int) (s0 : bS) : Option (bS × Int) :=
  match b with
  | 0 =>
    bte (i32 4 ≤ i32 x2)
    (bck (bg s0 0 x0 0 = 2) <|
    bck (bg s0 0 x1 0 = 2) <|
    bck (bg s0 0 (bg s0 70 x0 0) 0 = 3) <|
    bcl (F_X2_becomes s0 (bg s0 70 x0 0) (bg s0 70 x1 0)) fun s1 v1 =>
    bck (bg s1 0 x0 0 = 2) <|
    bck (bg s1 0 (bg s1 74 x0 0) 0 = 21) <|
    bcl (F_J10_clear s1 (bg s1 74 x0 0)) fun s2 v2 =>
    bck (bg s2 0 x0 0 = 2) <|
    bck (bg s2 0 x1 0 = 2) <|
    bck (bg s2 0 (bg s2 74 x0 0) 0 = 21) <|
    bcl (F_J10_addAll s2 (bg s2 74 x0 0) (bg s2 74 x1 0)) fun s3 v3 =>
    bck (bg s3 0 x1 0 = 2) <|
    bck ((bg s3 0 x0 0 = 2)) <|
    bst (bw s3 80 x0 0 (bg s3 80 x1 0)) fun s4 =>
    some (s4, x0))
    (bck (bg s0 0 x0 0 = 2) <|
    bck (bg s0 0 (bg s0 66 x0 0) 0 = 1007 ∧ (0 : Int) ≤ x2 ∧ x2 < bg s0 4 (bg s0 66 x0 0) 0) <|
    bck (bg s0 0 x1 0 = 2) <|
    bck (bg s0 0 (bg s0 66 x1 0) 0 = 1007 ∧ (0 : Int) ≤ x2 ∧ x2 < bg s0 4 (bg s0 66 x1 0) 0) <|
    bck (bg s0 0 (bg s0 10 (bg s0 66 x0 0) x2) 0 = 8) <|
    bcl (F_X9_becomes s0 (bg s0 10 (bg s0 66 x0 0) x2) (bg s0 10 (bg s0 66 x1 0) x2)) fun s5 v4 =>
    F_X1_becomes_r 0 x0 x1 (x2 + 1) s5)
  | _ => none
partial_fixpoint
def F_X1_becomes (s0 : bS) (a0 a1 : Int) : Option (bS × Int) :=
  F_X1_becomes_r 0 a0 a1 0 s0
set_option maxHeartbeats 4000000 in
set_option maxRecDepth 100000 in
set_option synthInstance.maxHeartbeats 4000000 in
theorem w_X1_becomes_r {Γ0 : bG} {l0 : Launch} {κ : bK} {st' : bS} {v : Int} (hκ : bOk κ Γ0 l0 cX1_becomes RX1 3 13 300) (hi : bIn κ yX1_becomes) (hf : bFin κ (some (.object "EditsMeet$World")) st' (some (2, v))) (b : Nat) (x0 x1 x2 : Int) (s0 : bS) (h : F_X1_becomes_r b x0 x1 x2 s0 = some (st', v)) : match (generalizing := false) b with | 0 => bJ κ s0 2 [(0, (2, x0)), (1, (2, x1)), (2, (0, x2))] [] | _ => True := by
  refine F_X1_becomes_r.partial_correctness x0 x1 (fun b x2 s0 r => r = (st', v) → match (generalizing := false) b with | 0 => bJ κ s0 2 [(0, (2, x0)), (1, (2, x1)), (2, (0, x2))] [] | _ => True) ?_ b x2 s0 _ h rfl
  intro f' ih b x2 s0 r h hr
  subst hr
  match b, h with
  | 0, h =>
      refine r_iload_n hκ 2 rfl rfl dX1_becomes_2 ?_
      refine r_iconst hκ dX1_becomes_3 ?_
      refine r_icmp_ge hκ (tgt := 28) (by decide) dX1_becomes_4 (fun h1 => ?_) (fun h1 => ?_)
      · replace h := (bte_i h).1 h1
        refine r_aload_n hκ 0 rfl rfl dX1_becomes_28 ?_
        obtain ⟨h2, h⟩ := bck_i h
        refine r_get hκ (t := 1) (k := 1) (r := 70) h2 rfl in_X1 (by decide) rfl q541 (Or.inl rfl) dX1_becomes_29 ?_
        refine r_aload_n hκ 1 rfl rfl dX1_becomes_32 ?_
        obtain ⟨h3, h⟩ := bck_i h
        refine r_get hκ (t := 1) (k := 1) (r := 70) h3 rfl in_X1 (by decide) rfl q541 (Or.inl rfl) dX1_becomes_33 ?_
        obtain ⟨h4, h⟩ := bck_i h
        obtain ⟨s1, v1, h5, h⟩ := bcl_i h
        refine r_callV hκ (n' := 1) (index := 49) (w_X2_becomes Γ0 l0 h5) (lw_V q3010 q2806 q2807 q123 q2808) (by decide +kernel) (t := 2) h4 rfl rfl (by decide) rfl (Nat.le_of_ble_eq_true rfl) dX1_becomes_36 ?_
        refine r_pop hκ (bd_cat2k _) dX1_becomes_39 ?_
        refine r_aload_n hκ 0 rfl rfl dX1_becomes_40 ?_
        obtain ⟨h6, h⟩ := bck_i h
        refine r_get hκ (t := 1) (k := 2) (r := 74) h6 rfl in_X1 (by decide) rfl q543 (Or.inl rfl) dX1_becomes_41 ?_
        obtain ⟨h7, h⟩ := bck_i h
        obtain ⟨s2, v2, h8, h⟩ := bcl_i h
        refine r_callV hκ (n' := 0) (index := 52) (w_J10_clear Γ0 l0 h8) (lw_V q3011 q2060 q2061 q134 q2062) (by decide +kernel) (t := 20) h7 rfl rfl (by decide) rfl (Nat.le_of_ble_eq_true rfl) dX1_becomes_44 ?_
        refine r_aload_n hκ 0 rfl rfl dX1_becomes_47 ?_
        obtain ⟨h9, h⟩ := bck_i h
        refine r_get hκ (t := 1) (k := 2) (r := 74) h9 rfl in_X1 (by decide) rfl q543 (Or.inl rfl) dX1_becomes_48 ?_
        refine r_aload_n hκ 1 rfl rfl dX1_becomes_51 ?_
        obtain ⟨h10, h⟩ := bck_i h
        refine r_get hκ (t := 1) (k := 2) (r := 74) h10 rfl in_X1 (by decide) rfl q543 (Or.inl rfl) dX1_becomes_52 ?_
        obtain ⟨h11, h⟩ := bck_i h
        obtain ⟨s3, v3, h12, h⟩ := bcl_i h
        refine r_callV hκ (n' := 1) (index := 55) (w_J10_addAll Γ0 l0 h12) (lw_V q3012 q2251 q2252 q134 q2253) (by decide +kernel) (t := 20) h11 rfl rfl (by decide) rfl (Nat.le_of_ble_eq_true rfl) dX1_becomes_55 ?_
        refine r_pop hκ (bd_cat0k _) dX1_becomes_58 ?_
        refine r_aload_n hκ 0 rfl rfl dX1_becomes_59 ?_
        refine r_aload_n hκ 1 rfl rfl dX1_becomes_60 ?_
        obtain ⟨h13, h⟩ := bck_i h
        refine r_get hκ (t := 1) (k := 4) (r := 80) h13 rfl in_X1 (by decide) rfl q547 (Or.inl rfl) dX1_becomes_61 ?_
        obtain ⟨h14, h⟩ := bck_i h
        refine r_put hκ (t := 1) (k := 4) (r := 80) (ty := .int) tyX1 tyX1_ok nmX1 h14 rfl in_X1 (by decide) rfl q547 (Or.inl rfl) rfl rfl rfl trivial (Or.inl (by decide)) dX1_becomes_64 (fun s4 es4 => ?_)
        replace h := bst_i h s4 es4
        refine r_aload_n hκ 0 rfl rfl dX1_becomes_67 ?_
        exact r_aretH hκ hf h rt_o dX1_becomes_68
      · replace h := (bte_i h).2 h1
        refine r_aload_n hκ 0 rfl rfl dX1_becomes_7 ?_
        obtain ⟨h15, h⟩ := bck_i h
        refine r_get hκ (t := 1) (k := 0) (r := 66) h15 rfl in_X1 (by decide) rfl q539 (Or.inl rfl) dX1_becomes_8 ?_
        refine r_iload_n hκ 2 rfl rfl dX1_becomes_11 ?_
        obtain ⟨⟨h16, h17⟩, h⟩ := bck_i h
        refine r_aald hκ (t := 7) (by decide) h16 h17 dX1_becomes_12 ?_
        refine r_aload_n hκ 1 rfl rfl dX1_becomes_13 ?_
        obtain ⟨h18, h⟩ := bck_i h
        refine r_get hκ (t := 1) (k := 0) (r := 66) h18 rfl in_X1 (by decide) rfl q539 (Or.inl rfl) dX1_becomes_14 ?_
        refine r_iload_n hκ 2 rfl rfl dX1_becomes_17 ?_
        obtain ⟨⟨h19, h20⟩, h⟩ := bck_i h
        refine r_aald hκ (t := 7) (by decide) h19 h20 dX1_becomes_18 ?_
        obtain ⟨h21, h⟩ := bck_i h
        obtain ⟨s5, v4, h22, h⟩ := bcl_i h
        refine r_callV hκ (n' := 1) (index := 45) (w_X9_becomes Γ0 l0 h22) (lw_V q2801 q2802 q2803 q141 q2804) (by decide +kernel) (t := 7) h21 rfl rfl (by decide) rfl (Nat.le_of_ble_eq_true rfl) dX1_becomes_19 ?_
        refine r_iinc hκ (L2 := [(2, (0, (x2 + 1))), (0, (2, x0)), (1, (2, x1))]) 2 rfl (by decide) rfl dX1_becomes_22 ?_
        refine r_goto hκ (tgt := 2) (by decide) dX1_becomes_25 ?_
        exact r_sub [1, 2, 0] rfl (ih 0 _ _ _ h rfl)
  | b + 1, h => trivial
set_option maxHeartbeats 4000000 in
set_option maxRecDepth 100000 in
theorem w_X1_becomes (Γ0 : bG) (l0 : Launch) {s0 st' : bS} {v a0 a1 : Int} (h : F_X1_becomes s0 a0 a1 = some (st', v)) : bCt Γ0 l0 yX1_becomes cX1_becomes 3 (some (.object "EditsMeet$World")) 13 300 [(2, a0), (2, a1)] s0 st' (some (2, v)) := by
  refine b_ent (own := RX1) (by decide +kernel) rfl (Nat.le_of_ble_eq_true rfl) (L := [(0, (2, a0)), (1, (2, a1))]) rfl ?_
  intro κ hκ hi hf
  unfold F_X1_becomes at h
  refine r_iconst hκ dX1_becomes_0 ?_
  refine r_istore_n hκ (L2 := [(2, (0, 0)), (0, (2, a0)), (1, (2, a1))]) (by decide) rfl rfl dX1_becomes_1 ?_
  exact r_sub [1, 2, 0] rfl (w_X1_becomes_r hκ hi hf 0 _ _ _ _ h)
