/-! walks, printed by dec.py: 12.w_m1 -/
/-- EditsMeetModel.<init>()V -/
def F_X12_init (s0 : bS) (a0 : Int) : Option (bS × Int) :=
  bck ((0 : Int) ≤ a0) <|
  bck (((0 : Int) ≤ 276 ∧ (276 : Int) ≤ 67108864) ∧ ((0 : Int) ≤ 4 ∧ (4 : Int) ≤ 67108864) ∧ bc s0 + (1 + (276 : Int).toNat) ≤ bCM ∧ bk s0 + ((276 : Int).toNat + (276 : Int).toNat * (4 : Int).toNat) ≤ bKM) <|
  bst (bmul s0 276 4) fun s1 =>
  bck ((bg s1 0 a0 0 = 11)) <|
  bst (bw s1 214 a0 0 (bnx s0 : Int)) fun s2 =>
  bck (((0 : Int) ≤ 276 ∧ (276 : Int) ≤ 67108864) ∧ bc s2 + 1 ≤ bCM ∧ bk s2 + (276 : Int).toNat ≤ bKM) <|
  bst (bnw s2 1003 276 (276 : Int).toNat) fun s3 =>
  bck ((bg s3 0 a0 0 = 11)) <|
  bst (bw s3 218 a0 0 (bnx s2 : Int)) fun s4 =>
  bck (((0 : Int) ≤ 12 ∧ (12 : Int) ≤ 67108864) ∧ bc s4 + 1 ≤ bCM ∧ bk s4 + (12 : Int).toNat ≤ bKM) <|
  bst (bnw s4 1001 12 (12 : Int).toNat) fun s5 =>
  bck ((bg s5 0 a0 0 = 11)) <|
  bst (bw s5 222 a0 0 (bnx s4 : Int)) fun s6 =>
  bck (((0 : Int) ≤ 5 ∧ (5 : Int) ≤ 67108864) ∧ ((0 : Int) ≤ 64 ∧ (64 : Int) ≤ 67108864) ∧ bc s6 + (1 + (5 : Int).toNat) ≤ bCM ∧ bk s6 + ((5 : Int).toNat + (5 : Int).toNat * (64 : Int).toNat) ≤ bKM) <|
  bst (bmul s6 5 64) fun s7 =>
  bck ((bg s7 0 a0 0 = 11)) <|
  bst (bw s7 226 a0 0 (bnx s6 : Int)) fun s8 =>
  bck (((0 : Int) ≤ 5 ∧ (5 : Int) ≤ 67108864) ∧ bc s8 + 1 ≤ bCM ∧ bk s8 + (5 : Int).toNat ≤ bKM) <|
  bst (bnw s8 1003 5 (5 : Int).toNat) fun s9 =>
  bck ((bg s9 0 a0 0 = 11)) <|
  bst (bw s9 230 a0 0 (bnx s8 : Int)) fun s10 =>
  bck (((0 : Int) ≤ 32 ∧ (32 : Int) ≤ 67108864) ∧ bc s10 + 1 ≤ bCM ∧ bk s10 + (32 : Int).toNat ≤ bKM) <|
  bst (bnw s10 1003 32 (32 : Int).toNat) fun s11 =>
  bck ((bg s11 0 a0 0 = 11)) <|
  bst (bw s11 234 a0 0 (bnx s10 : Int)) fun s12 =>
  bck (((0 : Int) ≤ 91 ∧ (91 : Int) ≤ 67108864) ∧ bc s12 + 1 ≤ bCM ∧ bk s12 + (91 : Int).toNat ≤ bKM) <|
  bst (bnw s12 1003 91 (91 : Int).toNat) fun s13 =>
  bck ((bg s13 0 a0 0 = 11)) <|
  bst (bw s13 238 a0 0 (bnx s12 : Int)) fun s14 =>
  bck (((0 : Int) ≤ 2 ∧ (2 : Int) ≤ 67108864) ∧ bc s14 + 1 ≤ bCM ∧ bk s14 + (2 : Int).toNat ≤ bKM) <|
  bst (bnw s14 1003 2 (2 : Int).toNat) fun s15 =>
  bck (bg s15 0 (bnx s14 : Int) 0 = 1003 ∧ (0 : Int) ≤ 0 ∧ 0 < bg s15 4 (bnx s14 : Int) 0) <|
  bst (bw s15 20 (bnx s14 : Int) 0 0) fun s16 =>
  bck (bg s16 0 (bnx s14 : Int) 0 = 1003 ∧ (0 : Int) ≤ 1 ∧ 1 < bg s16 4 (bnx s14 : Int) 0) <|
  bst (bw s16 20 (bnx s14 : Int) 1 1) fun s17 =>
  bck ((bg s17 0 a0 0 = 11)) <|
  bst (bw s17 242 a0 0 (bnx s14 : Int)) fun s18 =>
  bck (((0 : Int) ≤ 7 ∧ (7 : Int) ≤ 67108864) ∧ bc s18 + 1 ≤ bCM ∧ bk s18 + (7 : Int).toNat ≤ bKM) <|
  bst (bnw s18 1003 7 (7 : Int).toNat) fun s19 =>
  bck ((bg s19 0 a0 0 = 11)) <|
  bst (bw s19 246 a0 0 (bnx s18 : Int)) fun s20 =>
  bck (((0 : Int) ≤ 4 ∧ (4 : Int) ≤ 67108864) ∧ ((0 : Int) ≤ 24000 ∧ (24000 : Int) ≤ 67108864) ∧ bc s20 + (1 + (4 : Int).toNat) ≤ bCM ∧ bk s20 + ((4 : Int).toNat + (4 : Int).toNat * (24000 : Int).toNat) ≤ bKM) <|
  bst (bmul s20 4 24000) fun s21 =>
  bck ((bg s21 0 a0 0 = 11)) <|
  bst (bw s21 250 a0 0 (bnx s20 : Int)) fun s22 =>
  bck (((0 : Int) ≤ 4 ∧ (4 : Int) ≤ 67108864) ∧ bc s22 + 1 ≤ bCM ∧ bk s22 + (4 : Int).toNat ≤ bKM) <|
  bst (bnw s22 1003 4 (4 : Int).toNat) fun s23 =>
  bck ((bg s23 0 a0 0 = 11)) <|
  bst (bw s23 254 a0 0 (bnx s22 : Int)) fun s24 =>
  bck (((0 : Int) ≤ 24000 ∧ (24000 : Int) ≤ 67108864) ∧ bc s24 + 1 ≤ bCM ∧ bk s24 + (24000 : Int).toNat ≤ bKM) <|
  bst (bnw s24 1003 24000 (24000 : Int).toNat) fun s25 =>
  bck ((bg s25 0 a0 0 = 11)) <|
  bst (bw s25 258 a0 0 (bnx s24 : Int)) fun s26 =>
  bck (((0 : Int) ≤ 250 ∧ (250 : Int) ≤ 67108864) ∧ bc s26 + 1 ≤ bCM ∧ bk s26 + (250 : Int).toNat ≤ bKM) <|
  bst (bnw s26 1003 250 (250 : Int).toNat) fun s27 =>
  bck ((bg s27 0 a0 0 = 11)) <|
  bst (bw s27 262 a0 0 (bnx s26 : Int)) fun s28 =>
  bck (((0 : Int) ≤ 8 ∧ (8 : Int) ≤ 67108864) ∧ bc s28 + 1 ≤ bCM ∧ bk s28 + (8 : Int).toNat ≤ bKM) <|
  bst (bnw s28 1003 8 (8 : Int).toNat) fun s29 =>
  bck (bg s29 0 (bnx s28 : Int) 0 = 1003 ∧ (0 : Int) ≤ 0 ∧ 0 < bg s29 4 (bnx s28 : Int) 0) <|
  bst (bw s29 20 (bnx s28 : Int) 0 (-1)) fun s30 =>
  bck (bg s30 0 (bnx s28 : Int) 0 = 1003 ∧ (0 : Int) ≤ 1 ∧ 1 < bg s30 4 (bnx s28 : Int) 0) <|
  bst (bw s30 20 (bnx s28 : Int) 1 (-1)) fun s31 =>
  bck (bg s31 0 (bnx s28 : Int) 0 = 1003 ∧ (0 : Int) ≤ 2 ∧ 2 < bg s31 4 (bnx s28 : Int) 0) <|
  bst (bw s31 20 (bnx s28 : Int) 2 (-1)) fun s32 =>
  bck (bg s32 0 (bnx s28 : Int) 0 = 1003 ∧ (0 : Int) ≤ 3 ∧ 3 < bg s32 4 (bnx s28 : Int) 0) <|
  bst (bw s32 20 (bnx s28 : Int) 3 (-1)) fun s33 =>
  bck (bg s33 0 (bnx s28 : Int) 0 = 1003 ∧ (0 : Int) ≤ 4 ∧ 4 < bg s33 4 (bnx s28 : Int) 0) <|
  bst (bw s33 20 (bnx s28 : Int) 4 (-1)) fun s34 =>
  bck (bg s34 0 (bnx s28 : Int) 0 = 1003 ∧ (0 : Int) ≤ 5 ∧ 5 < bg s34 4 (bnx s28 : Int) 0) <|
  bst (bw s34 20 (bnx s28 : Int) 5 (-1)) fun s35 =>
  bck (bg s35 0 (bnx s28 : Int) 0 = 1003 ∧ (0 : Int) ≤ 6 ∧ 6 < bg s35 4 (bnx s28 : Int) 0) <|
  bst (bw s35 20 (bnx s28 : Int) 6 (-1)) fun s36 =>
  bck (bg s36 0 (bnx s28 : Int) 0 = 1003 ∧ (0 : Int) ≤ 7 ∧ 7 < bg s36 4 (bnx s28 : Int) 0) <|
  bst (bw s36 20 (bnx s28 : Int) 7 (-1)) fun s37 =>
  bck ((bg s37 0 a0 0 = 11)) <|
  bst (bw s37 290 a0 0 (bnx s28 : Int)) fun s38 =>
  bck (((0 : Int) ≤ 8 ∧ (8 : Int) ≤ 67108864) ∧ bc s38 + 1 ≤ bCM ∧ bk s38 + (8 : Int).toNat ≤ bKM) <|
  bst (bnw s38 1003 8 (8 : Int).toNat) fun s39 =>
  bck ((bg s39 0 a0 0 = 11)) <|
  bst (bw s39 294 a0 0 (bnx s38 : Int)) fun s40 =>
  bck (((0 : Int) ≤ 320 ∧ (320 : Int) ≤ 67108864) ∧ bc s40 + 1 ≤ bCM ∧ bk s40 + (320 : Int).toNat ≤ bKM) <|
  bst (bnw s40 1005 320 (320 : Int).toNat) fun s41 =>
  bck ((bg s41 0 a0 0 = 11)) <|
  bst (bw s41 298 a0 0 (bnx s40 : Int)) fun s42 =>
  bck (((0 : Int) ≤ 8 ∧ (8 : Int) ≤ 67108864) ∧ bc s42 + 1 ≤ bCM ∧ bk s42 + (8 : Int).toNat ≤ bKM) <|
  bst (bnw s42 1003 8 (8 : Int).toNat) fun s43 =>
  bck ((bg s43 0 a0 0 = 11)) <|
  bst (bw s43 302 a0 0 (bnx s42 : Int)) fun s44 =>
  bck (((0 : Int) ≤ 8 ∧ (8 : Int) ≤ 67108864) ∧ bc s44 + 1 ≤ bCM ∧ bk s44 + (8 : Int).toNat ≤ bKM) <|
  bst (bnw s44 1003 8 (8 : Int).toNat) fun s45 =>
  bck ((bg s45 0 a0 0 = 11)) <|
  bst (bw s45 306 a0 0 (bnx s44 : Int)) fun s46 =>
  bck (((0 : Int) ≤ 8 ∧ (8 : Int) ≤ 67108864) ∧ bc s46 + 1 ≤ bCM ∧ bk s46 + (8 : Int).toNat ≤ bKM) <|
  bst (bnw s46 1003 8 (8 : Int).toNat) fun s47 =>
  bck ((bg s47 0 a0 0 = 11)) <|
  bst (bw s47 310 a0 0 (bnx s46 : Int)) fun s48 =>
  bck (((0 : Int) ≤ 276 ∧ (276 : Int) ≤ 67108864) ∧ ((0 : Int) ≤ 4 ∧ (4 : Int) ≤ 67108864) ∧ bc s48 + (1 + (276 : Int).toNat) ≤ bCM ∧ bk s48 + ((276 : Int).toNat + (276 : Int).toNat * (4 : Int).toNat) ≤ bKM) <|
  bst (bmul s48 276 4) fun s49 =>
  bck ((bg s49 0 a0 0 = 11)) <|
  bst (bw s49 314 a0 0 (bnx s48 : Int)) fun s50 =>
  bck (((0 : Int) ≤ 276 ∧ (276 : Int) ≤ 67108864) ∧ bc s50 + 1 ≤ bCM ∧ bk s50 + (276 : Int).toNat ≤ bKM) <|
  bst (bnw s50 1003 276 (276 : Int).toNat) fun s51 =>
  bck ((bg s51 0 a0 0 = 11)) <|
  bst (bw s51 318 a0 0 (bnx s50 : Int)) fun s52 =>
  bck (((0 : Int) ≤ 5 ∧ (5 : Int) ≤ 67108864) ∧ ((0 : Int) ≤ 64 ∧ (64 : Int) ≤ 67108864) ∧ bc s52 + (1 + (5 : Int).toNat) ≤ bCM ∧ bk s52 + ((5 : Int).toNat + (5 : Int).toNat * (64 : Int).toNat) ≤ bKM) <|
  bst (bmul s52 5 64) fun s53 =>
  bck ((bg s53 0 a0 0 = 11)) <|
  bst (bw s53 322 a0 0 (bnx s52 : Int)) fun s54 =>
  bck (((0 : Int) ≤ 5 ∧ (5 : Int) ≤ 67108864) ∧ bc s54 + 1 ≤ bCM ∧ bk s54 + (5 : Int).toNat ≤ bKM) <|
  bst (bnw s54 1003 5 (5 : Int).toNat) fun s55 =>
  bck ((bg s55 0 a0 0 = 11)) <|
  bst (bw s55 326 a0 0 (bnx s54 : Int)) fun s56 =>
  bck (((0 : Int) ≤ 32 ∧ (32 : Int) ≤ 67108864) ∧ bc s56 + 1 ≤ bCM ∧ bk s56 + (32 : Int).toNat ≤ bKM) <|
  bst (bnw s56 1003 32 (32 : Int).toNat) fun s57 =>
  bck ((bg s57 0 a0 0 = 11)) <|
  bst (bw s57 330 a0 0 (bnx s56 : Int)) fun s58 =>
  bck (((0 : Int) ≤ 91 ∧ (91 : Int) ≤ 67108864) ∧ bc s58 + 1 ≤ bCM ∧ bk s58 + (91 : Int).toNat ≤ bKM) <|
  bst (bnw s58 1003 91 (91 : Int).toNat) fun s59 =>
  bck ((bg s59 0 a0 0 = 11)) <|
  bst (bw s59 334 a0 0 (bnx s58 : Int)) fun s60 =>
  bck (((0 : Int) ≤ 2 ∧ (2 : Int) ≤ 67108864) ∧ bc s60 + 1 ≤ bCM ∧ bk s60 + (2 : Int).toNat ≤ bKM) <|
  bst (bnw s60 1003 2 (2 : Int).toNat) fun s61 =>
  bck ((bg s61 0 a0 0 = 11)) <|
  bst (bw s61 338 a0 0 (bnx s60 : Int)) fun s62 =>
  some (s62, 0)
set_option maxHeartbeats 4000000 in
set_option maxRecDepth 100000 in
theorem w_X12_init (Γ0 : bG) (l0 : Launch) {s0 st' : bS} {v a0 : Int} (h : F_X12_init s0 a0 = some (st', v)) : bCt Γ0 l0 yX12_init cX12_init 1 none 1 20 [(2, a0)] s0 st' none := by
  refine b_ent (own := RX12) (by decide +kernel) rfl (Nat.le_of_ble_eq_true rfl) (L := [(0, (2, a0))]) rfl ?_
  intro κ hκ hi hf
  unfold F_X12_init at h
  refine r_aload_n hκ 0 rfl rfl dX12_init_0 ?_
  obtain ⟨h1, h⟩ := bck_i h
  refine r_oinit hκ h1 q3048 q183 q184 (by decide) (Nat.le_of_ble_eq_true rfl) dX12_init_1 ?_
  refine r_aload_n hκ 0 rfl rfl dX12_init_4 ?_
  refine r_sipush hκ (by decide) dX12_init_5 ?_
  refine r_iconst hκ dX12_init_8 ?_
  obtain ⟨⟨h2, h3, h4⟩, h⟩ := bck_i h
  refine r_multi hκ q3049 q472 h2 h3 h4 dX12_init_9 (fun s1 es1 => ?_)
  replace h := bst_i h s1 es1
  obtain ⟨h5, h⟩ := bck_i h
  refine r_putF hκ (hi.init rfl) (t := 10) (k := 0) (r := 214) (ty := (.array (.array .int))) tyX12 tyX12_ok nmX12 h5 rfl in_X12 (by decide) rfl q3051 rfl rfl rfl rfl rfl trivial (Or.inl (by decide)) dX12_init_13 (fun s2 es2 => ?_)
  replace h := bst_i h s2 es2
  refine r_aload_n hκ 0 rfl rfl dX12_init_16 ?_
  refine r_sipush hκ (by decide) dX12_init_17 ?_
  obtain ⟨⟨h6, h7⟩, h⟩ := bck_i h
  refine r_new_int hκ q472 h6 h7 dX12_init_20 (fun s3 es3 => ?_)
  replace h := bst_i h s3 es3
  obtain ⟨h8, h⟩ := bck_i h
  refine r_putF hκ (hi.init rfl) (t := 10) (k := 1) (r := 218) (ty := (.array .int)) tyX12 tyX12_ok nmX12 h8 rfl in_X12 (by decide) rfl q3052 rfl rfl rfl rfl rfl trivial (Or.inl (by decide)) dX12_init_22 (fun s4 es4 => ?_)
  replace h := bst_i h s4 es4
  refine r_aload_n hκ 0 rfl rfl dX12_init_25 ?_
  refine r_bipush hκ (by decide) dX12_init_26 ?_
  obtain ⟨⟨h9, h10⟩, h⟩ := bck_i h
  refine r_new_boolean hκ q636 h9 h10 dX12_init_28 (fun s5 es5 => ?_)
  replace h := bst_i h s5 es5
  obtain ⟨h11, h⟩ := bck_i h
  refine r_putF hκ (hi.init rfl) (t := 10) (k := 2) (r := 222) (ty := (.array .boolean)) tyX12 tyX12_ok nmX12 h11 rfl in_X12 (by decide) rfl q3053 rfl rfl rfl rfl rfl trivial (Or.inl (by decide)) dX12_init_30 (fun s6 es6 => ?_)
  replace h := bst_i h s6 es6
  refine r_aload_n hκ 0 rfl rfl dX12_init_33 ?_
  refine r_iconst hκ dX12_init_34 ?_
  refine r_bipush hκ (by decide) dX12_init_35 ?_
  obtain ⟨⟨h12, h13, h14⟩, h⟩ := bck_i h
  refine r_multi hκ q3049 q472 h12 h13 h14 dX12_init_37 (fun s7 es7 => ?_)
  replace h := bst_i h s7 es7
  obtain ⟨h15, h⟩ := bck_i h
  refine r_putF hκ (hi.init rfl) (t := 10) (k := 3) (r := 226) (ty := (.array (.array .int))) tyX12 tyX12_ok nmX12 h15 rfl in_X12 (by decide) rfl q3054 rfl rfl rfl rfl rfl trivial (Or.inl (by decide)) dX12_init_41 (fun s8 es8 => ?_)
  replace h := bst_i h s8 es8
  refine r_aload_n hκ 0 rfl rfl dX12_init_44 ?_
  refine r_iconst hκ dX12_init_45 ?_
  obtain ⟨⟨h16, h17⟩, h⟩ := bck_i h
  refine r_new_int hκ q472 h16 h17 dX12_init_46 (fun s9 es9 => ?_)
  replace h := bst_i h s9 es9
  obtain ⟨h18, h⟩ := bck_i h
  refine r_putF hκ (hi.init rfl) (t := 10) (k := 4) (r := 230) (ty := (.array .int)) tyX12 tyX12_ok nmX12 h18 rfl in_X12 (by decide) rfl q3055 rfl rfl rfl rfl rfl trivial (Or.inl (by decide)) dX12_init_48 (fun s10 es10 => ?_)
  replace h := bst_i h s10 es10
  refine r_aload_n hκ 0 rfl rfl dX12_init_51 ?_
  refine r_bipush hκ (by decide) dX12_init_52 ?_
  obtain ⟨⟨h19, h20⟩, h⟩ := bck_i h
  refine r_new_int hκ q472 h19 h20 dX12_init_54 (fun s11 es11 => ?_)
  replace h := bst_i h s11 es11
  obtain ⟨h21, h⟩ := bck_i h
  refine r_putF hκ (hi.init rfl) (t := 10) (k := 5) (r := 234) (ty := (.array .int)) tyX12 tyX12_ok nmX12 h21 rfl in_X12 (by decide) rfl q3056 rfl rfl rfl rfl rfl trivial (Or.inl (by decide)) dX12_init_56 (fun s12 es12 => ?_)
  replace h := bst_i h s12 es12
  refine r_aload_n hκ 0 rfl rfl dX12_init_59 ?_
  refine r_bipush hκ (by decide) dX12_init_60 ?_
  obtain ⟨⟨h22, h23⟩, h⟩ := bck_i h
  refine r_new_int hκ q472 h22 h23 dX12_init_62 (fun s13 es13 => ?_)
  replace h := bst_i h s13 es13
  obtain ⟨h24, h⟩ := bck_i h
  refine r_putF hκ (hi.init rfl) (t := 10) (k := 6) (r := 238) (ty := (.array .int)) tyX12 tyX12_ok nmX12 h24 rfl in_X12 (by decide) rfl q3057 rfl rfl rfl rfl rfl trivial (Or.inl (by decide)) dX12_init_64 (fun s14 es14 => ?_)
  replace h := bst_i h s14 es14
  refine r_aload_n hκ 0 rfl rfl dX12_init_67 ?_
  refine r_iconst hκ dX12_init_68 ?_
  obtain ⟨⟨h25, h26⟩, h⟩ := bck_i h
  refine r_new_int hκ q472 h25 h26 dX12_init_69 (fun s15 es15 => ?_)
  replace h := bst_i h s15 es15
  refine r_dup hκ (bd_cat2k _) dX12_init_71 ?_
  refine r_iconst hκ dX12_init_72 ?_
  refine r_iconst hκ dX12_init_73 ?_
  obtain ⟨⟨h27, h28⟩, h⟩ := bck_i h
  refine r_iast hκ h27 h28 dX12_init_74 (fun s16 es16 => ?_)
  replace h := bst_i h s16 es16
  refine r_dup hκ (bd_cat2k _) dX12_init_75 ?_
  refine r_iconst hκ dX12_init_76 ?_
  refine r_iconst hκ dX12_init_77 ?_
  obtain ⟨⟨h29, h30⟩, h⟩ := bck_i h
  refine r_iast hκ h29 h30 dX12_init_78 (fun s17 es17 => ?_)
  replace h := bst_i h s17 es17
  obtain ⟨h31, h⟩ := bck_i h
  refine r_putF hκ (hi.init rfl) (t := 10) (k := 7) (r := 242) (ty := (.array .int)) tyX12 tyX12_ok nmX12 h31 rfl in_X12 (by decide) rfl q3058 rfl rfl rfl rfl rfl trivial (Or.inl (by decide)) dX12_init_79 (fun s18 es18 => ?_)
  replace h := bst_i h s18 es18
  refine r_aload_n hκ 0 rfl rfl dX12_init_82 ?_
  refine r_bipush hκ (by decide) dX12_init_83 ?_
  obtain ⟨⟨h32, h33⟩, h⟩ := bck_i h
  refine r_new_int hκ q472 h32 h33 dX12_init_85 (fun s19 es19 => ?_)
  replace h := bst_i h s19 es19
  obtain ⟨h34, h⟩ := bck_i h
  refine r_putF hκ (hi.init rfl) (t := 10) (k := 8) (r := 246) (ty := (.array .int)) tyX12 tyX12_ok nmX12 h34 rfl in_X12 (by decide) rfl q3059 rfl rfl rfl rfl rfl trivial (Or.inl (by decide)) dX12_init_87 (fun s20 es20 => ?_)
  replace h := bst_i h s20 es20
  refine r_aload_n hκ 0 rfl rfl dX12_init_90 ?_
  refine r_iconst hκ dX12_init_91 ?_
  refine r_sipush hκ (by decide) dX12_init_92 ?_
  obtain ⟨⟨h35, h36, h37⟩, h⟩ := bck_i h
  refine r_multi hκ q3049 q472 h35 h36 h37 dX12_init_95 (fun s21 es21 => ?_)
  replace h := bst_i h s21 es21
  obtain ⟨h38, h⟩ := bck_i h
  refine r_putF hκ (hi.init rfl) (t := 10) (k := 9) (r := 250) (ty := (.array (.array .int))) tyX12 tyX12_ok nmX12 h38 rfl in_X12 (by decide) rfl q3060 rfl rfl rfl rfl rfl trivial (Or.inl (by decide)) dX12_init_99 (fun s22 es22 => ?_)
  replace h := bst_i h s22 es22
  refine r_aload_n hκ 0 rfl rfl dX12_init_102 ?_
  refine r_iconst hκ dX12_init_103 ?_
  obtain ⟨⟨h39, h40⟩, h⟩ := bck_i h
  refine r_new_int hκ q472 h39 h40 dX12_init_104 (fun s23 es23 => ?_)
  replace h := bst_i h s23 es23
  obtain ⟨h41, h⟩ := bck_i h
  refine r_putF hκ (hi.init rfl) (t := 10) (k := 10) (r := 254) (ty := (.array .int)) tyX12 tyX12_ok nmX12 h41 rfl in_X12 (by decide) rfl q3061 rfl rfl rfl rfl rfl trivial (Or.inl (by decide)) dX12_init_106 (fun s24 es24 => ?_)
  replace h := bst_i h s24 es24
  refine r_aload_n hκ 0 rfl rfl dX12_init_109 ?_
  refine r_sipush hκ (by decide) dX12_init_110 ?_
  obtain ⟨⟨h42, h43⟩, h⟩ := bck_i h
  refine r_new_int hκ q472 h42 h43 dX12_init_113 (fun s25 es25 => ?_)
  replace h := bst_i h s25 es25
  obtain ⟨h44, h⟩ := bck_i h
  refine r_putF hκ (hi.init rfl) (t := 10) (k := 11) (r := 258) (ty := (.array .int)) tyX12 tyX12_ok nmX12 h44 rfl in_X12 (by decide) rfl q3062 rfl rfl rfl rfl rfl trivial (Or.inl (by decide)) dX12_init_115 (fun s26 es26 => ?_)
  replace h := bst_i h s26 es26
  refine r_aload_n hκ 0 rfl rfl dX12_init_118 ?_
  refine r_sipush hκ (by decide) dX12_init_119 ?_
  obtain ⟨⟨h45, h46⟩, h⟩ := bck_i h
  refine r_new_int hκ q472 h45 h46 dX12_init_122 (fun s27 es27 => ?_)
  replace h := bst_i h s27 es27
  obtain ⟨h47, h⟩ := bck_i h
  refine r_putF hκ (hi.init rfl) (t := 10) (k := 12) (r := 262) (ty := (.array .int)) tyX12 tyX12_ok nmX12 h47 rfl in_X12 (by decide) rfl q3063 rfl rfl rfl rfl rfl trivial (Or.inl (by decide)) dX12_init_124 (fun s28 es28 => ?_)
  replace h := bst_i h s28 es28
  refine r_aload_n hκ 0 rfl rfl dX12_init_127 ?_
  refine r_bipush hκ (by decide) dX12_init_128 ?_
  obtain ⟨⟨h48, h49⟩, h⟩ := bck_i h
  refine r_new_int hκ q472 h48 h49 dX12_init_130 (fun s29 es29 => ?_)
  replace h := bst_i h s29 es29
  refine r_dup hκ (bd_cat2k _) dX12_init_132 ?_
  refine r_iconst hκ dX12_init_133 ?_
  refine r_iconst hκ dX12_init_134 ?_
  obtain ⟨⟨h50, h51⟩, h⟩ := bck_i h
  refine r_iast hκ h50 h51 dX12_init_135 (fun s30 es30 => ?_)
  replace h := bst_i h s30 es30
  refine r_dup hκ (bd_cat2k _) dX12_init_136 ?_
  refine r_iconst hκ dX12_init_137 ?_
  refine r_iconst hκ dX12_init_138 ?_
  obtain ⟨⟨h52, h53⟩, h⟩ := bck_i h
  refine r_iast hκ h52 h53 dX12_init_139 (fun s31 es31 => ?_)
  replace h := bst_i h s31 es31
  refine r_dup hκ (bd_cat2k _) dX12_init_140 ?_
  refine r_iconst hκ dX12_init_141 ?_
  refine r_iconst hκ dX12_init_142 ?_
  obtain ⟨⟨h54, h55⟩, h⟩ := bck_i h
  refine r_iast hκ h54 h55 dX12_init_143 (fun s32 es32 => ?_)
  replace h := bst_i h s32 es32
  refine r_dup hκ (bd_cat2k _) dX12_init_144 ?_
  refine r_iconst hκ dX12_init_145 ?_
  refine r_iconst hκ dX12_init_146 ?_
  obtain ⟨⟨h56, h57⟩, h⟩ := bck_i h
  refine r_iast hκ h56 h57 dX12_init_147 (fun s33 es33 => ?_)
  replace h := bst_i h s33 es33
  refine r_dup hκ (bd_cat2k _) dX12_init_148 ?_
  refine r_iconst hκ dX12_init_149 ?_
  refine r_iconst hκ dX12_init_150 ?_
  obtain ⟨⟨h58, h59⟩, h⟩ := bck_i h
  refine r_iast hκ h58 h59 dX12_init_151 (fun s34 es34 => ?_)
  replace h := bst_i h s34 es34
  refine r_dup hκ (bd_cat2k _) dX12_init_152 ?_
  refine r_iconst hκ dX12_init_153 ?_
  refine r_iconst hκ dX12_init_154 ?_
  obtain ⟨⟨h60, h61⟩, h⟩ := bck_i h
  refine r_iast hκ h60 h61 dX12_init_155 (fun s35 es35 => ?_)
  replace h := bst_i h s35 es35
  refine r_dup hκ (bd_cat2k _) dX12_init_156 ?_
  refine r_bipush hκ (by decide) dX12_init_157 ?_
  refine r_iconst hκ dX12_init_159 ?_
  obtain ⟨⟨h62, h63⟩, h⟩ := bck_i h
  refine r_iast hκ h62 h63 dX12_init_160 (fun s36 es36 => ?_)
  replace h := bst_i h s36 es36
  refine r_dup hκ (bd_cat2k _) dX12_init_161 ?_
  refine r_bipush hκ (by decide) dX12_init_162 ?_
  refine r_iconst hκ dX12_init_164 ?_
  obtain ⟨⟨h64, h65⟩, h⟩ := bck_i h
  refine r_iast hκ h64 h65 dX12_init_165 (fun s37 es37 => ?_)
  replace h := bst_i h s37 es37
  obtain ⟨h66, h⟩ := bck_i h
  refine r_putF hκ (hi.init rfl) (t := 10) (k := 19) (r := 290) (ty := (.array .int)) tyX12 tyX12_ok nmX12 h66 rfl in_X12 (by decide) rfl q3070 rfl rfl rfl rfl rfl trivial (Or.inl (by decide)) dX12_init_166 (fun s38 es38 => ?_)
  replace h := bst_i h s38 es38
  refine r_aload_n hκ 0 rfl rfl dX12_init_169 ?_
  refine r_bipush hκ (by decide) dX12_init_170 ?_
  obtain ⟨⟨h67, h68⟩, h⟩ := bck_i h
  refine r_new_int hκ q472 h67 h68 dX12_init_172 (fun s39 es39 => ?_)
  replace h := bst_i h s39 es39
  obtain ⟨h69, h⟩ := bck_i h
  refine r_putF hκ (hi.init rfl) (t := 10) (k := 20) (r := 294) (ty := (.array .int)) tyX12 tyX12_ok nmX12 h69 rfl in_X12 (by decide) rfl q3071 rfl rfl rfl rfl rfl trivial (Or.inl (by decide)) dX12_init_174 (fun s40 es40 => ?_)
  replace h := bst_i h s40 es40
  refine r_aload_n hκ 0 rfl rfl dX12_init_177 ?_
  refine r_sipush hκ (by decide) dX12_init_178 ?_
  obtain ⟨⟨h70, h71⟩, h⟩ := bck_i h
  refine r_new_long hκ q635 h70 h71 dX12_init_181 (fun s41 es41 => ?_)
  replace h := bst_i h s41 es41
  obtain ⟨h72, h⟩ := bck_i h
  refine r_putF hκ (hi.init rfl) (t := 10) (k := 21) (r := 298) (ty := (.array .long)) tyX12 tyX12_ok nmX12 h72 rfl in_X12 (by decide) rfl q3072 rfl rfl rfl rfl rfl trivial (Or.inl (by decide)) dX12_init_183 (fun s42 es42 => ?_)
  replace h := bst_i h s42 es42
  refine r_aload_n hκ 0 rfl rfl dX12_init_186 ?_
  refine r_bipush hκ (by decide) dX12_init_187 ?_
  obtain ⟨⟨h73, h74⟩, h⟩ := bck_i h
  refine r_new_int hκ q472 h73 h74 dX12_init_189 (fun s43 es43 => ?_)
  replace h := bst_i h s43 es43
  obtain ⟨h75, h⟩ := bck_i h
  refine r_putF hκ (hi.init rfl) (t := 10) (k := 22) (r := 302) (ty := (.array .int)) tyX12 tyX12_ok nmX12 h75 rfl in_X12 (by decide) rfl q3073 rfl rfl rfl rfl rfl trivial (Or.inl (by decide)) dX12_init_191 (fun s44 es44 => ?_)
  replace h := bst_i h s44 es44
  refine r_aload_n hκ 0 rfl rfl dX12_init_194 ?_
  refine r_bipush hκ (by decide) dX12_init_195 ?_
  obtain ⟨⟨h76, h77⟩, h⟩ := bck_i h
  refine r_new_int hκ q472 h76 h77 dX12_init_197 (fun s45 es45 => ?_)
  replace h := bst_i h s45 es45
  obtain ⟨h78, h⟩ := bck_i h
  refine r_putF hκ (hi.init rfl) (t := 10) (k := 23) (r := 306) (ty := (.array .int)) tyX12 tyX12_ok nmX12 h78 rfl in_X12 (by decide) rfl q3074 rfl rfl rfl rfl rfl trivial (Or.inl (by decide)) dX12_init_199 (fun s46 es46 => ?_)
  replace h := bst_i h s46 es46
  refine r_aload_n hκ 0 rfl rfl dX12_init_202 ?_
  refine r_bipush hκ (by decide) dX12_init_203 ?_
  obtain ⟨⟨h79, h80⟩, h⟩ := bck_i h
  refine r_new_int hκ q472 h79 h80 dX12_init_205 (fun s47 es47 => ?_)
  replace h := bst_i h s47 es47
  obtain ⟨h81, h⟩ := bck_i h
  refine r_putF hκ (hi.init rfl) (t := 10) (k := 24) (r := 310) (ty := (.array .int)) tyX12 tyX12_ok nmX12 h81 rfl in_X12 (by decide) rfl q3075 rfl rfl rfl rfl rfl trivial (Or.inl (by decide)) dX12_init_207 (fun s48 es48 => ?_)
  replace h := bst_i h s48 es48
  refine r_aload_n hκ 0 rfl rfl dX12_init_210 ?_
  refine r_sipush hκ (by decide) dX12_init_211 ?_
  refine r_iconst hκ dX12_init_214 ?_
  obtain ⟨⟨h82, h83, h84⟩, h⟩ := bck_i h
  refine r_multi hκ q3049 q472 h82 h83 h84 dX12_init_215 (fun s49 es49 => ?_)
  replace h := bst_i h s49 es49
  obtain ⟨h85, h⟩ := bck_i h
  refine r_putF hκ (hi.init rfl) (t := 10) (k := 25) (r := 314) (ty := (.array (.array .int))) tyX12 tyX12_ok nmX12 h85 rfl in_X12 (by decide) rfl q3076 rfl rfl rfl rfl rfl trivial (Or.inl (by decide)) dX12_init_219 (fun s50 es50 => ?_)
  replace h := bst_i h s50 es50
  refine r_aload_n hκ 0 rfl rfl dX12_init_222 ?_
  refine r_sipush hκ (by decide) dX12_init_223 ?_
  obtain ⟨⟨h86, h87⟩, h⟩ := bck_i h
  refine r_new_int hκ q472 h86 h87 dX12_init_226 (fun s51 es51 => ?_)
  replace h := bst_i h s51 es51
  obtain ⟨h88, h⟩ := bck_i h
  refine r_putF hκ (hi.init rfl) (t := 10) (k := 26) (r := 318) (ty := (.array .int)) tyX12 tyX12_ok nmX12 h88 rfl in_X12 (by decide) rfl q3077 rfl rfl rfl rfl rfl trivial (Or.inl (by decide)) dX12_init_228 (fun s52 es52 => ?_)
  replace h := bst_i h s52 es52
  refine r_aload_n hκ 0 rfl rfl dX12_init_231 ?_
  refine r_iconst hκ dX12_init_232 ?_
  refine r_bipush hκ (by decide) dX12_init_233 ?_
  obtain ⟨⟨h89, h90, h91⟩, h⟩ := bck_i h
  refine r_multi hκ q3049 q472 h89 h90 h91 dX12_init_235 (fun s53 es53 => ?_)
  replace h := bst_i h s53 es53
  obtain ⟨h92, h⟩ := bck_i h
  refine r_putF hκ (hi.init rfl) (t := 10) (k := 27) (r := 322) (ty := (.array (.array .int))) tyX12 tyX12_ok nmX12 h92 rfl in_X12 (by decide) rfl q3078 rfl rfl rfl rfl rfl trivial (Or.inl (by decide)) dX12_init_239 (fun s54 es54 => ?_)
  replace h := bst_i h s54 es54
  refine r_aload_n hκ 0 rfl rfl dX12_init_242 ?_
  refine r_iconst hκ dX12_init_243 ?_
  obtain ⟨⟨h93, h94⟩, h⟩ := bck_i h
  refine r_new_int hκ q472 h93 h94 dX12_init_244 (fun s55 es55 => ?_)
  replace h := bst_i h s55 es55
  obtain ⟨h95, h⟩ := bck_i h
  refine r_putF hκ (hi.init rfl) (t := 10) (k := 28) (r := 326) (ty := (.array .int)) tyX12 tyX12_ok nmX12 h95 rfl in_X12 (by decide) rfl q3079 rfl rfl rfl rfl rfl trivial (Or.inl (by decide)) dX12_init_246 (fun s56 es56 => ?_)
  replace h := bst_i h s56 es56
  refine r_aload_n hκ 0 rfl rfl dX12_init_249 ?_
  refine r_bipush hκ (by decide) dX12_init_250 ?_
  obtain ⟨⟨h96, h97⟩, h⟩ := bck_i h
  refine r_new_int hκ q472 h96 h97 dX12_init_252 (fun s57 es57 => ?_)
  replace h := bst_i h s57 es57
  obtain ⟨h98, h⟩ := bck_i h
  refine r_putF hκ (hi.init rfl) (t := 10) (k := 29) (r := 330) (ty := (.array .int)) tyX12 tyX12_ok nmX12 h98 rfl in_X12 (by decide) rfl q3080 rfl rfl rfl rfl rfl trivial (Or.inl (by decide)) dX12_init_254 (fun s58 es58 => ?_)
  replace h := bst_i h s58 es58
  refine r_aload_n hκ 0 rfl rfl dX12_init_257 ?_
  refine r_bipush hκ (by decide) dX12_init_258 ?_
  obtain ⟨⟨h99, h100⟩, h⟩ := bck_i h
  refine r_new_int hκ q472 h99 h100 dX12_init_260 (fun s59 es59 => ?_)
  replace h := bst_i h s59 es59
  obtain ⟨h101, h⟩ := bck_i h
  refine r_putF hκ (hi.init rfl) (t := 10) (k := 30) (r := 334) (ty := (.array .int)) tyX12 tyX12_ok nmX12 h101 rfl in_X12 (by decide) rfl q3081 rfl rfl rfl rfl rfl trivial (Or.inl (by decide)) dX12_init_262 (fun s60 es60 => ?_)
  replace h := bst_i h s60 es60
  refine r_aload_n hκ 0 rfl rfl dX12_init_265 ?_
  refine r_iconst hκ dX12_init_266 ?_
  obtain ⟨⟨h102, h103⟩, h⟩ := bck_i h
  refine r_new_int hκ q472 h102 h103 dX12_init_267 (fun s61 es61 => ?_)
  replace h := bst_i h s61 es61
  obtain ⟨h104, h⟩ := bck_i h
  refine r_putF hκ (hi.init rfl) (t := 10) (k := 31) (r := 338) (ty := (.array .int)) tyX12 tyX12_ok nmX12 h104 rfl in_X12 (by decide) rfl q3082 rfl rfl rfl rfl rfl trivial (Or.inl (by decide)) dX12_init_269 (fun s62 es62 => ?_)
  replace h := bst_i h s62 es62
  exact r_vretH hκ hf h dX12_init_272
/-- EditsMeetModel.in(JJJ)Z -/
def F_X12_in (s0 : bS) (a0 a1 a2 : Int) : Option (bS × Int) :=
  bte (i32 (b_lcmp a0 a1) < 0)
  (some (s0, 0))
  (bte (0 < i32 (b_lcmp a0 a2))
  (some (s0, 0))
  (some (s0, 1)))
set_option maxHeartbeats 4000000 in
set_option maxRecDepth 100000 in
theorem w_X12_in (Γ0 : bG) (l0 : Launch) {s0 st' : bS} {v a0 a1 a2 : Int} (h : F_X12_in s0 a0 a1 a2 = some (st', v)) : bCt Γ0 l0 yX12_in cX12_in 6 (some .boolean) 0 0 [(1, a0), (1, a1), (1, a2)] s0 st' (some (0, v)) := by
  refine b_ent (own := RX12) (by decide +kernel) rfl (Nat.le_of_ble_eq_true rfl) (L := [(0, (1, a0)), (2, (1, a1)), (4, (1, a2))]) rfl ?_
  intro κ hκ hi hf
  unfold F_X12_in at h
  refine r_lload_n hκ 0 rfl rfl dX12_in_0 ?_
  refine r_lload_n hκ 1 rfl rfl dX12_in_1 ?_
  refine r_lcmp hκ dX12_in_2 ?_
  refine r_if_lt hκ (tgt := 17) (by decide) dX12_in_3 (fun h1 => ?_) (fun h1 => ?_)
  · replace h := (bte_i h).1 h1
    refine r_iconst hκ dX12_in_17 ?_
    exact r_iretH hκ hf h (nar_bool (by decide)) dX12_in_18
  · replace h := (bte_i h).2 h1
    refine r_lload_n hκ 0 rfl rfl dX12_in_6 ?_
    refine r_lload hκ 2 rfl dX12_in_7 ?_
    refine r_lcmp hκ dX12_in_9 ?_
    refine r_if_gt hκ (tgt := 17) (by decide) dX12_in_10 (fun h2 => ?_) (fun h2 => ?_)
    · replace h := (bte_i h).1 h2
      refine r_iconst hκ dX12_in_17 ?_
      exact r_iretH hκ hf h (nar_bool (by decide)) dX12_in_18
    · replace h := (bte_i h).2 h2
      refine r_iconst hκ dX12_in_13 ?_
      refine r_goto hκ (tgt := 18) (by decide) dX12_in_14 ?_
      exact r_iretH hκ hf h (nar_bool (by decide)) dX12_in_18
/-- EditsMeetModel.refused(I)I -/
def F_X12_refused (s0 : bS) (a0 a1 : Int) : Option (bS × Int) :=
  bck (bg s0 0 a0 0 = 11) <|
  bck (bg s0 0 (bg s0 246 a0 0) 0 = 1003 ∧ (0 : Int) ≤ (- a1) ∧ (- a1) < bg s0 4 (bg s0 246 a0 0) 0) <|
  bck (bg s0 0 (bg s0 246 a0 0) 0 = 1003 ∧ (0 : Int) ≤ (- a1) ∧ (- a1) < bg s0 4 (bg s0 246 a0 0) 0) <|
  bst (bw s0 20 (bg s0 246 a0 0) (- a1) ((bg s0 20 (bg s0 246 a0 0) (- a1)) + 1)) fun s1 =>
  some (s1, a1)
set_option maxHeartbeats 4000000 in
set_option maxRecDepth 100000 in
theorem w_X12_refused (Γ0 : bG) (l0 : Launch) {s0 st' : bS} {v a0 a1 : Int} (h : F_X12_refused s0 a0 a1 = some (st', v)) : bCt Γ0 l0 yX12_refused cX12_refused 2 (some .int) 0 0 [(2, a0), (0, a1)] s0 st' (some (0, v)) := by
  refine b_ent (own := RX12) (by decide +kernel) rfl (Nat.le_of_ble_eq_true rfl) (L := [(0, (2, a0)), (1, (0, a1))]) rfl ?_
  intro κ hκ hi hf
  unfold F_X12_refused at h
  refine r_aload_n hκ 0 rfl rfl dX12_refused_0 ?_
  obtain ⟨h1, h⟩ := bck_i h
  refine r_get hκ (t := 10) (k := 8) (r := 246) h1 rfl in_X12 (by decide) rfl q3059 (Or.inl rfl) dX12_refused_1 ?_
  refine r_iload_n hκ 1 rfl rfl dX12_refused_4 ?_
  refine r_ineg hκ dX12_refused_5 ?_
  refine r_dup2 hκ (bd_cat0k _) (bd_cat2k _) dX12_refused_6 ?_
  obtain ⟨⟨h2, h3⟩, h⟩ := bck_i h
  refine r_iald hκ h2 h3 dX12_refused_7 ?_
  refine r_iconst hκ dX12_refused_8 ?_
  refine r_iadd hκ dX12_refused_9 ?_
  obtain ⟨⟨h4, h5⟩, h⟩ := bck_i h
  refine r_iast hκ h4 h5 dX12_refused_10 (fun s1 es1 => ?_)
  replace h := bst_i h s1 es1
  refine r_iload_n hκ 1 rfl rfl dX12_refused_11 ?_
  exact r_iretH hκ hf h (nar_int _) dX12_refused_12
/-- EditsMeetModel.feed(I)I -/
def F_X12_feed (s0 : bS) (a0 a1 : Int) : Option (bS × Int) :=
  bcl (F_X12_in s0 (b_i2l a1) 0 255) fun s1 v1 =>
  bte (i32 v1 = 0)
  (bck (bg s1 0 a0 0 = 11) <|
  bcl (F_X12_refused s1 a0 (-2)) fun s5 v3 =>
  some (s5, v3))
  (bck (bg s1 0 a0 0 = 11) <|
  bte (i32 (bg s1 264 a0 0) = i32 250)
  (bck (bg s1 0 a0 0 = 11) <|
  bcl (F_X12_refused s1 a0 (-6)) fun s4 v2 =>
  some (s4, v2))
  (bck (bg s1 0 a0 0 = 11) <|
  bck (bg s1 0 a0 0 = 11) <|
  bck (bg s1 0 (bg s1 262 a0 0) 0 = 1003 ∧ (0 : Int) ≤ (bg s1 264 a0 0) ∧ (bg s1 264 a0 0) < bg s1 4 (bg s1 262 a0 0) 0) <|
  bst (bw s1 20 (bg s1 262 a0 0) (bg s1 264 a0 0) a1) fun s2 =>
  bck (bg s2 0 a0 0 = 11) <|
  bck ((bg s2 0 a0 0 = 11)) <|
  bst (bw s2 264 a0 0 ((bg s2 264 a0 0) + 1)) fun s3 =>
  bck (bg s3 0 a0 0 = 11) <|
  some (s3, (bg s3 264 a0 0))))
set_option maxHeartbeats 4000000 in
set_option maxRecDepth 100000 in
theorem w_X12_feed (Γ0 : bG) (l0 : Launch) {s0 st' : bS} {v a0 a1 : Int} (h : F_X12_feed s0 a0 a1 = some (st', v)) : bCt Γ0 l0 yX12_feed cX12_feed 2 (some .int) 1 25 [(2, a0), (0, a1)] s0 st' (some (0, v)) := by
  refine b_ent (own := RX12) (by decide +kernel) rfl (Nat.le_of_ble_eq_true rfl) (L := [(0, (2, a0)), (1, (0, a1))]) rfl ?_
  intro κ hκ hi hf
  unfold F_X12_feed at h
  refine r_iload_n hκ 1 rfl rfl dX12_feed_0 ?_
  refine r_i2l hκ dX12_feed_1 ?_
  refine r_lconst hκ (x := 0) (by decide) dX12_feed_2 ?_
  refine r_ldcl hκ (x := 255) q3155 (by decide) dX12_feed_3 ?_
  obtain ⟨s1, v1, h1, h⟩ := bcl_i h
  refine r_callS hκ (n' := 3) (index := 175) (w_X12_in Γ0 l0 h1) (lw_S q3156 q3157 q146 q3158) (by decide +kernel) rfl (by decide) rfl (Nat.le_of_ble_eq_true rfl) dX12_feed_6 ?_
  refine r_if_ne hκ (tgt := 19) (by decide) dX12_feed_9 (fun h2 => ?_) (fun h2 => ?_)
  · replace h := (bte_i h).2 h2
    refine r_aload_n hκ 0 rfl rfl dX12_feed_19 ?_
    obtain ⟨h3, h⟩ := bck_i h
    refine r_get hκ (t := 10) (k := 13) (r := 264) h3 rfl in_X12 (by decide) rfl q3064 (Or.inl rfl) dX12_feed_20 ?_
    refine r_sipush hκ (by decide) dX12_feed_23 ?_
    refine r_icmp_ne hκ (tgt := 36) (by decide) dX12_feed_26 (fun h4 => ?_) (fun h4 => ?_)
    · replace h := (bte_i h).2 h4
      refine r_aload_n hκ 0 rfl rfl dX12_feed_36 ?_
      obtain ⟨h5, h⟩ := bck_i h
      refine r_get hκ (t := 10) (k := 12) (r := 262) h5 rfl in_X12 (by decide) rfl q3063 (Or.inl rfl) dX12_feed_37 ?_
      refine r_aload_n hκ 0 rfl rfl dX12_feed_40 ?_
      obtain ⟨h6, h⟩ := bck_i h
      refine r_get hκ (t := 10) (k := 13) (r := 264) h6 rfl in_X12 (by decide) rfl q3064 (Or.inl rfl) dX12_feed_41 ?_
      refine r_iload_n hκ 1 rfl rfl dX12_feed_44 ?_
      obtain ⟨⟨h7, h8⟩, h⟩ := bck_i h
      refine r_iast hκ h7 h8 dX12_feed_45 (fun s2 es2 => ?_)
      replace h := bst_i h s2 es2
      refine r_aload_n hκ 0 rfl rfl dX12_feed_46 ?_
      refine r_dup hκ (bd_cat2k _) dX12_feed_47 ?_
      obtain ⟨h9, h⟩ := bck_i h
      refine r_get hκ (t := 10) (k := 13) (r := 264) h9 rfl in_X12 (by decide) rfl q3064 (Or.inl rfl) dX12_feed_48 ?_
      refine r_iconst hκ dX12_feed_51 ?_
      refine r_iadd hκ dX12_feed_52 ?_
      obtain ⟨h10, h⟩ := bck_i h
      refine r_put hκ (t := 10) (k := 13) (r := 264) (ty := .int) tyX12 tyX12_ok nmX12 h10 rfl in_X12 (by decide) rfl q3064 (Or.inl rfl) rfl rfl rfl trivial (Or.inl (by decide)) dX12_feed_53 (fun s3 es3 => ?_)
      replace h := bst_i h s3 es3
      refine r_aload_n hκ 0 rfl rfl dX12_feed_56 ?_
      obtain ⟨h11, h⟩ := bck_i h
      refine r_get hκ (t := 10) (k := 13) (r := 264) h11 rfl in_X12 (by decide) rfl q3064 (Or.inl rfl) dX12_feed_57 ?_
      exact r_iretH hκ hf h (nar_int _) dX12_feed_60
    · replace h := (bte_i h).1 h4
      refine r_aload_n hκ 0 rfl rfl dX12_feed_29 ?_
      refine r_bipush hκ (by decide) dX12_feed_30 ?_
      obtain ⟨h12, h⟩ := bck_i h
      obtain ⟨s4, v2, h13, h⟩ := bcl_i h
      refine r_callV hκ (n' := 1) (index := 183) (w_X12_refused Γ0 l0 h13) (lw_V q3159 q3161 qs73 q146 q3162) (by decide +kernel) (t := 10) h12 rfl rfl (by decide) rfl (Nat.le_of_ble_eq_true rfl) dX12_feed_32 ?_
      exact r_iretH hκ hf h (nar_int _) dX12_feed_35
  · replace h := (bte_i h).1 h2
    refine r_aload_n hκ 0 rfl rfl dX12_feed_12 ?_
    refine r_bipush hκ (by decide) dX12_feed_13 ?_
    obtain ⟨h14, h⟩ := bck_i h
    obtain ⟨s5, v3, h15, h⟩ := bcl_i h
    refine r_callV hκ (n' := 1) (index := 183) (w_X12_refused Γ0 l0 h15) (lw_V q3159 q3161 qs73 q146 q3162) (by decide +kernel) (t := 10) h14 rfl rfl (by decide) rfl (Nat.le_of_ble_eq_true rfl) dX12_feed_15 ?_
    exact r_iretH hκ hf h (nar_int _) dX12_feed_18
/-- EditsMeetModel.wipe()I -/
def F_X12_wipe (s0 : bS) (a0 : Int) : Option (bS × Int) :=
  bck (bg s0 0 a0 0 = 11) <|
  bck ((bg s0 0 a0 0 = 11)) <|
  bst (bw s0 264 a0 0 0) fun s1 =>
  some (s1, (bg s0 264 a0 0))
set_option maxHeartbeats 4000000 in
set_option maxRecDepth 100000 in
theorem w_X12_wipe (Γ0 : bG) (l0 : Launch) {s0 st' : bS} {v a0 : Int} (h : F_X12_wipe s0 a0 = some (st', v)) : bCt Γ0 l0 yX12_wipe cX12_wipe 2 (some .int) 0 0 [(2, a0)] s0 st' (some (0, v)) := by
  refine b_ent (own := RX12) (by decide +kernel) rfl (Nat.le_of_ble_eq_true rfl) (L := [(0, (2, a0))]) rfl ?_
  intro κ hκ hi hf
  unfold F_X12_wipe at h
  refine r_aload_n hκ 0 rfl rfl dX12_wipe_0 ?_
  obtain ⟨h1, h⟩ := bck_i h
  refine r_get hκ (t := 10) (k := 13) (r := 264) h1 rfl in_X12 (by decide) rfl q3064 (Or.inl rfl) dX12_wipe_1 ?_
  refine r_istore_n hκ (L2 := [(1, (0, (bg s0 264 a0 0))), (0, (2, a0))]) (by decide) rfl rfl dX12_wipe_4 ?_
  refine r_aload_n hκ 1 rfl rfl dX12_wipe_5 ?_
  refine r_iconst hκ dX12_wipe_6 ?_
  obtain ⟨h2, h⟩ := bck_i h
  refine r_put hκ (t := 10) (k := 13) (r := 264) (ty := .int) tyX12 tyX12_ok nmX12 h2 rfl in_X12 (by decide) rfl q3064 (Or.inl rfl) rfl rfl rfl trivial (Or.inl (by decide)) dX12_wipe_7 (fun s1 es1 => ?_)
  replace h := bst_i h s1 es1
  refine r_iload_n hκ 0 rfl rfl dX12_wipe_10 ?_
  exact r_iretH hκ hf h (nar_int _) dX12_wipe_11
/-- EditsMeetModel.grown([II)[I -/
def F_X12_grown_r (b : Nat) (x0 x1 x2 : Int) (s0 : bS) : Option (bS × Int) :=
  match b with
  | 0 =>
    bck (bg s0 0 x0 0 = 1003) <|
    bte (i32 (bg s0 4 x0 0) ≤ i32 x2)
    (some (s0, x1))
    (bck (bg s0 0 x0 0 = 1003 ∧ (0 : Int) ≤ x2 ∧ x2 < bg s0 4 x0 0) <|
    bck (bg s0 0 x1 0 = 1003 ∧ (0 : Int) ≤ x2 ∧ x2 < bg s0 4 x1 0) <|
    bst (bw s0 20 x1 x2 (bg s0 20 x0 x2)) fun s2 =>
    F_X12_grown_r 0 x0 x1 (x2 + 1) s2)
  | _ => none
partial_fixpoint
def F_X12_grown (s0 : bS) (a0 a1 : Int) : Option (bS × Int) :=
  bck (bg s0 0 a0 0 = 1003) <|
  bte (i32 (bg s0 4 a0 0) < i32 a1)
  (bck (((0 : Int) ≤ (2 * a1) ∧ ((2 * a1) : Int) ≤ 67108864) ∧ bc s0 + 1 ≤ bCM ∧ bk s0 + ((2 * a1) : Int).toNat ≤ bKM) <|
  bst (bnw s0 1003 (2 * a1) ((2 * a1) : Int).toNat) fun s1 =>
  F_X12_grown_r 0 a0 (bnx s0 : Int) 0 s1)
  (some (s0, a0))
set_option maxHeartbeats 4000000 in
set_option maxRecDepth 100000 in
set_option synthInstance.maxHeartbeats 4000000 in
theorem w_X12_grown_r {Γ0 : bG} {l0 : Launch} {κ : bK} {st' : bS} {v : Int} (hκ : bOk κ Γ0 l0 cX12_grown RX12 4 0 0) (hi : bIn κ yX12_grown) (hf : bFin κ (some (.array .int)) st' (some (2, v))) (b : Nat) (x0 x1 x2 : Int) (s0 : bS) (h : F_X12_grown_r b x0 x1 x2 s0 = some (st', v)) : match (generalizing := false) b with | 0 => bJ κ s0 16 [(0, (2, x0)), (2, (2, x1)), (3, (0, x2))] [] | _ => True := by
  refine F_X12_grown_r.partial_correctness x0 x1 (fun b x2 s0 r => r = (st', v) → match (generalizing := false) b with | 0 => bJ κ s0 16 [(0, (2, x0)), (2, (2, x1)), (3, (0, x2))] [] | _ => True) ?_ b x2 s0 _ h rfl
  intro f' ih b x2 s0 r h hr
  subst hr
  match b, h with
  | 0, h =>
      refine r_iload_n hκ 2 rfl rfl dX12_grown_16 ?_
      refine r_aload_n hκ 0 rfl rfl dX12_grown_17 ?_
      obtain ⟨h5, h⟩ := bck_i h
      refine r_alen hκ (t := 3) h5 rfl dX12_grown_18 ?_
      refine r_icmp_ge hκ (tgt := 34) (by decide) dX12_grown_19 (fun h6 => ?_) (fun h6 => ?_)
      · replace h := (bte_i h).1 h6
        refine r_aload_n hκ 1 rfl rfl dX12_grown_34 ?_
        exact r_aretH hκ hf h rt_a dX12_grown_35
      · replace h := (bte_i h).2 h6
        refine r_aload_n hκ 1 rfl rfl dX12_grown_22 ?_
        refine r_iload_n hκ 2 rfl rfl dX12_grown_23 ?_
        refine r_aload_n hκ 0 rfl rfl dX12_grown_24 ?_
        refine r_iload_n hκ 2 rfl rfl dX12_grown_25 ?_
        obtain ⟨⟨h7, h8⟩, h⟩ := bck_i h
        refine r_iald hκ h7 h8 dX12_grown_26 ?_
        obtain ⟨⟨h9, h10⟩, h⟩ := bck_i h
        refine r_iast hκ h9 h10 dX12_grown_27 (fun s2 es2 => ?_)
        replace h := bst_i h s2 es2
        refine r_iinc hκ (L2 := [(3, (0, (x2 + 1))), (0, (2, x0)), (2, (2, x1))]) 2 rfl (by decide) rfl dX12_grown_28 ?_
        refine r_goto hκ (tgt := 16) (by decide) dX12_grown_31 ?_
        exact r_sub [1, 2, 0] rfl (ih 0 _ _ _ h rfl)
  | b + 1, h => trivial
set_option maxHeartbeats 4000000 in
set_option maxRecDepth 100000 in
theorem w_X12_grown (Γ0 : bG) (l0 : Launch) {s0 st' : bS} {v a0 a1 : Int} (h : F_X12_grown s0 a0 a1 = some (st', v)) : bCt Γ0 l0 yX12_grown cX12_grown 4 (some (.array .int)) 0 0 [(2, a0), (0, a1)] s0 st' (some (2, v)) := by
  refine b_ent (own := RX12) (by decide +kernel) rfl (Nat.le_of_ble_eq_true rfl) (L := [(0, (2, a0)), (1, (0, a1))]) rfl ?_
  intro κ hκ hi hf
  unfold F_X12_grown at h
  refine r_iload_n hκ 1 rfl rfl dX12_grown_0 ?_
  refine r_aload_n hκ 0 rfl rfl dX12_grown_1 ?_
  obtain ⟨h1, h⟩ := bck_i h
  refine r_alen hκ (t := 3) h1 rfl dX12_grown_2 ?_
  refine r_icmp_gt hκ (tgt := 8) (by decide) dX12_grown_3 (fun h2 => ?_) (fun h2 => ?_)
  · replace h := (bte_i h).1 h2
    refine r_iconst hκ dX12_grown_8 ?_
    refine r_iload_n hκ 1 rfl rfl dX12_grown_9 ?_
    refine r_imul hκ dX12_grown_10 ?_
    obtain ⟨⟨h3, h4⟩, h⟩ := bck_i h
    refine r_new_int hκ q472 h3 h4 dX12_grown_11 (fun s1 es1 => ?_)
    replace h := bst_i h s1 es1
    refine r_astore_n hκ (L2 := [(2, (2, (bnx s0 : Int))), (0, (2, a0)), (1, (0, a1))]) (by decide) rfl rfl dX12_grown_13 ?_
    refine r_iconst hκ dX12_grown_14 ?_
    refine r_istore_n hκ (L2 := [(3, (0, 0)), (2, (2, (bnx s0 : Int))), (0, (2, a0)), (1, (0, a1))]) (by decide) rfl rfl dX12_grown_15 ?_
    exact r_sub [2, 1, 0] rfl (w_X12_grown_r hκ hi hf 0 _ _ _ _ h)
  · replace h := (bte_i h).2 h2
    refine r_aload_n hκ 0 rfl rfl dX12_grown_6 ?_
    exact r_aretH hκ hf h rt_a dX12_grown_7
/-- EditsMeetModel.keepsRow(II)V -/
def F_X12_keepsRow_r (b : Nat) (x0 x1 x2 x3 : Int) (s0 : bS) : Option (bS × Int) :=
  match b with
  | 0 =>
    bck (bg s0 0 x0 0 = 11) <|
    bck (bg s0 0 (bg s0 254 x0 0) 0 = 1003 ∧ (0 : Int) ≤ x2 ∧ x2 < bg s0 4 (bg s0 254 x0 0) 0) <|
    bte (i32 (bg s0 20 (bg s0 254 x0 0) x2) ≤ i32 x3)
    (bck (bg s0 0 x0 0 = 11) <|
    bck (bg s0 0 x0 0 = 11) <|
    bck (bg s0 0 (bg s0 254 x0 0) 0 = 1003 ∧ (0 : Int) ≤ x2 ∧ x2 < bg s0 4 (bg s0 254 x0 0) 0) <|
    bck (bg s0 0 (bg s0 218 x0 0) 0 = 1003 ∧ (0 : Int) ≤ x1 ∧ x1 < bg s0 4 (bg s0 218 x0 0) 0) <|
    bst (bw s0 20 (bg s0 218 x0 0) x1 (bg s0 20 (bg s0 254 x0 0) x2)) fun s3 =>
    some (s3, 0))
    (bck (bg s0 0 x0 0 = 11) <|
    bck (bg s0 0 (bg s0 214 x0 0) 0 = 1010 ∧ (0 : Int) ≤ x1 ∧ x1 < bg s0 4 (bg s0 214 x0 0) 0) <|
    bck (bg s0 0 x0 0 = 11) <|
    bck (bg s0 0 (bg s0 250 x0 0) 0 = 1010 ∧ (0 : Int) ≤ x2 ∧ x2 < bg s0 4 (bg s0 250 x0 0) 0) <|
    bck (bg s0 0 (bg s0 10 (bg s0 250 x0 0) x2) 0 = 1003 ∧ (0 : Int) ≤ x3 ∧ x3 < bg s0 4 (bg s0 10 (bg s0 250 x0 0) x2) 0) <|
    bck (bg s0 0 (bg s0 10 (bg s0 214 x0 0) x1) 0 = 1003 ∧ (0 : Int) ≤ x3 ∧ x3 < bg s0 4 (bg s0 10 (bg s0 214 x0 0) x1) 0) <|
    bst (bw s0 20 (bg s0 10 (bg s0 214 x0 0) x1) x3 (bg s0 20 (bg s0 10 (bg s0 250 x0 0) x2) x3)) fun s4 =>
    F_X12_keepsRow_r 0 x0 x1 x2 (x3 + 1) s4)
  | _ => none
partial_fixpoint
def F_X12_keepsRow (s0 : bS) (a0 a1 a2 : Int) : Option (bS × Int) :=
  bck (bg s0 0 a0 0 = 11) <|
  bck (bg s0 0 a0 0 = 11) <|
  bck (bg s0 0 (bg s0 214 a0 0) 0 = 1010 ∧ (0 : Int) ≤ a1 ∧ a1 < bg s0 4 (bg s0 214 a0 0) 0) <|
  bck (bg s0 0 a0 0 = 11) <|
  bck (bg s0 0 (bg s0 254 a0 0) 0 = 1003 ∧ (0 : Int) ≤ a2 ∧ a2 < bg s0 4 (bg s0 254 a0 0) 0) <|
  bcl (F_X12_grown s0 (bg s0 10 (bg s0 214 a0 0) a1) (bg s0 20 (bg s0 254 a0 0) a2)) fun s1 v1 =>
  bck ((bg s1 0 (bg s0 214 a0 0) 0 = 1010 ∧ (0 : Int) ≤ a1 ∧ a1 < bg s1 4 (bg s0 214 a0 0) 0) ∧ bg s1 0 v1 0 = 1003) <|
  bst (bw s1 10 (bg s0 214 a0 0) a1 v1) fun s2 =>
  F_X12_keepsRow_r 0 a0 a1 a2 0 s2
set_option maxHeartbeats 4000000 in
set_option maxRecDepth 100000 in
set_option synthInstance.maxHeartbeats 4000000 in
theorem w_X12_keepsRow_r {Γ0 : bG} {l0 : Launch} {κ : bK} {st' : bS} {v : Int} (hκ : bOk κ Γ0 l0 cX12_keepsRow RX12 4 1 23) (hi : bIn κ yX12_keepsRow) (hf : bFin κ none st' none) (b : Nat) (x0 x1 x2 x3 : Int) (s0 : bS) (h : F_X12_keepsRow_r b x0 x1 x2 x3 s0 = some (st', v)) : match (generalizing := false) b with | 0 => bJ κ s0 23 [(0, (2, x0)), (1, (0, x1)), (2, (0, x2)), (3, (0, x3))] [] | _ => True := by
  refine F_X12_keepsRow_r.partial_correctness x0 x1 x2 (fun b x3 s0 r => r = (st', v) → match (generalizing := false) b with | 0 => bJ κ s0 23 [(0, (2, x0)), (1, (0, x1)), (2, (0, x2)), (3, (0, x3))] [] | _ => True) ?_ b x3 s0 _ h rfl
  intro f' ih b x3 s0 r h hr
  subst hr
  match b, h with
  | 0, h =>
      refine r_iload_n hκ 3 rfl rfl dX12_keepsRow_23 ?_
      refine r_aload_n hκ 0 rfl rfl dX12_keepsRow_24 ?_
      obtain ⟨h12, h⟩ := bck_i h
      refine r_get hκ (t := 10) (k := 10) (r := 254) h12 rfl in_X12 (by decide) rfl q3061 (Or.inl rfl) dX12_keepsRow_25 ?_
      refine r_iload_n hκ 2 rfl rfl dX12_keepsRow_28 ?_
      obtain ⟨⟨h13, h14⟩, h⟩ := bck_i h
      refine r_iald hκ h13 h14 dX12_keepsRow_29 ?_
      refine r_icmp_ge hκ (tgt := 55) (by decide) dX12_keepsRow_30 (fun h15 => ?_) (fun h15 => ?_)
      · replace h := (bte_i h).1 h15
        refine r_aload_n hκ 0 rfl rfl dX12_keepsRow_55 ?_
        obtain ⟨h16, h⟩ := bck_i h
        refine r_get hκ (t := 10) (k := 1) (r := 218) h16 rfl in_X12 (by decide) rfl q3052 (Or.inl rfl) dX12_keepsRow_56 ?_
        refine r_iload_n hκ 1 rfl rfl dX12_keepsRow_59 ?_
        refine r_aload_n hκ 0 rfl rfl dX12_keepsRow_60 ?_
        obtain ⟨h17, h⟩ := bck_i h
        refine r_get hκ (t := 10) (k := 10) (r := 254) h17 rfl in_X12 (by decide) rfl q3061 (Or.inl rfl) dX12_keepsRow_61 ?_
        refine r_iload_n hκ 2 rfl rfl dX12_keepsRow_64 ?_
        obtain ⟨⟨h18, h19⟩, h⟩ := bck_i h
        refine r_iald hκ h18 h19 dX12_keepsRow_65 ?_
        obtain ⟨⟨h20, h21⟩, h⟩ := bck_i h
        refine r_iast hκ h20 h21 dX12_keepsRow_66 (fun s3 es3 => ?_)
        replace h := bst_i h s3 es3
        exact r_vretH hκ hf h dX12_keepsRow_67
      · replace h := (bte_i h).2 h15
        refine r_aload_n hκ 0 rfl rfl dX12_keepsRow_33 ?_
        obtain ⟨h22, h⟩ := bck_i h
        refine r_get hκ (t := 10) (k := 0) (r := 214) h22 rfl in_X12 (by decide) rfl q3051 (Or.inl rfl) dX12_keepsRow_34 ?_
        refine r_iload_n hκ 1 rfl rfl dX12_keepsRow_37 ?_
        obtain ⟨⟨h23, h24⟩, h⟩ := bck_i h
        refine r_aald hκ (t := 10) (by decide) h23 h24 dX12_keepsRow_38 ?_
        refine r_iload_n hκ 3 rfl rfl dX12_keepsRow_39 ?_
        refine r_aload_n hκ 0 rfl rfl dX12_keepsRow_40 ?_
        obtain ⟨h25, h⟩ := bck_i h
        refine r_get hκ (t := 10) (k := 9) (r := 250) h25 rfl in_X12 (by decide) rfl q3060 (Or.inl rfl) dX12_keepsRow_41 ?_
        refine r_iload_n hκ 2 rfl rfl dX12_keepsRow_44 ?_
        obtain ⟨⟨h26, h27⟩, h⟩ := bck_i h
        refine r_aald hκ (t := 10) (by decide) h26 h27 dX12_keepsRow_45 ?_
        refine r_iload_n hκ 3 rfl rfl dX12_keepsRow_46 ?_
        obtain ⟨⟨h28, h29⟩, h⟩ := bck_i h
        refine r_iald hκ h28 h29 dX12_keepsRow_47 ?_
        obtain ⟨⟨h30, h31⟩, h⟩ := bck_i h
        refine r_iast hκ h30 h31 dX12_keepsRow_48 (fun s4 es4 => ?_)
        replace h := bst_i h s4 es4
        refine r_iinc hκ (L2 := [(3, (0, (x3 + 1))), (0, (2, x0)), (1, (0, x1)), (2, (0, x2))]) 3 rfl (by decide) rfl dX12_keepsRow_49 ?_
        refine r_goto hκ (tgt := 23) (by decide) dX12_keepsRow_52 ?_
        exact r_sub [1, 2, 3, 0] rfl (ih 0 _ _ _ h rfl)
  | b + 1, h => trivial
set_option maxHeartbeats 4000000 in
set_option maxRecDepth 100000 in
theorem w_X12_keepsRow (Γ0 : bG) (l0 : Launch) {s0 st' : bS} {v a0 a1 a2 : Int} (h : F_X12_keepsRow s0 a0 a1 a2 = some (st', v)) : bCt Γ0 l0 yX12_keepsRow cX12_keepsRow 4 none 1 23 [(2, a0), (0, a1), (0, a2)] s0 st' none := by
  refine b_ent (own := RX12) (by decide +kernel) rfl (Nat.le_of_ble_eq_true rfl) (L := [(0, (2, a0)), (1, (0, a1)), (2, (0, a2))]) rfl ?_
  intro κ hκ hi hf
  unfold F_X12_keepsRow at h
  refine r_aload_n hκ 0 rfl rfl dX12_keepsRow_0 ?_
  obtain ⟨h1, h⟩ := bck_i h
  refine r_get hκ (t := 10) (k := 0) (r := 214) h1 rfl in_X12 (by decide) rfl q3051 (Or.inl rfl) dX12_keepsRow_1 ?_
  refine r_iload_n hκ 1 rfl rfl dX12_keepsRow_4 ?_
  refine r_aload_n hκ 0 rfl rfl dX12_keepsRow_5 ?_
  obtain ⟨h2, h⟩ := bck_i h
  refine r_get hκ (t := 10) (k := 0) (r := 214) h2 rfl in_X12 (by decide) rfl q3051 (Or.inl rfl) dX12_keepsRow_6 ?_
  refine r_iload_n hκ 1 rfl rfl dX12_keepsRow_9 ?_
  obtain ⟨⟨h3, h4⟩, h⟩ := bck_i h
  refine r_aald hκ (t := 10) (by decide) h3 h4 dX12_keepsRow_10 ?_
  refine r_aload_n hκ 0 rfl rfl dX12_keepsRow_11 ?_
  obtain ⟨h5, h⟩ := bck_i h
  refine r_get hκ (t := 10) (k := 10) (r := 254) h5 rfl in_X12 (by decide) rfl q3061 (Or.inl rfl) dX12_keepsRow_12 ?_
  refine r_iload_n hκ 2 rfl rfl dX12_keepsRow_15 ?_
  obtain ⟨⟨h6, h7⟩, h⟩ := bck_i h
  refine r_iald hκ h6 h7 dX12_keepsRow_16 ?_
  obtain ⟨s1, v1, h8, h⟩ := bcl_i h
  refine r_callS hκ (n' := 2) (index := 93) (w_X12_grown Γ0 l0 h8) (lw_S q3215 q3216 q146 q3217) (by decide +kernel) rfl (by decide) rfl (Nat.le_of_ble_eq_true rfl) dX12_keepsRow_17 ?_
  obtain ⟨⟨⟨h9, h10⟩, h11⟩, h⟩ := bck_i h
  refine r_aastI hκ h9 h10 h11 dX12_keepsRow_20 (fun s2 es2 => ?_)
  replace h := bst_i h s2 es2
  refine r_iconst hκ dX12_keepsRow_21 ?_
  refine r_istore_n hκ (L2 := [(3, (0, 0)), (0, (2, a0)), (1, (0, a1)), (2, (0, a2))]) (by decide) rfl rfl dX12_keepsRow_22 ?_
  exact r_sub [1, 2, 3, 0] rfl (w_X12_keepsRow_r hκ hi hf 0 _ _ _ _ _ h)
/-- EditsMeetModel.kind(I)I -/
def F_X12_kind (s0 : bS) (a0 : Int) : Option (bS × Int) :=
  some (s0, (b_iand a0 7340032))
set_option maxHeartbeats 4000000 in
set_option maxRecDepth 100000 in
theorem w_X12_kind (Γ0 : bG) (l0 : Launch) {s0 st' : bS} {v a0 : Int} (h : F_X12_kind s0 a0 = some (st', v)) : bCt Γ0 l0 yX12_kind cX12_kind 1 (some .int) 0 0 [(0, a0)] s0 st' (some (0, v)) := by
  refine b_ent (own := RX12) (by decide +kernel) rfl (Nat.le_of_ble_eq_true rfl) (L := [(0, (0, a0))]) rfl ?_
  intro κ hκ hi hf
  unfold F_X12_kind at h
  refine r_iload_n hκ 0 rfl rfl dX12_kind_0 ?_
  refine r_ldci hκ (x := 7340032) q3206 (by decide) dX12_kind_1 ?_
  refine r_iand hκ dX12_kind_3 ?_
  exact r_iretH hκ hf h (nar_int _) dX12_kind_4
/-- EditsMeetModel.isOne(II)Z -/
def F_X12_isOne (s0 : bS) (a0 a1 : Int) : Option (bS × Int) :=
  bcl (F_X12_kind s0 a0) fun s1 v1 =>
  bcl (F_X12_kind s1 a1) fun s2 v2 =>
  bte (i32 v1 = i32 v2)
  (bcl (F_X12_kind s2 a0) fun s3 v3 =>
  bte (i32 v3 = i32 1048576)
  (some (s3, 1))
  (bte (i32 a0 = i32 a1)
  (some (s3, 1))
  (some (s3, 0))))
  (some (s2, 0))
set_option maxHeartbeats 4000000 in
set_option maxRecDepth 100000 in
theorem w_X12_isOne (Γ0 : bG) (l0 : Launch) {s0 st' : bS} {v a0 a1 : Int} (h : F_X12_isOne s0 a0 a1 = some (st', v)) : bCt Γ0 l0 yX12_isOne cX12_isOne 2 (some .boolean) 1 20 [(0, a0), (0, a1)] s0 st' (some (0, v)) := by
  refine b_ent (own := RX12) (by decide +kernel) rfl (Nat.le_of_ble_eq_true rfl) (L := [(0, (0, a0)), (1, (0, a1))]) rfl ?_
  intro κ hκ hi hf
  unfold F_X12_isOne at h
  refine r_iload_n hκ 0 rfl rfl dX12_isOne_0 ?_
  obtain ⟨s1, v1, h1, h⟩ := bcl_i h
  refine r_callS hκ (n' := 1) (index := 104) (w_X12_kind Γ0 l0 h1) (lw_S q3203 q3204 q146 q3205) (by decide +kernel) rfl (by decide) rfl (Nat.le_of_ble_eq_true rfl) dX12_isOne_1 ?_
  refine r_iload_n hκ 1 rfl rfl dX12_isOne_4 ?_
  obtain ⟨s2, v2, h2, h⟩ := bcl_i h
  refine r_callS hκ (n' := 1) (index := 104) (w_X12_kind Γ0 l0 h2) (lw_S q3203 q3204 q146 q3205) (by decide +kernel) rfl (by decide) rfl (Nat.le_of_ble_eq_true rfl) dX12_isOne_5 ?_
  refine r_icmp_ne hκ (tgt := 29) (by decide) dX12_isOne_8 (fun h3 => ?_) (fun h3 => ?_)
  · replace h := (bte_i h).2 h3
    refine r_iconst hκ dX12_isOne_29 ?_
    exact r_iretH hκ hf h (nar_bool (by decide)) dX12_isOne_30
  · replace h := (bte_i h).1 h3
    refine r_iload_n hκ 0 rfl rfl dX12_isOne_11 ?_
    obtain ⟨s3, v3, h4, h⟩ := bcl_i h
    refine r_callS hκ (n' := 1) (index := 104) (w_X12_kind Γ0 l0 h4) (lw_S q3203 q3204 q146 q3205) (by decide +kernel) rfl (by decide) rfl (Nat.le_of_ble_eq_true rfl) dX12_isOne_12 ?_
    refine r_ldci hκ (x := 1048576) q3185 (by decide) dX12_isOne_15 ?_
    refine r_icmp_eq hκ (tgt := 25) (by decide) dX12_isOne_17 (fun h5 => ?_) (fun h5 => ?_)
    · replace h := (bte_i h).1 h5
      refine r_iconst hκ dX12_isOne_25 ?_
      refine r_goto hκ (tgt := 30) (by decide) dX12_isOne_26 ?_
      exact r_iretH hκ hf h (nar_bool (by decide)) dX12_isOne_30
    · replace h := (bte_i h).2 h5
      refine r_iload_n hκ 0 rfl rfl dX12_isOne_20 ?_
      refine r_iload_n hκ 1 rfl rfl dX12_isOne_21 ?_
      refine r_icmp_ne hκ (tgt := 29) (by decide) dX12_isOne_22 (fun h6 => ?_) (fun h6 => ?_)
      · replace h := (bte_i h).2 h6
        refine r_iconst hκ dX12_isOne_29 ?_
        exact r_iretH hκ hf h (nar_bool (by decide)) dX12_isOne_30
      · replace h := (bte_i h).1 h6
        refine r_iconst hκ dX12_isOne_25 ?_
        refine r_goto hκ (tgt := 30) (by decide) dX12_isOne_26 ?_
        exact r_iretH hκ hf h (nar_bool (by decide)) dX12_isOne_30
/-- EditsMeetModel.parts(I)I -/
def F_X12_parts_r (b : Nat) (x0 x1 x2 x3 x4 : Int) (s0 : bS) : Option (bS × Int) :=
  match b with
  | 0 =>
    bck (bg s0 0 x0 0 = 11) <|
    bck (bg s0 0 (bg s0 218 x0 0) 0 = 1003 ∧ (0 : Int) ≤ x1 ∧ x1 < bg s0 4 (bg s0 218 x0 0) 0) <|
    bte (i32 (bg s0 20 (bg s0 218 x0 0) x1) ≤ i32 x3)
    (some (s0, x2))
    (bte (i32 x3 = 0)
    (F_X12_parts_r 1 x0 x1 x3 x2 0 s0)
    (bck (bg s0 0 x0 0 = 11) <|
    bck (bg s0 0 (bg s0 214 x0 0) 0 = 1010 ∧ (0 : Int) ≤ x1 ∧ x1 < bg s0 4 (bg s0 214 x0 0) 0) <|
    bck (bg s0 0 (bg s0 10 (bg s0 214 x0 0) x1) 0 = 1003 ∧ (0 : Int) ≤ (x3 - 1) ∧ (x3 - 1) < bg s0 4 (bg s0 10 (bg s0 214 x0 0) x1) 0) <|
    bck (bg s0 0 x0 0 = 11) <|
    bck (bg s0 0 (bg s0 214 x0 0) 0 = 1010 ∧ (0 : Int) ≤ x1 ∧ x1 < bg s0 4 (bg s0 214 x0 0) 0) <|
    bck (bg s0 0 (bg s0 10 (bg s0 214 x0 0) x1) 0 = 1003 ∧ (0 : Int) ≤ x3 ∧ x3 < bg s0 4 (bg s0 10 (bg s0 214 x0 0) x1) 0) <|
    bcl (F_X12_isOne s0 (bg s0 20 (bg s0 10 (bg s0 214 x0 0) x1) (x3 - 1)) (bg s0 20 (bg s0 10 (bg s0 214 x0 0) x1) x3)) fun s1 v1 =>
    bte (i32 v1 = 0)
    (F_X12_parts_r 1 x0 x1 x3 x2 0 s1)
    (F_X12_parts_r 2 x0 x1 x3 0 x2 s1)))
  | 1 =>
    F_X12_parts_r 2 x0 x1 x2 1 x3 s0
  | 2 =>
    F_X12_parts_r 0 x0 x1 (x4 + x3) (x2 + 1) 0 s0
  | _ => none
partial_fixpoint
def F_X12_parts (s0 : bS) (a0 a1 : Int) : Option (bS × Int) :=
  F_X12_parts_r 0 a0 a1 0 0 0 s0
set_option maxHeartbeats 4000000 in
set_option maxRecDepth 100000 in
set_option synthInstance.maxHeartbeats 4000000 in
theorem w_X12_parts_r {Γ0 : bG} {l0 : Launch} {κ : bK} {st' : bS} {v : Int} (hκ : bOk κ Γ0 l0 cX12_parts RX12 4 2 41) (hi : bIn κ yX12_parts) (hf : bFin κ (some .int) st' (some (0, v))) (b : Nat) (x0 x1 x2 x3 x4 : Int) (s0 : bS) (h : F_X12_parts_r b x0 x1 x2 x3 x4 s0 = some (st', v)) : match (generalizing := false) b with | 0 => bJ κ s0 4 [(0, (2, x0)), (1, (0, x1)), (2, (0, x2)), (3, (0, x3))] [] | 1 => bJ κ s0 43 [(0, (2, x0)), (1, (0, x1)), (3, (0, x2))] [(0, x3)] | 2 => bJ κ s0 48 [(0, (2, x0)), (1, (0, x1)), (3, (0, x2))] [(0, x3), (0, x4)] | _ => True := by
  refine F_X12_parts_r.partial_correctness x0 x1 (fun b x2 x3 x4 s0 r => r = (st', v) → match (generalizing := false) b with | 0 => bJ κ s0 4 [(0, (2, x0)), (1, (0, x1)), (2, (0, x2)), (3, (0, x3))] [] | 1 => bJ κ s0 43 [(0, (2, x0)), (1, (0, x1)), (3, (0, x2))] [(0, x3)] | 2 => bJ κ s0 48 [(0, (2, x0)), (1, (0, x1)), (3, (0, x2))] [(0, x3), (0, x4)] | _ => True) ?_ b x2 x3 x4 s0 _ h rfl
  intro f' ih b x2 x3 x4 s0 r h hr
  subst hr
  match b, h with
  | 0, h =>
      refine r_iload_n hκ 3 rfl rfl dX12_parts_4 ?_
      refine r_aload_n hκ 0 rfl rfl dX12_parts_5 ?_
      obtain ⟨h1, h⟩ := bck_i h
      refine r_get hκ (t := 10) (k := 1) (r := 218) h1 rfl in_X12 (by decide) rfl q3052 (Or.inl rfl) dX12_parts_6 ?_
      refine r_iload_n hκ 1 rfl rfl dX12_parts_9 ?_
      obtain ⟨⟨h2, h3⟩, h⟩ := bck_i h
      refine r_iald hκ h2 h3 dX12_parts_10 ?_
      refine r_icmp_ge hκ (tgt := 56) (by decide) dX12_parts_11 (fun h4 => ?_) (fun h4 => ?_)
      · replace h := (bte_i h).1 h4
        refine r_iload_n hκ 2 rfl rfl dX12_parts_56 ?_
        exact r_iretH hκ hf h (nar_int _) dX12_parts_57
      · replace h := (bte_i h).2 h4
        refine r_iload_n hκ 2 rfl rfl dX12_parts_14 ?_
        refine r_iload_n hκ 3 rfl rfl dX12_parts_15 ?_
        refine r_if_eq hκ (tgt := 43) (by decide) dX12_parts_16 (fun h5 => ?_) (fun h5 => ?_)
        · replace h := (bte_i h).1 h5
          exact r_sub [0, 1, 3] rfl (ih 1 _ _ _ _ _ h rfl)
        · replace h := (bte_i h).2 h5
          refine r_aload_n hκ 0 rfl rfl dX12_parts_19 ?_
          obtain ⟨h6, h⟩ := bck_i h
          refine r_get hκ (t := 10) (k := 0) (r := 214) h6 rfl in_X12 (by decide) rfl q3051 (Or.inl rfl) dX12_parts_20 ?_
          refine r_iload_n hκ 1 rfl rfl dX12_parts_23 ?_
          obtain ⟨⟨h7, h8⟩, h⟩ := bck_i h
          refine r_aald hκ (t := 10) (by decide) h7 h8 dX12_parts_24 ?_
          refine r_iload_n hκ 3 rfl rfl dX12_parts_25 ?_
          refine r_iconst hκ dX12_parts_26 ?_
          refine r_isub hκ dX12_parts_27 ?_
          obtain ⟨⟨h9, h10⟩, h⟩ := bck_i h
          refine r_iald hκ h9 h10 dX12_parts_28 ?_
          refine r_aload_n hκ 0 rfl rfl dX12_parts_29 ?_
          obtain ⟨h11, h⟩ := bck_i h
          refine r_get hκ (t := 10) (k := 0) (r := 214) h11 rfl in_X12 (by decide) rfl q3051 (Or.inl rfl) dX12_parts_30 ?_
          refine r_iload_n hκ 1 rfl rfl dX12_parts_33 ?_
          obtain ⟨⟨h12, h13⟩, h⟩ := bck_i h
          refine r_aald hκ (t := 10) (by decide) h12 h13 dX12_parts_34 ?_
          refine r_iload_n hκ 3 rfl rfl dX12_parts_35 ?_
          obtain ⟨⟨h14, h15⟩, h⟩ := bck_i h
          refine r_iald hκ h14 h15 dX12_parts_36 ?_
          obtain ⟨s1, v1, h16, h⟩ := bcl_i h
          refine r_callS hκ (n' := 2) (index := 224) (w_X12_isOne Γ0 l0 h16) (lw_S q3222 q3223 q146 q3224) (by decide +kernel) rfl (by decide) rfl (Nat.le_of_ble_eq_true rfl) dX12_parts_37 ?_
          refine r_if_ne hκ (tgt := 47) (by decide) dX12_parts_40 (fun h17 => ?_) (fun h17 => ?_)
          · replace h := (bte_i h).2 h17
            refine r_iconst hκ dX12_parts_47 ?_
            exact r_sub [0, 1, 3] rfl (ih 2 _ _ _ _ _ h rfl)
          · replace h := (bte_i h).1 h17
            exact r_sub [0, 1, 3] rfl (ih 1 _ _ _ _ _ h rfl)
  | 1, h =>
      refine r_iconst hκ dX12_parts_43 ?_
      refine r_goto hκ (tgt := 48) (by decide) dX12_parts_44 ?_
      exact r_sub [0, 1, 2] rfl (ih 2 _ _ _ _ _ h rfl)
  | 2, h =>
      refine r_iadd hκ dX12_parts_48 ?_
      refine r_istore_n hκ (L2 := [(2, (0, (x4 + x3))), (0, (2, x0)), (1, (0, x1)), (3, (0, x2))]) (by decide) rfl rfl dX12_parts_49 ?_
      refine r_iinc hκ (L2 := [(3, (0, (x2 + 1))), (2, (0, (x4 + x3))), (0, (2, x0)), (1, (0, x1))]) 3 rfl (by decide) rfl dX12_parts_50 ?_
      refine r_goto hκ (tgt := 4) (by decide) dX12_parts_53 ?_
      exact r_sub [2, 3, 1, 0] rfl (ih 0 _ _ _ _ _ h rfl)
  | b + 3, h => trivial
set_option maxHeartbeats 4000000 in
set_option maxRecDepth 100000 in
theorem w_X12_parts (Γ0 : bG) (l0 : Launch) {s0 st' : bS} {v a0 a1 : Int} (h : F_X12_parts s0 a0 a1 = some (st', v)) : bCt Γ0 l0 yX12_parts cX12_parts 4 (some .int) 2 41 [(2, a0), (0, a1)] s0 st' (some (0, v)) := by
  refine b_ent (own := RX12) (by decide +kernel) rfl (Nat.le_of_ble_eq_true rfl) (L := [(0, (2, a0)), (1, (0, a1))]) rfl ?_
  intro κ hκ hi hf
  unfold F_X12_parts at h
  refine r_iconst hκ dX12_parts_0 ?_
  refine r_istore_n hκ (L2 := [(2, (0, 0)), (0, (2, a0)), (1, (0, a1))]) (by decide) rfl rfl dX12_parts_1 ?_
  refine r_iconst hκ dX12_parts_2 ?_
  refine r_istore_n hκ (L2 := [(3, (0, 0)), (2, (0, 0)), (0, (2, a0)), (1, (0, a1))]) (by decide) rfl rfl dX12_parts_3 ?_
  exact r_sub [2, 3, 1, 0] rfl (w_X12_parts_r hκ hi hf 0 _ _ _ _ _ _ h)
/-- EditsMeetModel.comes(II)I -/
def F_X12_comes (s0 : bS) (a0 a1 a2 : Int) : Option (bS × Int) :=
  bck (bg s0 0 a0 0 = 11) <|
  bcl (F_X12_keepsRow s0 a0 a1 a2) fun s1 v1 =>
  bck (bg s1 0 a0 0 = 11) <|
  bck (bg s1 0 (bg s1 222 a0 0) 0 = 1001 ∧ (0 : Int) ≤ a1 ∧ a1 < bg s1 4 (bg s1 222 a0 0) 0) <|
  bst (bw s1 12 (bg s1 222 a0 0) a1 (b_nz 1)) fun s2 =>
  bck (bg s2 0 a0 0 = 11) <|
  bcl (F_X12_parts s2 a0 a1) fun s3 v2 =>
  some (s3, v2)
set_option maxHeartbeats 4000000 in
set_option maxRecDepth 100000 in
theorem w_X12_comes (Γ0 : bG) (l0 : Launch) {s0 st' : bS} {v a0 a1 a2 : Int} (h : F_X12_comes s0 a0 a1 a2 = some (st', v)) : bCt Γ0 l0 yX12_comes cX12_comes 3 (some .int) 3 64 [(2, a0), (0, a1), (0, a2)] s0 st' (some (0, v)) := by
  refine b_ent (own := RX12) (by decide +kernel) rfl (Nat.le_of_ble_eq_true rfl) (L := [(0, (2, a0)), (1, (0, a1)), (2, (0, a2))]) rfl ?_
  intro κ hκ hi hf
  unfold F_X12_comes at h
  refine r_aload_n hκ 0 rfl rfl dX12_comes_0 ?_
  refine r_iload_n hκ 1 rfl rfl dX12_comes_1 ?_
  refine r_iload_n hκ 2 rfl rfl dX12_comes_2 ?_
  obtain ⟨h1, h⟩ := bck_i h
  obtain ⟨s1, v1, h2, h⟩ := bcl_i h
  refine r_callV hκ (n' := 2) (index := 101) (w_X12_keepsRow Γ0 l0 h2) (lw_V q3211 q3213 qs80 q146 q3214) (by decide +kernel) (t := 10) h1 rfl rfl (by decide) rfl (Nat.le_of_ble_eq_true rfl) dX12_comes_3 ?_
  refine r_aload_n hκ 0 rfl rfl dX12_comes_6 ?_
  obtain ⟨h3, h⟩ := bck_i h
  refine r_get hκ (t := 10) (k := 2) (r := 222) h3 rfl in_X12 (by decide) rfl q3053 (Or.inl rfl) dX12_comes_7 ?_
  refine r_iload_n hκ 1 rfl rfl dX12_comes_10 ?_
  refine r_iconst hκ dX12_comes_11 ?_
  obtain ⟨⟨h4, h5⟩, h⟩ := bck_i h
  refine r_zast hκ h4 h5 dX12_comes_12 (fun s2 es2 => ?_)
  replace h := bst_i h s2 es2
  refine r_aload_n hκ 0 rfl rfl dX12_comes_13 ?_
  refine r_iload_n hκ 1 rfl rfl dX12_comes_14 ?_
  obtain ⟨h6, h⟩ := bck_i h
  obtain ⟨s3, v2, h7, h⟩ := bcl_i h
  refine r_callV hκ (n' := 1) (index := 221) (w_X12_parts Γ0 l0 h7) (lw_V q3218 q3220 qs81 q146 q3221) (by decide +kernel) (t := 10) h6 rfl rfl (by decide) rfl (Nat.le_of_ble_eq_true rfl) dX12_comes_15 ?_
  exact r_iretH hκ hf h (nar_int _) dX12_comes_18
/-- EditsMeetModel.isEdit(I)Z -/
def F_X12_isEdit (s0 : bS) (a0 : Int) : Option (bS × Int) :=
  bcl (F_X12_in s0 (b_i2l a0) 0 11) fun s1 v1 =>
  bck (v1 = 0 ∨ v1 = 1) <|
  some (s1, v1)
set_option maxHeartbeats 4000000 in
set_option maxRecDepth 100000 in
theorem w_X12_isEdit (Γ0 : bG) (l0 : Launch) {s0 st' : bS} {v a0 : Int} (h : F_X12_isEdit s0 a0 = some (st', v)) : bCt Γ0 l0 yX12_isEdit cX12_isEdit 1 (some .boolean) 1 25 [(0, a0)] s0 st' (some (0, v)) := by
  refine b_ent (own := RX12) (by decide +kernel) rfl (Nat.le_of_ble_eq_true rfl) (L := [(0, (0, a0))]) rfl ?_
  intro κ hκ hi hf
  unfold F_X12_isEdit at h
  refine r_iload_n hκ 0 rfl rfl dX12_isEdit_0 ?_
  refine r_i2l hκ dX12_isEdit_1 ?_
  refine r_lconst hκ (x := 0) (by decide) dX12_isEdit_2 ?_
  refine r_ldcl hκ (x := 11) q3174 (by decide) dX12_isEdit_3 ?_
  obtain ⟨s1, v1, h1, h⟩ := bcl_i h
  refine r_callS hκ (n' := 3) (index := 175) (w_X12_in Γ0 l0 h1) (lw_S q3156 q3157 q146 q3158) (by decide +kernel) rfl (by decide) rfl (Nat.le_of_ble_eq_true rfl) dX12_isEdit_6 ?_
  obtain ⟨h2, h⟩ := bck_i h
  exact r_iretH hκ hf h (nar_bool h2) dX12_isEdit_9
/-- EditsMeetModel.adds(II)V -/
def F_X12_adds (s0 : bS) (a0 a1 a2 : Int) : Option (bS × Int) :=
  bck (bg s0 0 a0 0 = 11) <|
  bck (bg s0 0 (bg s0 250 a0 0) 0 = 1010 ∧ (0 : Int) ≤ a1 ∧ a1 < bg s0 4 (bg s0 250 a0 0) 0) <|
  bck (bg s0 0 a0 0 = 11) <|
  bck (bg s0 0 (bg s0 254 a0 0) 0 = 1003 ∧ (0 : Int) ≤ a1 ∧ a1 < bg s0 4 (bg s0 254 a0 0) 0) <|
  bck (bg s0 0 (bg s0 10 (bg s0 250 a0 0) a1) 0 = 1003 ∧ (0 : Int) ≤ (bg s0 20 (bg s0 254 a0 0) a1) ∧ (bg s0 20 (bg s0 254 a0 0) a1) < bg s0 4 (bg s0 10 (bg s0 250 a0 0) a1) 0) <|
  bst (bw s0 20 (bg s0 10 (bg s0 250 a0 0) a1) (bg s0 20 (bg s0 254 a0 0) a1) a2) fun s1 =>
  bck (bg s1 0 a0 0 = 11) <|
  bck (bg s1 0 (bg s1 254 a0 0) 0 = 1003 ∧ (0 : Int) ≤ a1 ∧ a1 < bg s1 4 (bg s1 254 a0 0) 0) <|
  bck (bg s1 0 (bg s1 254 a0 0) 0 = 1003 ∧ (0 : Int) ≤ a1 ∧ a1 < bg s1 4 (bg s1 254 a0 0) 0) <|
  bst (bw s1 20 (bg s1 254 a0 0) a1 ((bg s1 20 (bg s1 254 a0 0) a1) + 1)) fun s2 =>
  some (s2, 0)
set_option maxHeartbeats 4000000 in
set_option maxRecDepth 100000 in
theorem w_X12_adds (Γ0 : bG) (l0 : Launch) {s0 st' : bS} {v a0 a1 a2 : Int} (h : F_X12_adds s0 a0 a1 a2 = some (st', v)) : bCt Γ0 l0 yX12_adds cX12_adds 3 none 0 0 [(2, a0), (0, a1), (0, a2)] s0 st' none := by
  refine b_ent (own := RX12) (by decide +kernel) rfl (Nat.le_of_ble_eq_true rfl) (L := [(0, (2, a0)), (1, (0, a1)), (2, (0, a2))]) rfl ?_
  intro κ hκ hi hf
  unfold F_X12_adds at h
  refine r_aload_n hκ 0 rfl rfl dX12_adds_0 ?_
  obtain ⟨h1, h⟩ := bck_i h
  refine r_get hκ (t := 10) (k := 9) (r := 250) h1 rfl in_X12 (by decide) rfl q3060 (Or.inl rfl) dX12_adds_1 ?_
  refine r_iload_n hκ 1 rfl rfl dX12_adds_4 ?_
  obtain ⟨⟨h2, h3⟩, h⟩ := bck_i h
  refine r_aald hκ (t := 10) (by decide) h2 h3 dX12_adds_5 ?_
  refine r_aload_n hκ 0 rfl rfl dX12_adds_6 ?_
  obtain ⟨h4, h⟩ := bck_i h
  refine r_get hκ (t := 10) (k := 10) (r := 254) h4 rfl in_X12 (by decide) rfl q3061 (Or.inl rfl) dX12_adds_7 ?_
  refine r_iload_n hκ 1 rfl rfl dX12_adds_10 ?_
  obtain ⟨⟨h5, h6⟩, h⟩ := bck_i h
  refine r_iald hκ h5 h6 dX12_adds_11 ?_
  refine r_iload_n hκ 2 rfl rfl dX12_adds_12 ?_
  obtain ⟨⟨h7, h8⟩, h⟩ := bck_i h
  refine r_iast hκ h7 h8 dX12_adds_13 (fun s1 es1 => ?_)
  replace h := bst_i h s1 es1
  refine r_aload_n hκ 0 rfl rfl dX12_adds_14 ?_
  obtain ⟨h9, h⟩ := bck_i h
  refine r_get hκ (t := 10) (k := 10) (r := 254) h9 rfl in_X12 (by decide) rfl q3061 (Or.inl rfl) dX12_adds_15 ?_
  refine r_iload_n hκ 1 rfl rfl dX12_adds_18 ?_
  refine r_dup2 hκ (bd_cat0k _) (bd_cat2k _) dX12_adds_19 ?_
  obtain ⟨⟨h10, h11⟩, h⟩ := bck_i h
  refine r_iald hκ h10 h11 dX12_adds_20 ?_
  refine r_iconst hκ dX12_adds_21 ?_
  refine r_iadd hκ dX12_adds_22 ?_
  obtain ⟨⟨h12, h13⟩, h⟩ := bck_i h
  refine r_iast hκ h12 h13 dX12_adds_23 (fun s2 es2 => ?_)
  replace h := bst_i h s2 es2
  exact r_vretH hκ hf h dX12_adds_24
/-- EditsMeetModel.byteAt(I)I -/
def F_X12_byteAt (s0 : bS) (a0 a1 : Int) : Option (bS × Int) :=
  bck (bg s0 0 a0 0 = 11) <|
  bte (i32 (bg s0 264 a0 0) ≤ i32 a1)
  (some (s0, (-1)))
  (bck (bg s0 0 a0 0 = 11) <|
  bck (bg s0 0 (bg s0 262 a0 0) 0 = 1003 ∧ (0 : Int) ≤ a1 ∧ a1 < bg s0 4 (bg s0 262 a0 0) 0) <|
  some (s0, (bg s0 20 (bg s0 262 a0 0) a1)))
set_option maxHeartbeats 4000000 in
set_option maxRecDepth 100000 in
theorem w_X12_byteAt (Γ0 : bG) (l0 : Launch) {s0 st' : bS} {v a0 a1 : Int} (h : F_X12_byteAt s0 a0 a1 = some (st', v)) : bCt Γ0 l0 yX12_byteAt cX12_byteAt 2 (some .int) 0 0 [(2, a0), (0, a1)] s0 st' (some (0, v)) := by
  refine b_ent (own := RX12) (by decide +kernel) rfl (Nat.le_of_ble_eq_true rfl) (L := [(0, (2, a0)), (1, (0, a1))]) rfl ?_
  intro κ hκ hi hf
  unfold F_X12_byteAt at h
  refine r_iload_n hκ 1 rfl rfl dX12_byteAt_0 ?_
  refine r_aload_n hκ 0 rfl rfl dX12_byteAt_1 ?_
  obtain ⟨h1, h⟩ := bck_i h
  refine r_get hκ (t := 10) (k := 13) (r := 264) h1 rfl in_X12 (by decide) rfl q3064 (Or.inl rfl) dX12_byteAt_2 ?_
  refine r_icmp_ge hκ (tgt := 17) (by decide) dX12_byteAt_5 (fun h2 => ?_) (fun h2 => ?_)
  · replace h := (bte_i h).1 h2
    refine r_iconst hκ dX12_byteAt_17 ?_
    exact r_iretH hκ hf h (nar_int _) dX12_byteAt_18
  · replace h := (bte_i h).2 h2
    refine r_aload_n hκ 0 rfl rfl dX12_byteAt_8 ?_
    obtain ⟨h3, h⟩ := bck_i h
    refine r_get hκ (t := 10) (k := 12) (r := 262) h3 rfl in_X12 (by decide) rfl q3063 (Or.inl rfl) dX12_byteAt_9 ?_
    refine r_iload_n hκ 1 rfl rfl dX12_byteAt_12 ?_
    obtain ⟨⟨h4, h5⟩, h⟩ := bck_i h
    refine r_iald hκ h4 h5 dX12_byteAt_13 ?_
    refine r_goto hκ (tgt := 18) (by decide) dX12_byteAt_14 ?_
    exact r_iretH hκ hf h (nar_int _) dX12_byteAt_18
/-- EditsMeetModel.isNumber(I)Z -/
def F_X12_isNumber_r (b : Nat) (x0 x1 x2 x3 : Int) (s0 : bS) : Option (bS × Int) :=
  match b with
  | 0 =>
    bte (i32 2 ≤ i32 x3)
    (F_X12_isNumber_r 1 x0 x1 x2 x3 s0)
    (bck (bg s0 0 x0 0 = 11) <|
    bck (bg s0 0 x0 0 = 11) <|
    bcl (F_X12_byteAt s0 x0 ((bg s0 268 x0 0) + x3)) fun s1 v1 =>
    bcl (F_X12_in s1 (b_i2l v1) 48 57) fun s2 v2 =>
    bte (i32 v2 = 0)
    (F_X12_isNumber_r 1 x0 x1 x2 x3 s2)
    (bck (bg s2 0 x0 0 = 11) <|
    bck (bg s2 0 x0 0 = 11) <|
    bcl (F_X12_byteAt s2 x0 ((bg s2 268 x0 0) + x3)) fun s3 v3 =>
    bvl ((((10 * x2) + v3) - 48)) fun t1 =>
    F_X12_isNumber_r 0 x0 x1 t1 (x3 + 1) s3))
  | 1 =>
    bte (i32 x3 = 0)
    (some (s0, 0))
    (bcl (F_X12_in s0 (b_i2l x2) 1 (b_i2l x1)) fun s4 v4 =>
    bte (i32 v4 = 0)
    (some (s4, 0))
    (bck (bg s4 0 x0 0 = 11) <|
    bck ((bg s4 0 x0 0 = 11)) <|
    bst (bw s4 268 x0 0 ((bg s4 268 x0 0) + x3)) fun s5 =>
    bck ((bg s5 0 x0 0 = 11)) <|
    bst (bw s5 272 x0 0 x2) fun s6 =>
    some (s6, 1)))
  | _ => none
partial_fixpoint
def F_X12_isNumber (s0 : bS) (a0 a1 : Int) : Option (bS × Int) :=
  F_X12_isNumber_r 0 a0 a1 0 0 s0
set_option maxHeartbeats 4000000 in
set_option maxRecDepth 100000 in
set_option synthInstance.maxHeartbeats 4000000 in
theorem w_X12_isNumber_r {Γ0 : bG} {l0 : Launch} {κ : bK} {st' : bS} {v : Int} (hκ : bOk κ Γ0 l0 cX12_isNumber RX12 4 1 25) (hi : bIn κ yX12_isNumber) (hf : bFin κ (some .boolean) st' (some (0, v))) (b : Nat) (x0 x1 x2 x3 : Int) (s0 : bS) (h : F_X12_isNumber_r b x0 x1 x2 x3 s0 = some (st', v)) : match (generalizing := false) b with | 0 => bJ κ s0 4 [(0, (2, x0)), (1, (0, x1)), (2, (0, x2)), (3, (0, x3))] [] | 1 => bJ κ s0 57 [(0, (2, x0)), (1, (0, x1)), (2, (0, x2)), (3, (0, x3))] [] | _ => True := by
  refine F_X12_isNumber_r.partial_correctness x0 x1 (fun b x2 x3 s0 r => r = (st', v) → match (generalizing := false) b with | 0 => bJ κ s0 4 [(0, (2, x0)), (1, (0, x1)), (2, (0, x2)), (3, (0, x3))] [] | 1 => bJ κ s0 57 [(0, (2, x0)), (1, (0, x1)), (2, (0, x2)), (3, (0, x3))] [] | _ => True) ?_ b x2 x3 s0 _ h rfl
  intro f' ih b x2 x3 s0 r h hr
  subst hr
  match b, h with
  | 0, h =>
      refine r_iload_n hκ 3 rfl rfl dX12_isNumber_4 ?_
      refine r_iconst hκ dX12_isNumber_5 ?_
      refine r_icmp_ge hκ (tgt := 57) (by decide) dX12_isNumber_6 (fun h1 => ?_) (fun h1 => ?_)
      · replace h := (bte_i h).1 h1
        exact r_sub [0, 1, 2, 3] rfl (ih 1 _ _ _ _ h rfl)
      · replace h := (bte_i h).2 h1
        refine r_aload_n hκ 0 rfl rfl dX12_isNumber_9 ?_
        refine r_aload_n hκ 0 rfl rfl dX12_isNumber_10 ?_
        obtain ⟨h2, h⟩ := bck_i h
        refine r_get hκ (t := 10) (k := 14) (r := 268) h2 rfl in_X12 (by decide) rfl q3065 (Or.inl rfl) dX12_isNumber_11 ?_
        refine r_iload_n hκ 3 rfl rfl dX12_isNumber_14 ?_
        refine r_iadd hκ dX12_isNumber_15 ?_
        obtain ⟨h3, h⟩ := bck_i h
        obtain ⟨s1, v1, h4, h⟩ := bcl_i h
        refine r_callV hκ (n' := 1) (index := 193) (w_X12_byteAt Γ0 l0 h4) (lw_V q3179 q3181 qs75 q146 q3182) (by decide +kernel) (t := 10) h3 rfl rfl (by decide) rfl (Nat.le_of_ble_eq_true rfl) dX12_isNumber_16 ?_
        refine r_i2l hκ dX12_isNumber_19 ?_
        refine r_ldcl hκ (x := 48) q3194 (by decide) dX12_isNumber_20 ?_
        refine r_ldcl hκ (x := 57) q3195 (by decide) dX12_isNumber_23 ?_
        obtain ⟨s2, v2, h5, h⟩ := bcl_i h
        refine r_callS hκ (n' := 3) (index := 175) (w_X12_in Γ0 l0 h5) (lw_S q3156 q3157 q146 q3158) (by decide +kernel) rfl (by decide) rfl (Nat.le_of_ble_eq_true rfl) dX12_isNumber_26 ?_
        refine r_if_eq hκ (tgt := 57) (by decide) dX12_isNumber_29 (fun h6 => ?_) (fun h6 => ?_)
        · replace h := (bte_i h).1 h6
          exact r_sub [0, 1, 2, 3] rfl (ih 1 _ _ _ _ h rfl)
        · replace h := (bte_i h).2 h6
          refine r_bipush hκ (by decide) dX12_isNumber_32 ?_
          refine r_iload_n hκ 2 rfl rfl dX12_isNumber_34 ?_
          refine r_imul hκ dX12_isNumber_35 ?_
          refine r_aload_n hκ 0 rfl rfl dX12_isNumber_36 ?_
          refine r_aload_n hκ 0 rfl rfl dX12_isNumber_37 ?_
          obtain ⟨h7, h⟩ := bck_i h
          refine r_get hκ (t := 10) (k := 14) (r := 268) h7 rfl in_X12 (by decide) rfl q3065 (Or.inl rfl) dX12_isNumber_38 ?_
          refine r_iload_n hκ 3 rfl rfl dX12_isNumber_41 ?_
          refine r_iadd hκ dX12_isNumber_42 ?_
          obtain ⟨h8, h⟩ := bck_i h
          obtain ⟨s3, v3, h9, h⟩ := bcl_i h
          refine r_callV hκ (n' := 1) (index := 193) (w_X12_byteAt Γ0 l0 h9) (lw_V q3179 q3181 qs75 q146 q3182) (by decide +kernel) (t := 10) h8 rfl rfl (by decide) rfl (Nat.le_of_ble_eq_true rfl) dX12_isNumber_43 ?_
          refine r_iadd hκ dX12_isNumber_46 ?_
          refine r_bipush hκ (by decide) dX12_isNumber_47 ?_
          refine r_isub hκ dX12_isNumber_49 ?_
          refine r_nm (fun t1 et1 => ?_)
          replace h := bvl_i h t1 et1
          refine r_istore_n hκ (L2 := [(2, (0, t1)), (0, (2, x0)), (1, (0, x1)), (3, (0, x3))]) (by decide) rfl rfl dX12_isNumber_50 ?_
          refine r_iinc hκ (L2 := [(3, (0, (x3 + 1))), (2, (0, t1)), (0, (2, x0)), (1, (0, x1))]) 3 rfl (by decide) rfl dX12_isNumber_51 ?_
          refine r_goto hκ (tgt := 4) (by decide) dX12_isNumber_54 ?_
          exact r_sub [2, 3, 1, 0] rfl (ih 0 _ _ _ _ h rfl)
  | 1, h =>
      refine r_iload_n hκ 3 rfl rfl dX12_isNumber_57 ?_
      refine r_if_eq hκ (tgt := 72) (by decide) dX12_isNumber_58 (fun h10 => ?_) (fun h10 => ?_)
      · replace h := (bte_i h).1 h10
        refine r_iconst hκ dX12_isNumber_72 ?_
        exact r_iretH hκ hf h (nar_bool (by decide)) dX12_isNumber_73
      · replace h := (bte_i h).2 h10
        refine r_iload_n hκ 2 rfl rfl dX12_isNumber_61 ?_
        refine r_i2l hκ dX12_isNumber_62 ?_
        refine r_lconst hκ (x := 1) (by decide) dX12_isNumber_63 ?_
        refine r_iload_n hκ 1 rfl rfl dX12_isNumber_64 ?_
        refine r_i2l hκ dX12_isNumber_65 ?_
        obtain ⟨s4, v4, h11, h⟩ := bcl_i h
        refine r_callS hκ (n' := 3) (index := 175) (w_X12_in Γ0 l0 h11) (lw_S q3156 q3157 q146 q3158) (by decide +kernel) rfl (by decide) rfl (Nat.le_of_ble_eq_true rfl) dX12_isNumber_66 ?_
        refine r_if_ne hκ (tgt := 74) (by decide) dX12_isNumber_69 (fun h12 => ?_) (fun h12 => ?_)
        · replace h := (bte_i h).2 h12
          refine r_aload_n hκ 0 rfl rfl dX12_isNumber_74 ?_
          refine r_dup hκ (bd_cat2k _) dX12_isNumber_75 ?_
          obtain ⟨h13, h⟩ := bck_i h
          refine r_get hκ (t := 10) (k := 14) (r := 268) h13 rfl in_X12 (by decide) rfl q3065 (Or.inl rfl) dX12_isNumber_76 ?_
          refine r_iload_n hκ 3 rfl rfl dX12_isNumber_79 ?_
          refine r_iadd hκ dX12_isNumber_80 ?_
          obtain ⟨h14, h⟩ := bck_i h
          refine r_put hκ (t := 10) (k := 14) (r := 268) (ty := .int) tyX12 tyX12_ok nmX12 h14 rfl in_X12 (by decide) rfl q3065 (Or.inl rfl) rfl rfl rfl trivial (Or.inl (by decide)) dX12_isNumber_81 (fun s5 es5 => ?_)
          replace h := bst_i h s5 es5
          refine r_aload_n hκ 0 rfl rfl dX12_isNumber_84 ?_
          refine r_iload_n hκ 2 rfl rfl dX12_isNumber_85 ?_
          obtain ⟨h15, h⟩ := bck_i h
          refine r_put hκ (t := 10) (k := 15) (r := 272) (ty := .int) tyX12 tyX12_ok nmX12 h15 rfl in_X12 (by decide) rfl q3066 (Or.inl rfl) rfl rfl rfl trivial (Or.inl (by decide)) dX12_isNumber_86 (fun s6 es6 => ?_)
          replace h := bst_i h s6 es6
          refine r_iconst hκ dX12_isNumber_89 ?_
          exact r_iretH hκ hf h (nar_bool (by decide)) dX12_isNumber_90
        · replace h := (bte_i h).1 h12
          refine r_iconst hκ dX12_isNumber_72 ?_
          exact r_iretH hκ hf h (nar_bool (by decide)) dX12_isNumber_73
  | b + 2, h => trivial
set_option maxHeartbeats 4000000 in
set_option maxRecDepth 100000 in
theorem w_X12_isNumber (Γ0 : bG) (l0 : Launch) {s0 st' : bS} {v a0 a1 : Int} (h : F_X12_isNumber s0 a0 a1 = some (st', v)) : bCt Γ0 l0 yX12_isNumber cX12_isNumber 4 (some .boolean) 1 25 [(2, a0), (0, a1)] s0 st' (some (0, v)) := by
  refine b_ent (own := RX12) (by decide +kernel) rfl (Nat.le_of_ble_eq_true rfl) (L := [(0, (2, a0)), (1, (0, a1))]) rfl ?_
  intro κ hκ hi hf
  unfold F_X12_isNumber at h
  refine r_iconst hκ dX12_isNumber_0 ?_
  refine r_istore_n hκ (L2 := [(2, (0, 0)), (0, (2, a0)), (1, (0, a1))]) (by decide) rfl rfl dX12_isNumber_1 ?_
  refine r_iconst hκ dX12_isNumber_2 ?_
  refine r_istore_n hκ (L2 := [(3, (0, 0)), (2, (0, 0)), (0, (2, a0)), (1, (0, a1))]) (by decide) rfl rfl dX12_isNumber_3 ?_
  exact r_sub [2, 3, 1, 0] rfl (w_X12_isNumber_r hκ hi hf 0 _ _ _ _ _ h)
/-- EditsMeetModel.isPart()Z -/
def F_X12_isPart_r (b : Nat) (x0 x1 x2 x3 : Int) (s0 : bS) : Option (bS × Int) :=
  match b with
  | 0 =>
    bck (bg s0 0 x0 0 = 11) <|
    bck ((bg s0 0 x0 0 = 11)) <|
    bst (bw s0 268 x0 0 ((bg s0 268 x0 0) + 1)) fun s2 =>
    bte (i32 x1 = i32 43)
    (bck (bg s2 0 x0 0 = 11) <|
    F_X12_isPart_r 1 x0 (bg s2 268 x0 0) 0 0 s2)
    (bck (bg s2 0 x0 0 = 11) <|
    bcl (F_X12_isNumber s2 x0 99) fun s3 v2 =>
    bte (i32 v2 = 0)
    (some (s3, 0))
    (bck (bg s3 0 x0 0 = 11) <|
    bte (i32 x1 = i32 61)
    (F_X12_isPart_r 2 x0 x1 (bg s3 272 x0 0) 2097152 s3)
    (F_X12_isPart_r 2 x0 x1 (bg s3 272 x0 0) 3145728 s3)))
  | 1 =>
    bck (bg s0 0 x0 0 = 11) <|
    bck (bg s0 0 x0 0 = 11) <|
    bcl (F_X12_byteAt s0 x0 (bg s0 268 x0 0)) fun s4 v3 =>
    bcl (F_X12_in s4 (b_i2l v3) 97 122) fun s5 v4 =>
    bte (i32 v4 = 0)
    (bck (bg s5 0 x0 0 = 11) <|
    bte (i32 (bg s5 268 x0 0) ≤ i32 x1)
    (some (s5, 0))
    (some (s5, 1)))
    (bck (bg s5 0 x0 0 = 11) <|
    bck (bg s5 0 x0 0 = 11) <|
    bcl (F_X12_byteAt s5 x0 (bg s5 268 x0 0)) fun s6 v5 =>
    bck (bg s6 0 x0 0 = 11) <|
    bcl (F_X12_adds s6 x0 0 (b_ior 1048576 (v5 - 97))) fun s7 v6 =>
    bck (bg s7 0 x0 0 = 11) <|
    bck ((bg s7 0 x0 0 = 11)) <|
    bst (bw s7 268 x0 0 ((bg s7 268 x0 0) + 1)) fun s8 =>
    F_X12_isPart_r 1 x0 x1 0 0 s8)
  | 2 =>
    bte (i32 x1 = i32 94)
    (F_X12_isPart_r 3 x0 x1 x2 0 s0)
    (bte (i32 x1 = i32 95)
    (F_X12_isPart_r 3 x0 x1 x2 0 s0)
    (F_X12_isPart_r 5 x0 x2 x3 0 s0))
  | 3 =>
    bck (bg s0 0 x0 0 = 11) <|
    bck (bg s0 0 x0 0 = 11) <|
    bcl (F_X12_byteAt s0 x0 (bg s0 268 x0 0)) fun s9 v7 =>
    bte (i32 v7 = i32 46)
    (bck (bg s9 0 x0 0 = 11) <|
    bck ((bg s9 0 x0 0 = 11)) <|
    bst (bw s9 268 x0 0 ((bg s9 268 x0 0) + 1)) fun s10 =>
    bck (bg s10 0 x0 0 = 11) <|
    bcl (F_X12_isNumber s10 x0 15) fun s11 v8 =>
    bte (i32 v8 = 0)
    (some (s11, 0))
    (bte (i32 x1 = i32 94)
    (bck (bg s11 0 x0 0 = 11) <|
    F_X12_isPart_r 4 x0 x2 (b_ishl (bg s11 272 x0 0) 4) 4194304 s11)
    (bck (bg s11 0 x0 0 = 11) <|
    F_X12_isPart_r 4 x0 x2 (bg s11 272 x0 0) 4194304 s11)))
    (some (s9, 0))
  | 4 =>
    F_X12_isPart_r 5 x0 x1 (b_ior x3 x2) 0 s0
  | 5 =>
    F_X12_isPart_r 6 x0 x1 x2 0 s0
  | 6 =>
    bte (i32 x1 ≤ i32 x3)
    (some (s0, 1))
    (bck (bg s0 0 x0 0 = 11) <|
    bcl (F_X12_adds s0 x0 0 x2) fun s12 v9 =>
    F_X12_isPart_r 6 x0 x1 x2 (x3 + 1) s12)
  | _ => none
partial_fixpoint
def F_X12_isPart (s0 : bS) (a0 : Int) : Option (bS × Int) :=
  bck (bg s0 0 a0 0 = 11) <|
  bck (bg s0 0 a0 0 = 11) <|
  bcl (F_X12_byteAt s0 a0 (bg s0 268 a0 0)) fun s1 v1 =>
  bte (i32 v1 = i32 61)
  (F_X12_isPart_r 0 a0 v1 0 0 s1)
  (bte (i32 v1 = i32 45)
  (F_X12_isPart_r 0 a0 v1 0 0 s1)
  (bte (i32 v1 = i32 43)
  (F_X12_isPart_r 0 a0 v1 0 0 s1)
  (bte (i32 v1 = i32 94)
  (F_X12_isPart_r 0 a0 v1 0 0 s1)
  (bte (i32 v1 = i32 95)
  (F_X12_isPart_r 0 a0 v1 0 0 s1)
  (some (s1, 0))))))
set_option maxHeartbeats 4000000 in
set_option maxRecDepth 100000 in
set_option synthInstance.maxHeartbeats 4000000 in
theorem w_X12_isPart_r {Γ0 : bG} {l0 : Launch} {κ : bK} {st' : bS} {v : Int} (hκ : bOk κ Γ0 l0 cX12_isPart RX12 5 2 48) (hi : bIn κ yX12_isPart) (hf : bFin κ (some .boolean) st' (some (0, v))) (b : Nat) (x0 x1 x2 x3 : Int) (s0 : bS) (h : F_X12_isPart_r b x0 x1 x2 x3 s0 = some (st', v)) : match (generalizing := false) b with | 0 => bJ κ s0 41 [(0, (2, x0)), (1, (0, x1))] [] | 1 => bJ κ s0 62 [(0, (2, x0)), (2, (0, x1))] [] | 2 => bJ κ s0 158 [(0, (2, x0)), (1, (0, x1)), (2, (0, x2))] [(0, x3)] | 3 => bJ κ s0 171 [(0, (2, x0)), (1, (0, x1)), (2, (0, x2))] [] | 4 => bJ κ s0 228 [(0, (2, x0)), (2, (0, x1))] [(0, x2), (0, x3)] | 5 => bJ κ s0 230 [(0, (2, x0)), (2, (0, x1)), (3, (0, x2))] [] | 6 => bJ κ s0 233 [(0, (2, x0)), (2, (0, x1)), (3, (0, x2)), (4, (0, x3))] [] | _ => True := by
  refine F_X12_isPart_r.partial_correctness x0 (fun b x1 x2 x3 s0 r => r = (st', v) → match (generalizing := false) b with | 0 => bJ κ s0 41 [(0, (2, x0)), (1, (0, x1))] [] | 1 => bJ κ s0 62 [(0, (2, x0)), (2, (0, x1))] [] | 2 => bJ κ s0 158 [(0, (2, x0)), (1, (0, x1)), (2, (0, x2))] [(0, x3)] | 3 => bJ κ s0 171 [(0, (2, x0)), (1, (0, x1)), (2, (0, x2))] [] | 4 => bJ κ s0 228 [(0, (2, x0)), (2, (0, x1))] [(0, x2), (0, x3)] | 5 => bJ κ s0 230 [(0, (2, x0)), (2, (0, x1)), (3, (0, x2))] [] | 6 => bJ κ s0 233 [(0, (2, x0)), (2, (0, x1)), (3, (0, x2)), (4, (0, x3))] [] | _ => True) ?_ b x1 x2 x3 s0 _ h rfl
  intro f' ih b x1 x2 x3 s0 r h hr
  subst hr
  match b, h with
  | 0, h =>
      refine r_aload_n hκ 0 rfl rfl dX12_isPart_41 ?_
      refine r_dup hκ (bd_cat2k _) dX12_isPart_42 ?_
      obtain ⟨h9, h⟩ := bck_i h
      refine r_get hκ (t := 10) (k := 14) (r := 268) h9 rfl in_X12 (by decide) rfl q3065 (Or.inl rfl) dX12_isPart_43 ?_
      refine r_iconst hκ dX12_isPart_46 ?_
      refine r_iadd hκ dX12_isPart_47 ?_
      obtain ⟨h10, h⟩ := bck_i h
      refine r_put hκ (t := 10) (k := 14) (r := 268) (ty := .int) tyX12 tyX12_ok nmX12 h10 rfl in_X12 (by decide) rfl q3065 (Or.inl rfl) rfl rfl rfl trivial (Or.inl (by decide)) dX12_isPart_48 (fun s2 es2 => ?_)
      replace h := bst_i h s2 es2
      refine r_iload_n hκ 1 rfl rfl dX12_isPart_51 ?_
      refine r_bipush hκ (by decide) dX12_isPart_52 ?_
      refine r_icmp_ne hκ (tgt := 129) (by decide) dX12_isPart_54 (fun h11 => ?_) (fun h11 => ?_)
      · replace h := (bte_i h).2 h11
        refine r_aload_n hκ 0 rfl rfl dX12_isPart_129 ?_
        refine r_bipush hκ (by decide) dX12_isPart_130 ?_
        obtain ⟨h12, h⟩ := bck_i h
        obtain ⟨s3, v2, h13, h⟩ := bcl_i h
        refine r_callV hκ (n' := 1) (index := 207) (w_X12_isNumber Γ0 l0 h13) (lw_V q3190 q3192 qs77 q146 q3193) (by decide +kernel) (t := 10) h12 rfl rfl (by decide) rfl (Nat.le_of_ble_eq_true rfl) dX12_isPart_132 ?_
        refine r_if_ne hκ (tgt := 140) (by decide) dX12_isPart_135 (fun h14 => ?_) (fun h14 => ?_)
        · replace h := (bte_i h).2 h14
          refine r_aload_n hκ 0 rfl rfl dX12_isPart_140 ?_
          obtain ⟨h15, h⟩ := bck_i h
          refine r_get hκ (t := 10) (k := 15) (r := 272) h15 rfl in_X12 (by decide) rfl q3066 (Or.inl rfl) dX12_isPart_141 ?_
          refine r_istore_n hκ (L2 := [(2, (0, (bg s3 272 x0 0))), (0, (2, x0)), (1, (0, x1))]) (by decide) rfl rfl dX12_isPart_144 ?_
          refine r_iload_n hκ 2 rfl rfl dX12_isPart_145 ?_
          refine r_bipush hκ (by decide) dX12_isPart_146 ?_
          refine r_icmp_ne hκ (tgt := 156) (by decide) dX12_isPart_148 (fun h16 => ?_) (fun h16 => ?_)
          · replace h := (bte_i h).2 h16
            refine r_ldci hκ (x := 3145728) q3197 (by decide) dX12_isPart_156 ?_
            exact r_sub [1, 2, 0] rfl (ih 2 _ _ _ _ _ h rfl)
          · replace h := (bte_i h).1 h16
            refine r_ldci hκ (x := 2097152) q3196 (by decide) dX12_isPart_151 ?_
            refine r_goto hκ (tgt := 158) (by decide) dX12_isPart_153 ?_
            exact r_sub [1, 2, 0] rfl (ih 2 _ _ _ _ _ h rfl)
        · replace h := (bte_i h).1 h14
          refine r_iconst hκ dX12_isPart_138 ?_
          exact r_iretH hκ hf h (nar_bool (by decide)) dX12_isPart_139
      · replace h := (bte_i h).1 h11
        refine r_aload_n hκ 0 rfl rfl dX12_isPart_57 ?_
        obtain ⟨h17, h⟩ := bck_i h
        refine r_get hκ (t := 10) (k := 14) (r := 268) h17 rfl in_X12 (by decide) rfl q3065 (Or.inl rfl) dX12_isPart_58 ?_
        refine r_istore_n hκ (L2 := [(2, (0, (bg s2 268 x0 0))), (0, (2, x0)), (1, (0, x1))]) (by decide) rfl rfl dX12_isPart_61 ?_
        exact r_sub [1, 0] rfl (ih 1 _ _ _ _ _ h rfl)
  | 1, h =>
      refine r_aload_n hκ 0 rfl rfl dX12_isPart_62 ?_
      refine r_aload_n hκ 0 rfl rfl dX12_isPart_63 ?_
      obtain ⟨h20, h⟩ := bck_i h
      refine r_get hκ (t := 10) (k := 14) (r := 268) h20 rfl in_X12 (by decide) rfl q3065 (Or.inl rfl) dX12_isPart_64 ?_
      obtain ⟨h21, h⟩ := bck_i h
      obtain ⟨s4, v3, h22, h⟩ := bcl_i h
      refine r_callV hκ (n' := 1) (index := 193) (w_X12_byteAt Γ0 l0 h22) (lw_V q3179 q3181 qs75 q146 q3182) (by decide +kernel) (t := 10) h21 rfl rfl (by decide) rfl (Nat.le_of_ble_eq_true rfl) dX12_isPart_67 ?_
      refine r_i2l hκ dX12_isPart_70 ?_
      refine r_ldcl hκ (x := 97) q3183 (by decide) dX12_isPart_71 ?_
      refine r_ldcl hκ (x := 122) q3184 (by decide) dX12_isPart_74 ?_
      obtain ⟨s5, v4, h23, h⟩ := bcl_i h
      refine r_callS hκ (n' := 3) (index := 175) (w_X12_in Γ0 l0 h23) (lw_S q3156 q3157 q146 q3158) (by decide +kernel) rfl (by decide) rfl (Nat.le_of_ble_eq_true rfl) dX12_isPart_77 ?_
      refine r_if_eq hκ (tgt := 115) (by decide) dX12_isPart_80 (fun h24 => ?_) (fun h24 => ?_)
      · replace h := (bte_i h).1 h24
        refine r_aload_n hκ 0 rfl rfl dX12_isPart_115 ?_
        obtain ⟨h25, h⟩ := bck_i h
        refine r_get hκ (t := 10) (k := 14) (r := 268) h25 rfl in_X12 (by decide) rfl q3065 (Or.inl rfl) dX12_isPart_116 ?_
        refine r_iload_n hκ 1 rfl rfl dX12_isPart_119 ?_
        refine r_icmp_le hκ (tgt := 127) (by decide) dX12_isPart_120 (fun h26 => ?_) (fun h26 => ?_)
        · replace h := (bte_i h).1 h26
          refine r_iconst hκ dX12_isPart_127 ?_
          exact r_iretH hκ hf h (nar_bool (by decide)) dX12_isPart_128
        · replace h := (bte_i h).2 h26
          refine r_iconst hκ dX12_isPart_123 ?_
          refine r_goto hκ (tgt := 128) (by decide) dX12_isPart_124 ?_
          exact r_iretH hκ hf h (nar_bool (by decide)) dX12_isPart_128
      · replace h := (bte_i h).2 h24
        refine r_aload_n hκ 0 rfl rfl dX12_isPart_83 ?_
        refine r_iconst hκ dX12_isPart_84 ?_
        refine r_ldci hκ (x := 1048576) q3185 (by decide) dX12_isPart_85 ?_
        refine r_aload_n hκ 0 rfl rfl dX12_isPart_87 ?_
        refine r_aload_n hκ 0 rfl rfl dX12_isPart_88 ?_
        obtain ⟨h27, h⟩ := bck_i h
        refine r_get hκ (t := 10) (k := 14) (r := 268) h27 rfl in_X12 (by decide) rfl q3065 (Or.inl rfl) dX12_isPart_89 ?_
        obtain ⟨h28, h⟩ := bck_i h
        obtain ⟨s6, v5, h29, h⟩ := bcl_i h
        refine r_callV hκ (n' := 1) (index := 193) (w_X12_byteAt Γ0 l0 h29) (lw_V q3179 q3181 qs75 q146 q3182) (by decide +kernel) (t := 10) h28 rfl rfl (by decide) rfl (Nat.le_of_ble_eq_true rfl) dX12_isPart_92 ?_
        refine r_bipush hκ (by decide) dX12_isPart_95 ?_
        refine r_isub hκ dX12_isPart_97 ?_
        refine r_ior hκ dX12_isPart_98 ?_
        obtain ⟨h30, h⟩ := bck_i h
        obtain ⟨s7, v6, h31, h⟩ := bcl_i h
        refine r_callV hκ (n' := 2) (index := 115) (w_X12_adds Γ0 l0 h31) (lw_V q3186 q3188 qs76 q146 q3189) (by decide +kernel) (t := 10) h30 rfl rfl (by decide) rfl (Nat.le_of_ble_eq_true rfl) dX12_isPart_99 ?_
        refine r_aload_n hκ 0 rfl rfl dX12_isPart_102 ?_
        refine r_dup hκ (bd_cat2k _) dX12_isPart_103 ?_
        obtain ⟨h32, h⟩ := bck_i h
        refine r_get hκ (t := 10) (k := 14) (r := 268) h32 rfl in_X12 (by decide) rfl q3065 (Or.inl rfl) dX12_isPart_104 ?_
        refine r_iconst hκ dX12_isPart_107 ?_
        refine r_iadd hκ dX12_isPart_108 ?_
        obtain ⟨h33, h⟩ := bck_i h
        refine r_put hκ (t := 10) (k := 14) (r := 268) (ty := .int) tyX12 tyX12_ok nmX12 h33 rfl in_X12 (by decide) rfl q3065 (Or.inl rfl) rfl rfl rfl trivial (Or.inl (by decide)) dX12_isPart_109 (fun s8 es8 => ?_)
        replace h := bst_i h s8 es8
        refine r_goto hκ (tgt := 62) (by decide) dX12_isPart_112 ?_
        exact r_sub [0, 1] rfl (ih 1 _ _ _ _ _ h rfl)
  | 2, h =>
      refine r_istore_n hκ (L2 := [(3, (0, x3)), (0, (2, x0)), (1, (0, x1)), (2, (0, x2))]) (by decide) rfl rfl dX12_isPart_158 ?_
      refine r_iload_n hκ 2 rfl rfl dX12_isPart_159 ?_
      refine r_bipush hκ (by decide) dX12_isPart_160 ?_
      refine r_icmp_eq hκ (tgt := 171) (by decide) dX12_isPart_162 (fun h18 => ?_) (fun h18 => ?_)
      · replace h := (bte_i h).1 h18
        exact r_sub [1, 2, 3] rfl (ih 3 _ _ _ _ _ h rfl)
      · replace h := (bte_i h).2 h18
        refine r_iload_n hκ 2 rfl rfl dX12_isPart_165 ?_
        refine r_bipush hκ (by decide) dX12_isPart_166 ?_
        refine r_icmp_ne hκ (tgt := 230) (by decide) dX12_isPart_168 (fun h19 => ?_) (fun h19 => ?_)
        · replace h := (bte_i h).2 h19
          exact r_sub [1, 3, 0] rfl (ih 5 _ _ _ _ _ h rfl)
        · replace h := (bte_i h).1 h19
          exact r_sub [1, 2, 3] rfl (ih 3 _ _ _ _ _ h rfl)
  | 3, h =>
      refine r_aload_n hκ 0 rfl rfl dX12_isPart_171 ?_
      refine r_aload_n hκ 0 rfl rfl dX12_isPart_172 ?_
      obtain ⟨h34, h⟩ := bck_i h
      refine r_get hκ (t := 10) (k := 14) (r := 268) h34 rfl in_X12 (by decide) rfl q3065 (Or.inl rfl) dX12_isPart_173 ?_
      obtain ⟨h35, h⟩ := bck_i h
      obtain ⟨s9, v7, h36, h⟩ := bcl_i h
      refine r_callV hκ (n' := 1) (index := 193) (w_X12_byteAt Γ0 l0 h36) (lw_V q3179 q3181 qs75 q146 q3182) (by decide +kernel) (t := 10) h35 rfl rfl (by decide) rfl (Nat.le_of_ble_eq_true rfl) dX12_isPart_176 ?_
      refine r_bipush hκ (by decide) dX12_isPart_179 ?_
      refine r_icmp_eq hκ (tgt := 186) (by decide) dX12_isPart_181 (fun h37 => ?_) (fun h37 => ?_)
      · replace h := (bte_i h).1 h37
        refine r_aload_n hκ 0 rfl rfl dX12_isPart_186 ?_
        refine r_dup hκ (bd_cat2k _) dX12_isPart_187 ?_
        obtain ⟨h38, h⟩ := bck_i h
        refine r_get hκ (t := 10) (k := 14) (r := 268) h38 rfl in_X12 (by decide) rfl q3065 (Or.inl rfl) dX12_isPart_188 ?_
        refine r_iconst hκ dX12_isPart_191 ?_
        refine r_iadd hκ dX12_isPart_192 ?_
        obtain ⟨h39, h⟩ := bck_i h
        refine r_put hκ (t := 10) (k := 14) (r := 268) (ty := .int) tyX12 tyX12_ok nmX12 h39 rfl in_X12 (by decide) rfl q3065 (Or.inl rfl) rfl rfl rfl trivial (Or.inl (by decide)) dX12_isPart_193 (fun s10 es10 => ?_)
        replace h := bst_i h s10 es10
        refine r_aload_n hκ 0 rfl rfl dX12_isPart_196 ?_
        refine r_bipush hκ (by decide) dX12_isPart_197 ?_
        obtain ⟨h40, h⟩ := bck_i h
        obtain ⟨s11, v8, h41, h⟩ := bcl_i h
        refine r_callV hκ (n' := 1) (index := 207) (w_X12_isNumber Γ0 l0 h41) (lw_V q3190 q3192 qs77 q146 q3193) (by decide +kernel) (t := 10) h40 rfl rfl (by decide) rfl (Nat.le_of_ble_eq_true rfl) dX12_isPart_199 ?_
        refine r_if_ne hκ (tgt := 207) (by decide) dX12_isPart_202 (fun h42 => ?_) (fun h42 => ?_)
        · replace h := (bte_i h).2 h42
          refine r_ldci hκ (x := 4194304) q3198 (by decide) dX12_isPart_207 ?_
          refine r_iload_n hκ 1 rfl rfl dX12_isPart_209 ?_
          refine r_bipush hκ (by decide) dX12_isPart_210 ?_
          refine r_icmp_ne hκ (tgt := 224) (by decide) dX12_isPart_212 (fun h43 => ?_) (fun h43 => ?_)
          · replace h := (bte_i h).2 h43
            refine r_aload_n hκ 0 rfl rfl dX12_isPart_224 ?_
            obtain ⟨h44, h⟩ := bck_i h
            refine r_get hκ (t := 10) (k := 15) (r := 272) h44 rfl in_X12 (by decide) rfl q3066 (Or.inl rfl) dX12_isPart_225 ?_
            exact r_sub [0, 2] rfl (ih 4 _ _ _ _ _ h rfl)
          · replace h := (bte_i h).1 h43
            refine r_aload_n hκ 0 rfl rfl dX12_isPart_215 ?_
            obtain ⟨h45, h⟩ := bck_i h
            refine r_get hκ (t := 10) (k := 15) (r := 272) h45 rfl in_X12 (by decide) rfl q3066 (Or.inl rfl) dX12_isPart_216 ?_
            refine r_iconst hκ dX12_isPart_219 ?_
            refine r_ishl hκ dX12_isPart_220 ?_
            refine r_goto hκ (tgt := 228) (by decide) dX12_isPart_221 ?_
            exact r_sub [0, 2] rfl (ih 4 _ _ _ _ _ h rfl)
        · replace h := (bte_i h).1 h42
          refine r_iconst hκ dX12_isPart_205 ?_
          exact r_iretH hκ hf h (nar_bool (by decide)) dX12_isPart_206
      · replace h := (bte_i h).2 h37
        refine r_iconst hκ dX12_isPart_184 ?_
        exact r_iretH hκ hf h (nar_bool (by decide)) dX12_isPart_185
  | 4, h =>
      refine r_ior hκ dX12_isPart_228 ?_
      refine r_istore_n hκ (L2 := [(3, (0, (b_ior x3 x2))), (0, (2, x0)), (2, (0, x1))]) (by decide) rfl rfl dX12_isPart_229 ?_
      exact r_sub [1, 2, 0] rfl (ih 5 _ _ _ _ _ h rfl)
  | 5, h =>
      refine r_iconst hκ dX12_isPart_230 ?_
      refine r_istore hκ (L2 := [(4, (0, 0)), (0, (2, x0)), (2, (0, x1)), (3, (0, x2))]) (by decide) rfl dX12_isPart_231 ?_
      exact r_sub [1, 2, 3, 0] rfl (ih 6 _ _ _ _ _ h rfl)
  | 6, h =>
      refine r_iload hκ 3 rfl dX12_isPart_233 ?_
      refine r_iload_n hκ 1 rfl rfl dX12_isPart_235 ?_
      refine r_icmp_ge hκ (tgt := 251) (by decide) dX12_isPart_236 (fun h46 => ?_) (fun h46 => ?_)
      · replace h := (bte_i h).1 h46
        refine r_iconst hκ dX12_isPart_251 ?_
        exact r_iretH hκ hf h (nar_bool (by decide)) dX12_isPart_252
      · replace h := (bte_i h).2 h46
        refine r_aload_n hκ 0 rfl rfl dX12_isPart_239 ?_
        refine r_iconst hκ dX12_isPart_240 ?_
        refine r_iload_n hκ 2 rfl rfl dX12_isPart_241 ?_
        obtain ⟨h47, h⟩ := bck_i h
        obtain ⟨s12, v9, h48, h⟩ := bcl_i h
        refine r_callV hκ (n' := 2) (index := 115) (w_X12_adds Γ0 l0 h48) (lw_V q3186 q3188 qs76 q146 q3189) (by decide +kernel) (t := 10) h47 rfl rfl (by decide) rfl (Nat.le_of_ble_eq_true rfl) dX12_isPart_242 ?_
        refine r_iinc hκ (L2 := [(4, (0, (x3 + 1))), (0, (2, x0)), (2, (0, x1)), (3, (0, x2))]) 3 rfl (by decide) rfl dX12_isPart_245 ?_
        refine r_goto hκ (tgt := 233) (by decide) dX12_isPart_248 ?_
        exact r_sub [1, 2, 3, 0] rfl (ih 6 _ _ _ _ _ h rfl)
  | b + 7, h => trivial
set_option maxHeartbeats 4000000 in
set_option maxRecDepth 100000 in
theorem w_X12_isPart (Γ0 : bG) (l0 : Launch) {s0 st' : bS} {v a0 : Int} (h : F_X12_isPart s0 a0 = some (st', v)) : bCt Γ0 l0 yX12_isPart cX12_isPart 5 (some .boolean) 2 48 [(2, a0)] s0 st' (some (0, v)) := by
  refine b_ent (own := RX12) (by decide +kernel) rfl (Nat.le_of_ble_eq_true rfl) (L := [(0, (2, a0))]) rfl ?_
  intro κ hκ hi hf
  unfold F_X12_isPart at h
  refine r_aload_n hκ 0 rfl rfl dX12_isPart_0 ?_
  refine r_aload_n hκ 0 rfl rfl dX12_isPart_1 ?_
  obtain ⟨h1, h⟩ := bck_i h
  refine r_get hκ (t := 10) (k := 14) (r := 268) h1 rfl in_X12 (by decide) rfl q3065 (Or.inl rfl) dX12_isPart_2 ?_
  obtain ⟨h2, h⟩ := bck_i h
  obtain ⟨s1, v1, h3, h⟩ := bcl_i h
  refine r_callV hκ (n' := 1) (index := 193) (w_X12_byteAt Γ0 l0 h3) (lw_V q3179 q3181 qs75 q146 q3182) (by decide +kernel) (t := 10) h2 rfl rfl (by decide) rfl (Nat.le_of_ble_eq_true rfl) dX12_isPart_5 ?_
  refine r_istore_n hκ (L2 := [(1, (0, v1)), (0, (2, a0))]) (by decide) rfl rfl dX12_isPart_8 ?_
  refine r_iload_n hκ 0 rfl rfl dX12_isPart_9 ?_
  refine r_bipush hκ (by decide) dX12_isPart_10 ?_
  refine r_icmp_eq hκ (tgt := 41) (by decide) dX12_isPart_12 (fun h4 => ?_) (fun h4 => ?_)
  · replace h := (bte_i h).1 h4
    exact r_sub [1, 0] rfl (w_X12_isPart_r hκ hi hf 0 _ _ _ _ _ h)
  · replace h := (bte_i h).2 h4
    refine r_iload_n hκ 0 rfl rfl dX12_isPart_15 ?_
    refine r_bipush hκ (by decide) dX12_isPart_16 ?_
    refine r_icmp_eq hκ (tgt := 41) (by decide) dX12_isPart_18 (fun h5 => ?_) (fun h5 => ?_)
    · replace h := (bte_i h).1 h5
      exact r_sub [1, 0] rfl (w_X12_isPart_r hκ hi hf 0 _ _ _ _ _ h)
    · replace h := (bte_i h).2 h5
      refine r_iload_n hκ 0 rfl rfl dX12_isPart_21 ?_
      refine r_bipush hκ (by decide) dX12_isPart_22 ?_
      refine r_icmp_eq hκ (tgt := 41) (by decide) dX12_isPart_24 (fun h6 => ?_) (fun h6 => ?_)
      · replace h := (bte_i h).1 h6
        exact r_sub [1, 0] rfl (w_X12_isPart_r hκ hi hf 0 _ _ _ _ _ h)
      · replace h := (bte_i h).2 h6
        refine r_iload_n hκ 0 rfl rfl dX12_isPart_27 ?_
        refine r_bipush hκ (by decide) dX12_isPart_28 ?_
        refine r_icmp_eq hκ (tgt := 41) (by decide) dX12_isPart_30 (fun h7 => ?_) (fun h7 => ?_)
        · replace h := (bte_i h).1 h7
          exact r_sub [1, 0] rfl (w_X12_isPart_r hκ hi hf 0 _ _ _ _ _ h)
        · replace h := (bte_i h).2 h7
          refine r_iload_n hκ 0 rfl rfl dX12_isPart_33 ?_
          refine r_bipush hκ (by decide) dX12_isPart_34 ?_
          refine r_icmp_eq hκ (tgt := 41) (by decide) dX12_isPart_36 (fun h8 => ?_) (fun h8 => ?_)
          · replace h := (bte_i h).1 h8
            exact r_sub [1, 0] rfl (w_X12_isPart_r hκ hi hf 0 _ _ _ _ _ h)
          · replace h := (bte_i h).2 h8
            refine r_iconst hκ dX12_isPart_39 ?_
            exact r_iretH hκ hf h (nar_bool (by decide)) dX12_isPart_40
/-- EditsMeetModel.plain(I)V -/
def F_X12_plain_r (b : Nat) (x0 x1 x2 x3 x4 x5 : Int) (s0 : bS) : Option (bS × Int) :=
  match b with
  | 0 =>
    bck (bg s0 0 x0 0 = 11) <|
    bck (bg s0 0 (bg s0 254 x0 0) 0 = 1003 ∧ (0 : Int) ≤ x1 ∧ x1 < bg s0 4 (bg s0 254 x0 0) 0) <|
    bte (i32 (bg s0 20 (bg s0 254 x0 0) x1) < i32 x4)
    (F_X12_plain_r 5 x0 x1 x2 0 0 0 s0)
    (bck (bg s0 0 x0 0 = 11) <|
    bck (bg s0 0 (bg s0 254 x0 0) 0 = 1003 ∧ (0 : Int) ≤ x1 ∧ x1 < bg s0 4 (bg s0 254 x0 0) 0) <|
    bte (i32 (bg s0 20 (bg s0 254 x0 0) x1) ≤ i32 x4)
    (F_X12_plain_r 1 x0 x1 x2 x3 x4 2097152 s0)
    (bck (bg s0 0 x0 0 = 11) <|
    bck (bg s0 0 (bg s0 250 x0 0) 0 = 1010 ∧ (0 : Int) ≤ x1 ∧ x1 < bg s0 4 (bg s0 250 x0 0) 0) <|
    bck (bg s0 0 (bg s0 10 (bg s0 250 x0 0) x1) 0 = 1003 ∧ (0 : Int) ≤ x4 ∧ x4 < bg s0 4 (bg s0 10 (bg s0 250 x0 0) x1) 0) <|
    bcl (F_X12_kind s0 (bg s0 20 (bg s0 10 (bg s0 250 x0 0) x1) x4)) fun s1 v1 =>
    F_X12_plain_r 1 x0 x1 x2 x3 x4 v1 s1))
  | 1 =>
    bte (i32 x5 = i32 3145728)
    (F_X12_plain_r 4 x0 x1 x2 (x3 + 1) x4 0 s0)
    (F_X12_plain_r 2 x0 x1 x2 x3 x4 x5 s0)
  | 2 =>
    bte (i32 x5 = i32 1048576)
    (F_X12_plain_r 3 x0 x1 x2 x3 x4 0 s0)
    (bte (i32 x3 ≤ 0)
    (F_X12_plain_r 3 x0 x1 x2 x3 x4 0 s0)
    (bck (bg s0 0 x0 0 = 11) <|
    bck (bg s0 0 (bg s0 258 x0 0) 0 = 1003 ∧ (0 : Int) ≤ x2 ∧ x2 < bg s0 4 (bg s0 258 x0 0) 0) <|
    bst (bw s0 20 (bg s0 258 x0 0) x2 3145728) fun s3 =>
    F_X12_plain_r 2 x0 x1 (x2 + 1) (x3 + (-1)) x4 x5 s3))
  | 3 =>
    bck (bg s0 0 x0 0 = 11) <|
    bck (bg s0 0 (bg s0 254 x0 0) 0 = 1003 ∧ (0 : Int) ≤ x1 ∧ x1 < bg s0 4 (bg s0 254 x0 0) 0) <|
    bte (i32 (bg s0 20 (bg s0 254 x0 0) x1) ≤ i32 x4)
    (F_X12_plain_r 4 x0 x1 x2 x3 x4 0 s0)
    (bck (bg s0 0 x0 0 = 11) <|
    bck (bg s0 0 x0 0 = 11) <|
    bck (bg s0 0 (bg s0 250 x0 0) 0 = 1010 ∧ (0 : Int) ≤ x1 ∧ x1 < bg s0 4 (bg s0 250 x0 0) 0) <|
    bck (bg s0 0 (bg s0 10 (bg s0 250 x0 0) x1) 0 = 1003 ∧ (0 : Int) ≤ x4 ∧ x4 < bg s0 4 (bg s0 10 (bg s0 250 x0 0) x1) 0) <|
    bck (bg s0 0 (bg s0 258 x0 0) 0 = 1003 ∧ (0 : Int) ≤ x2 ∧ x2 < bg s0 4 (bg s0 258 x0 0) 0) <|
    bst (bw s0 20 (bg s0 258 x0 0) x2 (bg s0 20 (bg s0 10 (bg s0 250 x0 0) x1) x4)) fun s4 =>
    F_X12_plain_r 4 x0 x1 (x2 + 1) x3 x4 0 s4)
  | 4 =>
    F_X12_plain_r 0 x0 x1 x2 x3 (x4 + 1) 0 s0
  | 5 =>
    bte (i32 x2 ≤ i32 x3)
    (some (s0, 0))
    (bck (bg s0 0 x0 0 = 11) <|
    bck (bg s0 0 (bg s0 250 x0 0) 0 = 1010 ∧ (0 : Int) ≤ x1 ∧ x1 < bg s0 4 (bg s0 250 x0 0) 0) <|
    bck (bg s0 0 x0 0 = 11) <|
    bck (bg s0 0 (bg s0 258 x0 0) 0 = 1003 ∧ (0 : Int) ≤ x3 ∧ x3 < bg s0 4 (bg s0 258 x0 0) 0) <|
    bck (bg s0 0 (bg s0 10 (bg s0 250 x0 0) x1) 0 = 1003 ∧ (0 : Int) ≤ x3 ∧ x3 < bg s0 4 (bg s0 10 (bg s0 250 x0 0) x1) 0) <|
    bst (bw s0 20 (bg s0 10 (bg s0 250 x0 0) x1) x3 (bg s0 20 (bg s0 258 x0 0) x3)) fun s2 =>
    F_X12_plain_r 5 x0 x1 x2 (x3 + 1) 0 0 s2)
  | _ => none
partial_fixpoint
def F_X12_plain (s0 : bS) (a0 a1 : Int) : Option (bS × Int) :=
  F_X12_plain_r 0 a0 a1 0 0 0 0 s0
set_option maxHeartbeats 4000000 in
set_option maxRecDepth 100000 in
set_option synthInstance.maxHeartbeats 4000000 in
theorem w_X12_plain_r {Γ0 : bG} {l0 : Launch} {κ : bK} {st' : bS} {v : Int} (hκ : bOk κ Γ0 l0 cX12_plain RX12 6 1 20) (hi : bIn κ yX12_plain) (hf : bFin κ none st' none) (b : Nat) (x0 x1 x2 x3 x4 x5 : Int) (s0 : bS) (h : F_X12_plain_r b x0 x1 x2 x3 x4 x5 s0 = some (st', v)) : match (generalizing := false) b with | 0 => bJ κ s0 7 [(0, (2, x0)), (1, (0, x1)), (2, (0, x2)), (3, (0, x3)), (4, (0, x4))] [] | 1 => bJ κ s0 46 [(0, (2, x0)), (1, (0, x1)), (2, (0, x2)), (3, (0, x3)), (4, (0, x4))] [(0, x5)] | 2 => bJ κ s0 61 [(0, (2, x0)), (1, (0, x1)), (2, (0, x2)), (3, (0, x3)), (4, (0, x4)), (5, (0, x5))] [] | 3 => bJ κ s0 89 [(0, (2, x0)), (1, (0, x1)), (2, (0, x2)), (3, (0, x3)), (4, (0, x4))] [] | 4 => bJ κ s0 118 [(0, (2, x0)), (1, (0, x1)), (2, (0, x2)), (3, (0, x3)), (4, (0, x4))] [] | 5 => bJ κ s0 127 [(0, (2, x0)), (1, (0, x1)), (2, (0, x2)), (4, (0, x3))] [] | _ => True := by
  refine F_X12_plain_r.partial_correctness x0 x1 (fun b x2 x3 x4 x5 s0 r => r = (st', v) → match (generalizing := false) b with | 0 => bJ κ s0 7 [(0, (2, x0)), (1, (0, x1)), (2, (0, x2)), (3, (0, x3)), (4, (0, x4))] [] | 1 => bJ κ s0 46 [(0, (2, x0)), (1, (0, x1)), (2, (0, x2)), (3, (0, x3)), (4, (0, x4))] [(0, x5)] | 2 => bJ κ s0 61 [(0, (2, x0)), (1, (0, x1)), (2, (0, x2)), (3, (0, x3)), (4, (0, x4)), (5, (0, x5))] [] | 3 => bJ κ s0 89 [(0, (2, x0)), (1, (0, x1)), (2, (0, x2)), (3, (0, x3)), (4, (0, x4))] [] | 4 => bJ κ s0 118 [(0, (2, x0)), (1, (0, x1)), (2, (0, x2)), (3, (0, x3)), (4, (0, x4))] [] | 5 => bJ κ s0 127 [(0, (2, x0)), (1, (0, x1)), (2, (0, x2)), (4, (0, x3))] [] | _ => True) ?_ b x2 x3 x4 x5 s0 _ h rfl
  intro f' ih b x2 x3 x4 x5 s0 r h hr
  subst hr
  match b, h with
  | 0, h =>
      refine r_iload hκ 4 rfl dX12_plain_7 ?_
      refine r_aload_n hκ 0 rfl rfl dX12_plain_9 ?_
      obtain ⟨h1, h⟩ := bck_i h
      refine r_get hκ (t := 10) (k := 10) (r := 254) h1 rfl in_X12 (by decide) rfl q3061 (Or.inl rfl) dX12_plain_10 ?_
      refine r_iload_n hκ 1 rfl rfl dX12_plain_13 ?_
      obtain ⟨⟨h2, h3⟩, h⟩ := bck_i h
      refine r_iald hκ h2 h3 dX12_plain_14 ?_
      refine r_icmp_gt hκ (tgt := 124) (by decide) dX12_plain_15 (fun h4 => ?_) (fun h4 => ?_)
      · replace h := (bte_i h).1 h4
        refine r_iconst hκ dX12_plain_124 ?_
        refine r_istore hκ (L2 := [(4, (0, 0)), (0, (2, x0)), (1, (0, x1)), (2, (0, x2)), (3, (0, x3))]) (by decide) rfl dX12_plain_125 ?_
        exact r_sub [1, 2, 3, 0] rfl (ih 5 _ _ _ _ _ _ h rfl)
      · replace h := (bte_i h).2 h4
        refine r_iload hκ 4 rfl dX12_plain_18 ?_
        refine r_aload_n hκ 0 rfl rfl dX12_plain_20 ?_
        obtain ⟨h5, h⟩ := bck_i h
        refine r_get hκ (t := 10) (k := 10) (r := 254) h5 rfl in_X12 (by decide) rfl q3061 (Or.inl rfl) dX12_plain_21 ?_
        refine r_iload_n hκ 1 rfl rfl dX12_plain_24 ?_
        obtain ⟨⟨h6, h7⟩, h⟩ := bck_i h
        refine r_iald hκ h6 h7 dX12_plain_25 ?_
        refine r_icmp_ge hκ (tgt := 44) (by decide) dX12_plain_26 (fun h8 => ?_) (fun h8 => ?_)
        · replace h := (bte_i h).1 h8
          refine r_ldci hκ (x := 2097152) q3196 (by decide) dX12_plain_44 ?_
          exact r_sub [0, 1, 2, 3, 4] rfl (ih 1 _ _ _ _ _ _ h rfl)
        · replace h := (bte_i h).2 h8
          refine r_aload_n hκ 0 rfl rfl dX12_plain_29 ?_
          obtain ⟨h9, h⟩ := bck_i h
          refine r_get hκ (t := 10) (k := 9) (r := 250) h9 rfl in_X12 (by decide) rfl q3060 (Or.inl rfl) dX12_plain_30 ?_
          refine r_iload_n hκ 1 rfl rfl dX12_plain_33 ?_
          obtain ⟨⟨h10, h11⟩, h⟩ := bck_i h
          refine r_aald hκ (t := 10) (by decide) h10 h11 dX12_plain_34 ?_
          refine r_iload hκ 4 rfl dX12_plain_35 ?_
          obtain ⟨⟨h12, h13⟩, h⟩ := bck_i h
          refine r_iald hκ h12 h13 dX12_plain_37 ?_
          obtain ⟨s1, v1, h14, h⟩ := bcl_i h
          refine r_callS hκ (n' := 1) (index := 104) (w_X12_kind Γ0 l0 h14) (lw_S q3203 q3204 q146 q3205) (by decide +kernel) rfl (by decide) rfl (Nat.le_of_ble_eq_true rfl) dX12_plain_38 ?_
          refine r_goto hκ (tgt := 46) (by decide) dX12_plain_41 ?_
          exact r_sub [0, 1, 2, 3, 4] rfl (ih 1 _ _ _ _ _ _ h rfl)
  | 1, h =>
      refine r_istore hκ (L2 := [(5, (0, x5)), (0, (2, x0)), (1, (0, x1)), (2, (0, x2)), (3, (0, x3)), (4, (0, x4))]) (by decide) rfl dX12_plain_46 ?_
      refine r_iload hκ 0 rfl dX12_plain_48 ?_
      refine r_ldci hκ (x := 3145728) q3197 (by decide) dX12_plain_50 ?_
      refine r_icmp_ne hκ (tgt := 61) (by decide) dX12_plain_52 (fun h24 => ?_) (fun h24 => ?_)
      · replace h := (bte_i h).2 h24
        exact r_sub [1, 2, 3, 4, 5, 0] rfl (ih 2 _ _ _ _ _ _ h rfl)
      · replace h := (bte_i h).1 h24
        refine r_iinc hκ (L2 := [(3, (0, (x3 + 1))), (5, (0, x5)), (0, (2, x0)), (1, (0, x1)), (2, (0, x2)), (4, (0, x4))]) 4 rfl (by decide) rfl dX12_plain_55 ?_
        refine r_goto hκ (tgt := 118) (by decide) dX12_plain_58 ?_
        exact r_sub [2, 3, 4, 0, 5] rfl (ih 4 _ _ _ _ _ _ h rfl)
  | 2, h =>
      refine r_iload hκ 5 rfl dX12_plain_61 ?_
      refine r_ldci hκ (x := 1048576) q3185 (by decide) dX12_plain_63 ?_
      refine r_icmp_eq hκ (tgt := 89) (by decide) dX12_plain_65 (fun h25 => ?_) (fun h25 => ?_)
      · replace h := (bte_i h).1 h25
        exact r_sub [0, 1, 2, 3, 4] rfl (ih 3 _ _ _ _ _ _ h rfl)
      · replace h := (bte_i h).2 h25
        refine r_iload_n hκ 3 rfl rfl dX12_plain_68 ?_
        refine r_if_le hκ (tgt := 89) (by decide) dX12_plain_69 (fun h26 => ?_) (fun h26 => ?_)
        · replace h := (bte_i h).1 h26
          exact r_sub [0, 1, 2, 3, 4] rfl (ih 3 _ _ _ _ _ _ h rfl)
        · replace h := (bte_i h).2 h26
          refine r_aload_n hκ 0 rfl rfl dX12_plain_72 ?_
          obtain ⟨h27, h⟩ := bck_i h
          refine r_get hκ (t := 10) (k := 11) (r := 258) h27 rfl in_X12 (by decide) rfl q3062 (Or.inl rfl) dX12_plain_73 ?_
          refine r_iload_n hκ 2 rfl rfl dX12_plain_76 ?_
          refine r_ldci hκ (x := 3145728) q3197 (by decide) dX12_plain_77 ?_
          obtain ⟨⟨h28, h29⟩, h⟩ := bck_i h
          refine r_iast hκ h28 h29 dX12_plain_79 (fun s3 es3 => ?_)
          replace h := bst_i h s3 es3
          refine r_iinc hκ (L2 := [(2, (0, (x2 + 1))), (0, (2, x0)), (1, (0, x1)), (3, (0, x3)), (4, (0, x4)), (5, (0, x5))]) 2 rfl (by decide) rfl dX12_plain_80 ?_
          refine r_iinc hκ (L2 := [(3, (0, (x3 + (-1)))), (2, (0, (x2 + 1))), (0, (2, x0)), (1, (0, x1)), (4, (0, x4)), (5, (0, x5))]) 3 rfl (by decide) rfl dX12_plain_83 ?_
          refine r_goto hκ (tgt := 61) (by decide) dX12_plain_86 ?_
          exact r_sub [2, 3, 1, 0, 4, 5] rfl (ih 2 _ _ _ _ _ _ h rfl)
  | 3, h =>
      refine r_iload hκ 4 rfl dX12_plain_89 ?_
      refine r_aload_n hκ 0 rfl rfl dX12_plain_91 ?_
      obtain ⟨h30, h⟩ := bck_i h
      refine r_get hκ (t := 10) (k := 10) (r := 254) h30 rfl in_X12 (by decide) rfl q3061 (Or.inl rfl) dX12_plain_92 ?_
      refine r_iload_n hκ 1 rfl rfl dX12_plain_95 ?_
      obtain ⟨⟨h31, h32⟩, h⟩ := bck_i h
      refine r_iald hκ h31 h32 dX12_plain_96 ?_
      refine r_icmp_ge hκ (tgt := 118) (by decide) dX12_plain_97 (fun h33 => ?_) (fun h33 => ?_)
      · replace h := (bte_i h).1 h33
        exact r_sub [0, 1, 2, 3, 4] rfl (ih 4 _ _ _ _ _ _ h rfl)
      · replace h := (bte_i h).2 h33
        refine r_aload_n hκ 0 rfl rfl dX12_plain_100 ?_
        obtain ⟨h34, h⟩ := bck_i h
        refine r_get hκ (t := 10) (k := 11) (r := 258) h34 rfl in_X12 (by decide) rfl q3062 (Or.inl rfl) dX12_plain_101 ?_
        refine r_iload_n hκ 2 rfl rfl dX12_plain_104 ?_
        refine r_aload_n hκ 0 rfl rfl dX12_plain_105 ?_
        obtain ⟨h35, h⟩ := bck_i h
        refine r_get hκ (t := 10) (k := 9) (r := 250) h35 rfl in_X12 (by decide) rfl q3060 (Or.inl rfl) dX12_plain_106 ?_
        refine r_iload_n hκ 1 rfl rfl dX12_plain_109 ?_
        obtain ⟨⟨h36, h37⟩, h⟩ := bck_i h
        refine r_aald hκ (t := 10) (by decide) h36 h37 dX12_plain_110 ?_
        refine r_iload hκ 4 rfl dX12_plain_111 ?_
        obtain ⟨⟨h38, h39⟩, h⟩ := bck_i h
        refine r_iald hκ h38 h39 dX12_plain_113 ?_
        obtain ⟨⟨h40, h41⟩, h⟩ := bck_i h
        refine r_iast hκ h40 h41 dX12_plain_114 (fun s4 es4 => ?_)
        replace h := bst_i h s4 es4
        refine r_iinc hκ (L2 := [(2, (0, (x2 + 1))), (0, (2, x0)), (1, (0, x1)), (3, (0, x3)), (4, (0, x4))]) 2 rfl (by decide) rfl dX12_plain_115 ?_
        exact r_sub [1, 2, 0, 3, 4] rfl (ih 4 _ _ _ _ _ _ h rfl)
  | 4, h =>
      refine r_iinc hκ (L2 := [(4, (0, (x4 + 1))), (0, (2, x0)), (1, (0, x1)), (2, (0, x2)), (3, (0, x3))]) 4 rfl (by decide) rfl dX12_plain_118 ?_
      refine r_goto hκ (tgt := 7) (by decide) dX12_plain_121 ?_
      exact r_sub [1, 2, 3, 4, 0] rfl (ih 0 _ _ _ _ _ _ h rfl)
  | 5, h =>
      refine r_iload hκ 3 rfl dX12_plain_127 ?_
      refine r_iload_n hκ 2 rfl rfl dX12_plain_129 ?_
      refine r_icmp_ge hκ (tgt := 155) (by decide) dX12_plain_130 (fun h15 => ?_) (fun h15 => ?_)
      · replace h := (bte_i h).1 h15
        exact r_vretH hκ hf h dX12_plain_155
      · replace h := (bte_i h).2 h15
        refine r_aload_n hκ 0 rfl rfl dX12_plain_133 ?_
        obtain ⟨h16, h⟩ := bck_i h
        refine r_get hκ (t := 10) (k := 9) (r := 250) h16 rfl in_X12 (by decide) rfl q3060 (Or.inl rfl) dX12_plain_134 ?_
        refine r_iload_n hκ 1 rfl rfl dX12_plain_137 ?_
        obtain ⟨⟨h17, h18⟩, h⟩ := bck_i h
        refine r_aald hκ (t := 10) (by decide) h17 h18 dX12_plain_138 ?_
        refine r_iload hκ 3 rfl dX12_plain_139 ?_
        refine r_aload_n hκ 0 rfl rfl dX12_plain_141 ?_
        obtain ⟨h19, h⟩ := bck_i h
        refine r_get hκ (t := 10) (k := 11) (r := 258) h19 rfl in_X12 (by decide) rfl q3062 (Or.inl rfl) dX12_plain_142 ?_
        refine r_iload hκ 3 rfl dX12_plain_145 ?_
        obtain ⟨⟨h20, h21⟩, h⟩ := bck_i h
        refine r_iald hκ h20 h21 dX12_plain_147 ?_
        obtain ⟨⟨h22, h23⟩, h⟩ := bck_i h
        refine r_iast hκ h22 h23 dX12_plain_148 (fun s2 es2 => ?_)
        replace h := bst_i h s2 es2
        refine r_iinc hκ (L2 := [(4, (0, (x3 + 1))), (0, (2, x0)), (1, (0, x1)), (2, (0, x2))]) 3 rfl (by decide) rfl dX12_plain_149 ?_
        refine r_goto hκ (tgt := 127) (by decide) dX12_plain_152 ?_
        exact r_sub [1, 2, 3, 0] rfl (ih 5 _ _ _ _ _ _ h rfl)
  | b + 6, h => trivial
set_option maxHeartbeats 4000000 in
set_option maxRecDepth 100000 in
theorem w_X12_plain (Γ0 : bG) (l0 : Launch) {s0 st' : bS} {v a0 a1 : Int} (h : F_X12_plain s0 a0 a1 = some (st', v)) : bCt Γ0 l0 yX12_plain cX12_plain 6 none 1 20 [(2, a0), (0, a1)] s0 st' none := by
  refine b_ent (own := RX12) (by decide +kernel) rfl (Nat.le_of_ble_eq_true rfl) (L := [(0, (2, a0)), (1, (0, a1))]) rfl ?_
  intro κ hκ hi hf
  unfold F_X12_plain at h
  refine r_iconst hκ dX12_plain_0 ?_
  refine r_istore_n hκ (L2 := [(2, (0, 0)), (0, (2, a0)), (1, (0, a1))]) (by decide) rfl rfl dX12_plain_1 ?_
  refine r_iconst hκ dX12_plain_2 ?_
  refine r_istore_n hκ (L2 := [(3, (0, 0)), (2, (0, 0)), (0, (2, a0)), (1, (0, a1))]) (by decide) rfl rfl dX12_plain_3 ?_
  refine r_iconst hκ dX12_plain_4 ?_
  refine r_istore hκ (L2 := [(4, (0, 0)), (3, (0, 0)), (2, (0, 0)), (0, (2, a0)), (1, (0, a1))]) (by decide) rfl dX12_plain_5 ?_
  exact r_sub [3, 4, 2, 1, 0] rfl (w_X12_plain_r hκ hi hf 0 _ _ _ _ _ _ _ h)
/-- EditsMeetModel.edit(I)I -/
def F_X12_edit_r (b : Nat) (x0 x1 x2 : Int) (s0 : bS) : Option (bS × Int) :=
  match b with
  | 0 =>
    bte (i32 x2 = 0)
    (F_X12_edit_r 1 x0 x1 x2 s0)
    (bck (bg s0 0 x0 0 = 11) <|
    bck (bg s0 0 x0 0 = 11) <|
    bte (i32 (bg s0 264 x0 0) ≤ i32 (bg s0 268 x0 0))
    (F_X12_edit_r 1 x0 x1 x2 s0)
    (bck (bg s0 0 x0 0 = 11) <|
    bcl (F_X12_isPart s0 x0) fun s7 v4 =>
    F_X12_edit_r 0 x0 x1 v4 s7))
  | 1 =>
    bck ((bg s0 0 x0 0 = 11)) <|
    bst (bw s0 264 x0 0 0) fun s8 =>
    bte (i32 x2 = 0)
    (bck (bg s8 0 x0 0 = 11) <|
    bck (bg s8 0 (bg s8 246 x0 0) 0 = 1003 ∧ (0 : Int) ≤ 2 ∧ 2 < bg s8 4 (bg s8 246 x0 0) 0) <|
    bck (bg s8 0 (bg s8 246 x0 0) 0 = 1003 ∧ (0 : Int) ≤ 2 ∧ 2 < bg s8 4 (bg s8 246 x0 0) 0) <|
    bst (bw s8 20 (bg s8 246 x0 0) 2 ((bg s8 20 (bg s8 246 x0 0) 2) + 1)) fun s11 =>
    bck (bg s11 0 x0 0 = 11) <|
    some (s11, ((-300) - (bg s11 268 x0 0))))
    (bck (bg s8 0 x0 0 = 11) <|
    bcl (F_X12_plain s8 x0 0) fun s9 v5 =>
    bck (bg s9 0 x0 0 = 11) <|
    bcl (F_X12_comes s9 x0 x1 0) fun s10 v6 =>
    some (s10, v6))
  | _ => none
partial_fixpoint
def F_X12_edit (s0 : bS) (a0 a1 : Int) : Option (bS × Int) :=
  bcl (F_X12_isEdit s0 a1) fun s1 v1 =>
  bte (i32 v1 = 0)
  (bck ((bg s1 0 a0 0 = 11)) <|
  bst (bw s1 264 a0 0 0) fun s5 =>
  bck (bg s5 0 a0 0 = 11) <|
  bcl (F_X12_refused s5 a0 (-2)) fun s6 v3 =>
  some (s6, v3))
  (bck ((bg s1 0 a0 0 = 11)) <|
  bst (bw s1 268 a0 0 0) fun s2 =>
  bck (bg s2 0 a0 0 = 11) <|
  bck (bg s2 0 (bg s2 254 a0 0) 0 = 1003 ∧ (0 : Int) ≤ 0 ∧ 0 < bg s2 4 (bg s2 254 a0 0) 0) <|
  bst (bw s2 20 (bg s2 254 a0 0) 0 0) fun s3 =>
  bck (bg s3 0 a0 0 = 11) <|
  bcl (F_X12_isPart s3 a0) fun s4 v2 =>
  F_X12_edit_r 0 a0 a1 v2 s4)
set_option maxHeartbeats 4000000 in
set_option maxRecDepth 100000 in
set_option synthInstance.maxHeartbeats 4000000 in
theorem w_X12_edit_r {Γ0 : bG} {l0 : Launch} {κ : bK} {st' : bS} {v : Int} (hκ : bOk κ Γ0 l0 cX12_edit RX12 3 4 86) (hi : bIn κ yX12_edit) (hf : bFin κ (some .int) st' (some (0, v))) (b : Nat) (x0 x1 x2 : Int) (s0 : bS) (h : F_X12_edit_r b x0 x1 x2 s0 = some (st', v)) : match (generalizing := false) b with | 0 => bJ κ s0 36 [(0, (2, x0)), (1, (0, x1)), (2, (0, x2))] [] | 1 => bJ κ s0 59 [(0, (2, x0)), (1, (0, x1)), (2, (0, x2))] [] | _ => True := by
  refine F_X12_edit_r.partial_correctness x0 x1 (fun b x2 s0 r => r = (st', v) → match (generalizing := false) b with | 0 => bJ κ s0 36 [(0, (2, x0)), (1, (0, x1)), (2, (0, x2))] [] | 1 => bJ κ s0 59 [(0, (2, x0)), (1, (0, x1)), (2, (0, x2))] [] | _ => True) ?_ b x2 s0 _ h rfl
  intro f' ih b x2 s0 r h hr
  subst hr
  match b, h with
  | 0, h =>
      refine r_iload_n hκ 2 rfl rfl dX12_edit_36 ?_
      refine r_if_eq hκ (tgt := 59) (by decide) dX12_edit_37 (fun h12 => ?_) (fun h12 => ?_)
      · replace h := (bte_i h).1 h12
        exact r_sub [0, 1, 2] rfl (ih 1 _ _ _ h rfl)
      · replace h := (bte_i h).2 h12
        refine r_aload_n hκ 0 rfl rfl dX12_edit_40 ?_
        obtain ⟨h13, h⟩ := bck_i h
        refine r_get hκ (t := 10) (k := 14) (r := 268) h13 rfl in_X12 (by decide) rfl q3065 (Or.inl rfl) dX12_edit_41 ?_
        refine r_aload_n hκ 0 rfl rfl dX12_edit_44 ?_
        obtain ⟨h14, h⟩ := bck_i h
        refine r_get hκ (t := 10) (k := 13) (r := 264) h14 rfl in_X12 (by decide) rfl q3064 (Or.inl rfl) dX12_edit_45 ?_
        refine r_icmp_ge hκ (tgt := 59) (by decide) dX12_edit_48 (fun h15 => ?_) (fun h15 => ?_)
        · replace h := (bte_i h).1 h15
          exact r_sub [0, 1, 2] rfl (ih 1 _ _ _ h rfl)
        · replace h := (bte_i h).2 h15
          refine r_aload_n hκ 0 rfl rfl dX12_edit_51 ?_
          obtain ⟨h16, h⟩ := bck_i h
          obtain ⟨s7, v4, h17, h⟩ := bcl_i h
          refine r_callV hκ (n' := 0) (index := 214) (w_X12_isPart Γ0 l0 h17) (lw_V q3175 q3177 qs74 q146 q3178) (by decide +kernel) (t := 10) h16 rfl rfl (by decide) rfl (Nat.le_of_ble_eq_true rfl) dX12_edit_52 ?_
          refine r_istore_n hκ (L2 := [(2, (0, v4)), (0, (2, x0)), (1, (0, x1))]) (by decide) rfl rfl dX12_edit_55 ?_
          refine r_goto hκ (tgt := 36) (by decide) dX12_edit_56 ?_
          exact r_sub [1, 2, 0] rfl (ih 0 _ _ _ h rfl)
  | 1, h =>
      refine r_aload_n hκ 0 rfl rfl dX12_edit_59 ?_
      refine r_iconst hκ dX12_edit_60 ?_
      obtain ⟨h18, h⟩ := bck_i h
      refine r_put hκ (t := 10) (k := 13) (r := 264) (ty := .int) tyX12 tyX12_ok nmX12 h18 rfl in_X12 (by decide) rfl q3064 (Or.inl rfl) rfl rfl rfl trivial (Or.inl (by decide)) dX12_edit_61 (fun s8 es8 => ?_)
      replace h := bst_i h s8 es8
      refine r_iload_n hκ 2 rfl rfl dX12_edit_64 ?_
      refine r_if_ne hκ (tgt := 87) (by decide) dX12_edit_65 (fun h19 => ?_) (fun h19 => ?_)
      · replace h := (bte_i h).2 h19
        refine r_aload_n hκ 0 rfl rfl dX12_edit_87 ?_
        refine r_iconst hκ dX12_edit_88 ?_
        obtain ⟨h20, h⟩ := bck_i h
        obtain ⟨s9, v5, h21, h⟩ := bcl_i h
        refine r_callV hκ (n' := 1) (index := 122) (w_X12_plain Γ0 l0 h21) (lw_V q3199 q3201 qs78 q146 q3202) (by decide +kernel) (t := 10) h20 rfl rfl (by decide) rfl (Nat.le_of_ble_eq_true rfl) dX12_edit_89 ?_
        refine r_aload_n hκ 0 rfl rfl dX12_edit_92 ?_
        refine r_iload_n hκ 1 rfl rfl dX12_edit_93 ?_
        refine r_iconst hκ dX12_edit_94 ?_
        obtain ⟨h22, h⟩ := bck_i h
        obtain ⟨s10, v6, h23, h⟩ := bcl_i h
        refine r_callV hκ (n' := 2) (index := 218) (w_X12_comes Γ0 l0 h23) (lw_V q3207 q3209 qs79 q146 q3210) (by decide +kernel) (t := 10) h22 rfl rfl (by decide) rfl (Nat.le_of_ble_eq_true rfl) dX12_edit_95 ?_
        exact r_iretH hκ hf h (nar_int _) dX12_edit_98
      · replace h := (bte_i h).1 h19
        refine r_aload_n hκ 0 rfl rfl dX12_edit_68 ?_
        obtain ⟨h24, h⟩ := bck_i h
        refine r_get hκ (t := 10) (k := 8) (r := 246) h24 rfl in_X12 (by decide) rfl q3059 (Or.inl rfl) dX12_edit_69 ?_
        refine r_iconst hκ dX12_edit_72 ?_
        refine r_dup2 hκ (bd_cat0k _) (bd_cat2k _) dX12_edit_73 ?_
        obtain ⟨⟨h25, h26⟩, h⟩ := bck_i h
        refine r_iald hκ h25 h26 dX12_edit_74 ?_
        refine r_iconst hκ dX12_edit_75 ?_
        refine r_iadd hκ dX12_edit_76 ?_
        obtain ⟨⟨h27, h28⟩, h⟩ := bck_i h
        refine r_iast hκ h27 h28 dX12_edit_77 (fun s11 es11 => ?_)
        replace h := bst_i h s11 es11
        refine r_sipush hκ (by decide) dX12_edit_78 ?_
        refine r_aload_n hκ 0 rfl rfl dX12_edit_81 ?_
        obtain ⟨h29, h⟩ := bck_i h
        refine r_get hκ (t := 10) (k := 14) (r := 268) h29 rfl in_X12 (by decide) rfl q3065 (Or.inl rfl) dX12_edit_82 ?_
        refine r_isub hκ dX12_edit_85 ?_
        exact r_iretH hκ hf h (nar_int _) dX12_edit_86
  | b + 2, h => trivial
set_option maxHeartbeats 4000000 in
set_option maxRecDepth 100000 in
theorem w_X12_edit (Γ0 : bG) (l0 : Launch) {s0 st' : bS} {v a0 a1 : Int} (h : F_X12_edit s0 a0 a1 = some (st', v)) : bCt Γ0 l0 yX12_edit cX12_edit 3 (some .int) 4 86 [(2, a0), (0, a1)] s0 st' (some (0, v)) := by
  refine b_ent (own := RX12) (by decide +kernel) rfl (Nat.le_of_ble_eq_true rfl) (L := [(0, (2, a0)), (1, (0, a1))]) rfl ?_
  intro κ hκ hi hf
  unfold F_X12_edit at h
  refine r_iload_n hκ 1 rfl rfl dX12_edit_0 ?_
  obtain ⟨s1, v1, h1, h⟩ := bcl_i h
  refine r_callS hκ (n' := 1) (index := 211) (w_X12_isEdit Γ0 l0 h1) (lw_S q3171 q3172 q146 q3173) (by decide +kernel) rfl (by decide) rfl (Nat.le_of_ble_eq_true rfl) dX12_edit_1 ?_
  refine r_if_ne hκ (tgt := 19) (by decide) dX12_edit_4 (fun h2 => ?_) (fun h2 => ?_)
  · replace h := (bte_i h).2 h2
    refine r_aload_n hκ 0 rfl rfl dX12_edit_19 ?_
    refine r_iconst hκ dX12_edit_20 ?_
    obtain ⟨h3, h⟩ := bck_i h
    refine r_put hκ (t := 10) (k := 14) (r := 268) (ty := .int) tyX12 tyX12_ok nmX12 h3 rfl in_X12 (by decide) rfl q3065 (Or.inl rfl) rfl rfl rfl trivial (Or.inl (by decide)) dX12_edit_21 (fun s2 es2 => ?_)
    replace h := bst_i h s2 es2
    refine r_aload_n hκ 0 rfl rfl dX12_edit_24 ?_
    obtain ⟨h4, h⟩ := bck_i h
    refine r_get hκ (t := 10) (k := 10) (r := 254) h4 rfl in_X12 (by decide) rfl q3061 (Or.inl rfl) dX12_edit_25 ?_
    refine r_iconst hκ dX12_edit_28 ?_
    refine r_iconst hκ dX12_edit_29 ?_
    obtain ⟨⟨h5, h6⟩, h⟩ := bck_i h
    refine r_iast hκ h5 h6 dX12_edit_30 (fun s3 es3 => ?_)
    replace h := bst_i h s3 es3
    refine r_aload_n hκ 0 rfl rfl dX12_edit_31 ?_
    obtain ⟨h7, h⟩ := bck_i h
    obtain ⟨s4, v2, h8, h⟩ := bcl_i h
    refine r_callV hκ (n' := 0) (index := 214) (w_X12_isPart Γ0 l0 h8) (lw_V q3175 q3177 qs74 q146 q3178) (by decide +kernel) (t := 10) h7 rfl rfl (by decide) rfl (Nat.le_of_ble_eq_true rfl) dX12_edit_32 ?_
    refine r_istore_n hκ (L2 := [(2, (0, v2)), (0, (2, a0)), (1, (0, a1))]) (by decide) rfl rfl dX12_edit_35 ?_
    exact r_sub [1, 2, 0] rfl (w_X12_edit_r hκ hi hf 0 _ _ _ _ h)
  · replace h := (bte_i h).1 h2
    refine r_aload_n hκ 0 rfl rfl dX12_edit_7 ?_
    refine r_iconst hκ dX12_edit_8 ?_
    obtain ⟨h9, h⟩ := bck_i h
    refine r_put hκ (t := 10) (k := 13) (r := 264) (ty := .int) tyX12 tyX12_ok nmX12 h9 rfl in_X12 (by decide) rfl q3064 (Or.inl rfl) rfl rfl rfl trivial (Or.inl (by decide)) dX12_edit_9 (fun s5 es5 => ?_)
    replace h := bst_i h s5 es5
    refine r_aload_n hκ 0 rfl rfl dX12_edit_12 ?_
    refine r_bipush hκ (by decide) dX12_edit_13 ?_
    obtain ⟨h10, h⟩ := bck_i h
    obtain ⟨s6, v3, h11, h⟩ := bcl_i h
    refine r_callV hκ (n' := 1) (index := 183) (w_X12_refused Γ0 l0 h11) (lw_V q3159 q3161 qs73 q146 q3162) (by decide +kernel) (t := 10) h10 rfl rfl (by decide) rfl (Nat.le_of_ble_eq_true rfl) dX12_edit_15 ?_
    exact r_iretH hκ hf h (nar_int _) dX12_edit_18
/-- EditsMeetModel.count([III)I -/
def F_X12_count_r (b : Nat) (x0 x1 x2 x3 x4 x5 : Int) (s0 : bS) : Option (bS × Int) :=
  match b with
  | 0 =>
    bte (i32 x1 ≤ i32 x4)
    (some (s0, x3))
    (bck (bg s0 0 x0 0 = 1003 ∧ (0 : Int) ≤ x4 ∧ x4 < bg s0 4 x0 0) <|
    bcl (F_X12_kind s0 (bg s0 20 x0 x4)) fun s1 v1 =>
    bte (i32 v1 = i32 x2)
    (F_X12_count_r 1 x0 x1 x2 x4 1 x3 s1)
    (F_X12_count_r 1 x0 x1 x2 x4 0 x3 s1))
  | 1 =>
    F_X12_count_r 0 x0 x1 x2 (x5 + x4) (x3 + 1) 0 s0
  | _ => none
partial_fixpoint
def F_X12_count (s0 : bS) (a0 a1 a2 : Int) : Option (bS × Int) :=
  F_X12_count_r 0 a0 a1 a2 0 0 0 s0
set_option maxHeartbeats 4000000 in
set_option maxRecDepth 100000 in
set_option synthInstance.maxHeartbeats 4000000 in
theorem w_X12_count_r {Γ0 : bG} {l0 : Launch} {κ : bK} {st' : bS} {v : Int} (hκ : bOk κ Γ0 l0 cX12_count RX12 5 1 20) (hi : bIn κ yX12_count) (hf : bFin κ (some .int) st' (some (0, v))) (b : Nat) (x0 x1 x2 x3 x4 x5 : Int) (s0 : bS) (h : F_X12_count_r b x0 x1 x2 x3 x4 x5 s0 = some (st', v)) : match (generalizing := false) b with | 0 => bJ κ s0 5 [(0, (2, x0)), (1, (0, x1)), (2, (0, x2)), (3, (0, x3)), (4, (0, x4))] [] | 1 => bJ κ s0 28 [(0, (2, x0)), (1, (0, x1)), (2, (0, x2)), (4, (0, x3))] [(0, x4), (0, x5)] | _ => True := by
  refine F_X12_count_r.partial_correctness x0 x1 x2 (fun b x3 x4 x5 s0 r => r = (st', v) → match (generalizing := false) b with | 0 => bJ κ s0 5 [(0, (2, x0)), (1, (0, x1)), (2, (0, x2)), (3, (0, x3)), (4, (0, x4))] [] | 1 => bJ κ s0 28 [(0, (2, x0)), (1, (0, x1)), (2, (0, x2)), (4, (0, x3))] [(0, x4), (0, x5)] | _ => True) ?_ b x3 x4 x5 s0 _ h rfl
  intro f' ih b x3 x4 x5 s0 r h hr
  subst hr
  match b, h with
  | 0, h =>
      refine r_iload hκ 4 rfl dX12_count_5 ?_
      refine r_iload_n hκ 1 rfl rfl dX12_count_7 ?_
      refine r_icmp_ge hκ (tgt := 36) (by decide) dX12_count_8 (fun h1 => ?_) (fun h1 => ?_)
      · replace h := (bte_i h).1 h1
        refine r_iload_n hκ 3 rfl rfl dX12_count_36 ?_
        exact r_iretH hκ hf h (nar_int _) dX12_count_37
      · replace h := (bte_i h).2 h1
        refine r_iload_n hκ 3 rfl rfl dX12_count_11 ?_
        refine r_aload_n hκ 0 rfl rfl dX12_count_12 ?_
        refine r_iload hκ 4 rfl dX12_count_13 ?_
        obtain ⟨⟨h2, h3⟩, h⟩ := bck_i h
        refine r_iald hκ h2 h3 dX12_count_15 ?_
        obtain ⟨s1, v1, h4, h⟩ := bcl_i h
        refine r_callS hκ (n' := 1) (index := 104) (w_X12_kind Γ0 l0 h4) (lw_S q3203 q3204 q146 q3205) (by decide +kernel) rfl (by decide) rfl (Nat.le_of_ble_eq_true rfl) dX12_count_16 ?_
        refine r_iload_n hκ 2 rfl rfl dX12_count_19 ?_
        refine r_icmp_ne hκ (tgt := 27) (by decide) dX12_count_20 (fun h5 => ?_) (fun h5 => ?_)
        · replace h := (bte_i h).2 h5
          refine r_iconst hκ dX12_count_27 ?_
          exact r_sub [0, 1, 2, 4] rfl (ih 1 _ _ _ _ _ h rfl)
        · replace h := (bte_i h).1 h5
          refine r_iconst hκ dX12_count_23 ?_
          refine r_goto hκ (tgt := 28) (by decide) dX12_count_24 ?_
          exact r_sub [0, 1, 2, 4] rfl (ih 1 _ _ _ _ _ h rfl)
  | 1, h =>
      refine r_iadd hκ dX12_count_28 ?_
      refine r_istore_n hκ (L2 := [(3, (0, (x5 + x4))), (0, (2, x0)), (1, (0, x1)), (2, (0, x2)), (4, (0, x3))]) (by decide) rfl rfl dX12_count_29 ?_
      refine r_iinc hκ (L2 := [(4, (0, (x3 + 1))), (3, (0, (x5 + x4))), (0, (2, x0)), (1, (0, x1)), (2, (0, x2))]) 4 rfl (by decide) rfl dX12_count_30 ?_
      refine r_goto hκ (tgt := 5) (by decide) dX12_count_33 ?_
      exact r_sub [2, 3, 4, 1, 0] rfl (ih 0 _ _ _ _ _ h rfl)
  | b + 2, h => trivial
set_option maxHeartbeats 4000000 in
set_option maxRecDepth 100000 in
theorem w_X12_count (Γ0 : bG) (l0 : Launch) {s0 st' : bS} {v a0 a1 a2 : Int} (h : F_X12_count s0 a0 a1 a2 = some (st', v)) : bCt Γ0 l0 yX12_count cX12_count 5 (some .int) 1 20 [(2, a0), (0, a1), (0, a2)] s0 st' (some (0, v)) := by
  refine b_ent (own := RX12) (by decide +kernel) rfl (Nat.le_of_ble_eq_true rfl) (L := [(0, (2, a0)), (1, (0, a1)), (2, (0, a2))]) rfl ?_
  intro κ hκ hi hf
  unfold F_X12_count at h
  refine r_iconst hκ dX12_count_0 ?_
  refine r_istore_n hκ (L2 := [(3, (0, 0)), (0, (2, a0)), (1, (0, a1)), (2, (0, a2))]) (by decide) rfl rfl dX12_count_1 ?_
  refine r_iconst hκ dX12_count_2 ?_
  refine r_istore hκ (L2 := [(4, (0, 0)), (3, (0, 0)), (0, (2, a0)), (1, (0, a1)), (2, (0, a2))]) (by decide) rfl dX12_count_3 ?_
  exact r_sub [2, 3, 4, 1, 0] rfl (w_X12_count_r hκ hi hf 0 _ _ _ _ _ _ _ h)
/-- EditsMeetModel.from(I)I -/
def F_X12_from (s0 : bS) (a0 a1 : Int) : Option (bS × Int) :=
  bck (bg s0 0 a0 0 = 11) <|
  bck (bg s0 0 (bg s0 218 a0 0) 0 = 1003 ∧ (0 : Int) ≤ a1 ∧ a1 < bg s0 4 (bg s0 218 a0 0) 0) <|
  bck (bg s0 0 a0 0 = 11) <|
  bck (bg s0 0 (bg s0 214 a0 0) 0 = 1010 ∧ (0 : Int) ≤ a1 ∧ a1 < bg s0 4 (bg s0 214 a0 0) 0) <|
  bck (bg s0 0 a0 0 = 11) <|
  bck (bg s0 0 (bg s0 218 a0 0) 0 = 1003 ∧ (0 : Int) ≤ a1 ∧ a1 < bg s0 4 (bg s0 218 a0 0) 0) <|
  bcl (F_X12_count s0 (bg s0 10 (bg s0 214 a0 0) a1) (bg s0 20 (bg s0 218 a0 0) a1) 1048576) fun s1 v1 =>
  some (s1, ((bg s0 20 (bg s0 218 a0 0) a1) - v1))
set_option maxHeartbeats 4000000 in
set_option maxRecDepth 100000 in
theorem w_X12_from (Γ0 : bG) (l0 : Launch) {s0 st' : bS} {v a0 a1 : Int} (h : F_X12_from s0 a0 a1 = some (st', v)) : bCt Γ0 l0 yX12_from cX12_from 2 (some .int) 2 44 [(2, a0), (0, a1)] s0 st' (some (0, v)) := by
  refine b_ent (own := RX12) (by decide +kernel) rfl (Nat.le_of_ble_eq_true rfl) (L := [(0, (2, a0)), (1, (0, a1))]) rfl ?_
  intro κ hκ hi hf
  unfold F_X12_from at h
  refine r_aload_n hκ 0 rfl rfl dX12_from_0 ?_
  obtain ⟨h1, h⟩ := bck_i h
  refine r_get hκ (t := 10) (k := 1) (r := 218) h1 rfl in_X12 (by decide) rfl q3052 (Or.inl rfl) dX12_from_1 ?_
  refine r_iload_n hκ 1 rfl rfl dX12_from_4 ?_
  obtain ⟨⟨h2, h3⟩, h⟩ := bck_i h
  refine r_iald hκ h2 h3 dX12_from_5 ?_
  refine r_aload_n hκ 0 rfl rfl dX12_from_6 ?_
  obtain ⟨h4, h⟩ := bck_i h
  refine r_get hκ (t := 10) (k := 0) (r := 214) h4 rfl in_X12 (by decide) rfl q3051 (Or.inl rfl) dX12_from_7 ?_
  refine r_iload_n hκ 1 rfl rfl dX12_from_10 ?_
  obtain ⟨⟨h5, h6⟩, h⟩ := bck_i h
  refine r_aald hκ (t := 10) (by decide) h5 h6 dX12_from_11 ?_
  refine r_aload_n hκ 0 rfl rfl dX12_from_12 ?_
  obtain ⟨h7, h⟩ := bck_i h
  refine r_get hκ (t := 10) (k := 1) (r := 218) h7 rfl in_X12 (by decide) rfl q3052 (Or.inl rfl) dX12_from_13 ?_
  refine r_iload_n hκ 1 rfl rfl dX12_from_16 ?_
  obtain ⟨⟨h8, h9⟩, h⟩ := bck_i h
  refine r_iald hκ h8 h9 dX12_from_17 ?_
  refine r_ldci hκ (x := 1048576) q3185 (by decide) dX12_from_18 ?_
  obtain ⟨s1, v1, h10, h⟩ := bcl_i h
  refine r_callS hκ (n' := 3) (index := 111) (w_X12_count Γ0 l0 h10) (lw_S q3238 q3239 q146 q3240) (by decide +kernel) rfl (by decide) rfl (Nat.le_of_ble_eq_true rfl) dX12_from_20 ?_
  refine r_isub hκ dX12_from_23 ?_
  exact r_iretH hκ hf h (nar_int _) dX12_from_24
/-- EditsMeetModel.isKept(I)Z -/
def F_X12_isKept (s0 : bS) (a0 a1 : Int) : Option (bS × Int) :=
  bck (bg s0 0 a0 0 = 11) <|
  bck (bg s0 0 (bg s0 222 a0 0) 0 = 1001 ∧ (0 : Int) ≤ a1 ∧ a1 < bg s0 4 (bg s0 222 a0 0) 0) <|
  bck ((bg s0 12 (bg s0 222 a0 0) a1) = 0 ∨ (bg s0 12 (bg s0 222 a0 0) a1) = 1) <|
  some (s0, (bg s0 12 (bg s0 222 a0 0) a1))
set_option maxHeartbeats 4000000 in
set_option maxRecDepth 100000 in
theorem w_X12_isKept (Γ0 : bG) (l0 : Launch) {s0 st' : bS} {v a0 a1 : Int} (h : F_X12_isKept s0 a0 a1 = some (st', v)) : bCt Γ0 l0 yX12_isKept cX12_isKept 2 (some .boolean) 0 0 [(2, a0), (0, a1)] s0 st' (some (0, v)) := by
  refine b_ent (own := RX12) (by decide +kernel) rfl (Nat.le_of_ble_eq_true rfl) (L := [(0, (2, a0)), (1, (0, a1))]) rfl ?_
  intro κ hκ hi hf
  unfold F_X12_isKept at h
  refine r_aload_n hκ 0 rfl rfl dX12_isKept_0 ?_
  obtain ⟨h1, h⟩ := bck_i h
  refine r_get hκ (t := 10) (k := 2) (r := 222) h1 rfl in_X12 (by decide) rfl q3053 (Or.inl rfl) dX12_isKept_1 ?_
  refine r_iload_n hκ 1 rfl rfl dX12_isKept_4 ?_
  obtain ⟨⟨h2, h3⟩, h⟩ := bck_i h
  refine r_zald hκ h2 h3 dX12_isKept_5 ?_
  obtain ⟨h4, h⟩ := bck_i h
  exact r_iretH hκ hf h (nar_bool h4) dX12_isKept_6
/-- EditsMeetModel.letters(II)I -/
def F_X12_letters (s0 : bS) (a0 a1 a2 : Int) : Option (bS × Int) :=
  bck (bg s0 0 a0 0 = 11) <|
  bck (bg s0 0 (bg s0 214 a0 0) 0 = 1010 ∧ (0 : Int) ≤ a1 ∧ a1 < bg s0 4 (bg s0 214 a0 0) 0) <|
  bck (bg s0 0 a0 0 = 11) <|
  bck (bg s0 0 (bg s0 218 a0 0) 0 = 1003 ∧ (0 : Int) ≤ a1 ∧ a1 < bg s0 4 (bg s0 218 a0 0) 0) <|
  bcl (F_X12_count s0 (bg s0 10 (bg s0 214 a0 0) a1) (bg s0 20 (bg s0 218 a0 0) a1) a2) fun s1 v1 =>
  some (s1, v1)
set_option maxHeartbeats 4000000 in
set_option maxRecDepth 100000 in
theorem w_X12_letters (Γ0 : bG) (l0 : Launch) {s0 st' : bS} {v a0 a1 a2 : Int} (h : F_X12_letters s0 a0 a1 a2 = some (st', v)) : bCt Γ0 l0 yX12_letters cX12_letters 3 (some .int) 2 44 [(2, a0), (0, a1), (0, a2)] s0 st' (some (0, v)) := by
  refine b_ent (own := RX12) (by decide +kernel) rfl (Nat.le_of_ble_eq_true rfl) (L := [(0, (2, a0)), (1, (0, a1)), (2, (0, a2))]) rfl ?_
  intro κ hκ hi hf
  unfold F_X12_letters at h
  refine r_aload_n hκ 0 rfl rfl dX12_letters_0 ?_
  obtain ⟨h1, h⟩ := bck_i h
  refine r_get hκ (t := 10) (k := 0) (r := 214) h1 rfl in_X12 (by decide) rfl q3051 (Or.inl rfl) dX12_letters_1 ?_
  refine r_iload_n hκ 1 rfl rfl dX12_letters_4 ?_
  obtain ⟨⟨h2, h3⟩, h⟩ := bck_i h
  refine r_aald hκ (t := 10) (by decide) h2 h3 dX12_letters_5 ?_
  refine r_aload_n hκ 0 rfl rfl dX12_letters_6 ?_
  obtain ⟨h4, h⟩ := bck_i h
  refine r_get hκ (t := 10) (k := 1) (r := 218) h4 rfl in_X12 (by decide) rfl q3052 (Or.inl rfl) dX12_letters_7 ?_
  refine r_iload_n hκ 1 rfl rfl dX12_letters_10 ?_
  obtain ⟨⟨h5, h6⟩, h⟩ := bck_i h
  refine r_iald hκ h5 h6 dX12_letters_11 ?_
  refine r_iload_n hκ 2 rfl rfl dX12_letters_12 ?_
  obtain ⟨s1, v1, h7, h⟩ := bcl_i h
  refine r_callS hκ (n' := 3) (index := 111) (w_X12_count Γ0 l0 h7) (lw_S q3238 q3239 q146 q3240) (by decide +kernel) rfl (by decide) rfl (Nat.le_of_ble_eq_true rfl) dX12_letters_13 ?_
  exact r_iretH hκ hf h (nar_int _) dX12_letters_16
/-- EditsMeetModel.to(I)I -/
def F_X12_to (s0 : bS) (a0 a1 : Int) : Option (bS × Int) :=
  bck (bg s0 0 a0 0 = 11) <|
  bck (bg s0 0 (bg s0 218 a0 0) 0 = 1003 ∧ (0 : Int) ≤ a1 ∧ a1 < bg s0 4 (bg s0 218 a0 0) 0) <|
  bck (bg s0 0 a0 0 = 11) <|
  bck (bg s0 0 (bg s0 214 a0 0) 0 = 1010 ∧ (0 : Int) ≤ a1 ∧ a1 < bg s0 4 (bg s0 214 a0 0) 0) <|
  bck (bg s0 0 a0 0 = 11) <|
  bck (bg s0 0 (bg s0 218 a0 0) 0 = 1003 ∧ (0 : Int) ≤ a1 ∧ a1 < bg s0 4 (bg s0 218 a0 0) 0) <|
  bcl (F_X12_count s0 (bg s0 10 (bg s0 214 a0 0) a1) (bg s0 20 (bg s0 218 a0 0) a1) 3145728) fun s1 v1 =>
  some (s1, ((bg s0 20 (bg s0 218 a0 0) a1) - v1))
set_option maxHeartbeats 4000000 in
set_option maxRecDepth 100000 in
theorem w_X12_to (Γ0 : bG) (l0 : Launch) {s0 st' : bS} {v a0 a1 : Int} (h : F_X12_to s0 a0 a1 = some (st', v)) : bCt Γ0 l0 yX12_to cX12_to 2 (some .int) 2 44 [(2, a0), (0, a1)] s0 st' (some (0, v)) := by
  refine b_ent (own := RX12) (by decide +kernel) rfl (Nat.le_of_ble_eq_true rfl) (L := [(0, (2, a0)), (1, (0, a1))]) rfl ?_
  intro κ hκ hi hf
  unfold F_X12_to at h
  refine r_aload_n hκ 0 rfl rfl dX12_to_0 ?_
  obtain ⟨h1, h⟩ := bck_i h
  refine r_get hκ (t := 10) (k := 1) (r := 218) h1 rfl in_X12 (by decide) rfl q3052 (Or.inl rfl) dX12_to_1 ?_
  refine r_iload_n hκ 1 rfl rfl dX12_to_4 ?_
  obtain ⟨⟨h2, h3⟩, h⟩ := bck_i h
  refine r_iald hκ h2 h3 dX12_to_5 ?_
  refine r_aload_n hκ 0 rfl rfl dX12_to_6 ?_
  obtain ⟨h4, h⟩ := bck_i h
  refine r_get hκ (t := 10) (k := 0) (r := 214) h4 rfl in_X12 (by decide) rfl q3051 (Or.inl rfl) dX12_to_7 ?_
  refine r_iload_n hκ 1 rfl rfl dX12_to_10 ?_
  obtain ⟨⟨h5, h6⟩, h⟩ := bck_i h
  refine r_aald hκ (t := 10) (by decide) h5 h6 dX12_to_11 ?_
  refine r_aload_n hκ 0 rfl rfl dX12_to_12 ?_
  obtain ⟨h7, h⟩ := bck_i h
  refine r_get hκ (t := 10) (k := 1) (r := 218) h7 rfl in_X12 (by decide) rfl q3052 (Or.inl rfl) dX12_to_13 ?_
  refine r_iload_n hκ 1 rfl rfl dX12_to_16 ?_
  obtain ⟨⟨h8, h9⟩, h⟩ := bck_i h
  refine r_iald hκ h8 h9 dX12_to_17 ?_
  refine r_ldci hκ (x := 3145728) q3197 (by decide) dX12_to_18 ?_
  obtain ⟨s1, v1, h10, h⟩ := bcl_i h
  refine r_callS hκ (n' := 3) (index := 111) (w_X12_count Γ0 l0 h10) (lw_S q3238 q3239 q146 q3240) (by decide +kernel) rfl (by decide) rfl (Nat.le_of_ble_eq_true rfl) dX12_to_20 ?_
  refine r_isub hκ dX12_to_23 ?_
  exact r_iretH hκ hf h (nar_int _) dX12_to_24
/-- EditsMeetModel.of(II)I -/
def F_X12_of_r (b : Nat) (x0 : Int) (s0 : bS) : Option (bS × Int) :=
  match b with
  | 0 =>
    bck (bg s0 0 x0 0 = 11) <|
    bcl (F_X12_refused s0 x0 (-2)) fun s11 v11 =>
    some (s11, v11)
  | _ => none
def F_X12_of (s0 : bS) (a0 a1 a2 : Int) : Option (bS × Int) :=
  bcl (F_X12_isEdit s0 a1) fun s1 v1 =>
  bte (i32 v1 = 0)
  (F_X12_of_r 0 a0 s1)
  (bcl (F_X12_in s1 (b_i2l a2) 0 5) fun s2 v2 =>
  bte (i32 v2 = 0)
  (F_X12_of_r 0 a0 s2)
  (bck (bg s2 0 a0 0 = 11) <|
  bcl (F_X12_isKept s2 a0 a1) fun s3 v3 =>
  bte (i32 v3 = 0)
  (bck (bg s3 0 a0 0 = 11) <|
  bcl (F_X12_refused s3 a0 (-4)) fun s10 v10 =>
  some (s10, v10))
  (bte (b_t a2 = 0) (bck (bg s3 0 a0 0 = 11) <|
  bcl (F_X12_parts s3 a0 a1) fun s4 v4 =>
  some (s4, v4)) (bte (b_t a2 = 1) (bck (bg s3 0 a0 0 = 11) <|
  bcl (F_X12_from s3 a0 a1) fun s5 v5 =>
  some (s5, v5)) (bte (b_t a2 = 2) (bck (bg s3 0 a0 0 = 11) <|
  bcl (F_X12_to s3 a0 a1) fun s6 v6 =>
  some (s6, v6)) (bte (b_t a2 = 3) (bck (bg s3 0 a0 0 = 11) <|
  bcl (F_X12_letters s3 a0 a1 1048576) fun s7 v7 =>
  some (s7, v7)) (bte (b_t a2 = 4) (bck (bg s3 0 a0 0 = 11) <|
  bcl (F_X12_letters s3 a0 a1 3145728) fun s8 v8 =>
  some (s8, v8)) (bck (bg s3 0 a0 0 = 11) <|
  bcl (F_X12_letters s3 a0 a1 4194304) fun s9 v9 =>
  some (s9, v9)))))))))
set_option maxHeartbeats 4000000 in
set_option maxRecDepth 100000 in
set_option synthInstance.maxHeartbeats 4000000 in
theorem w_X12_of_r {Γ0 : bG} {l0 : Launch} {κ : bK} {st' : bS} {v : Int} (hκ : bOk κ Γ0 l0 cX12_of RX12 3 3 66) (hi : bIn κ yX12_of) (hf : bFin κ (some .int) st' (some (0, v))) (b : Nat) (x0 : Int) (s0 : bS) (h : F_X12_of_r b x0 s0 = some (st', v)) : match (generalizing := false) b with | 0 => bJ κ s0 19 [(0, (2, x0))] [] | _ => True := by
  unfold F_X12_of_r at h
  match b, h with
  | 0, h =>
      refine r_aload_n hκ 0 rfl rfl dX12_of_19 ?_
      refine r_bipush hκ (by decide) dX12_of_20 ?_
      obtain ⟨h27, h⟩ := bck_i h
      obtain ⟨s11, v11, h28, h⟩ := bcl_i h
      refine r_callV hκ (n' := 1) (index := 183) (w_X12_refused Γ0 l0 h28) (lw_V q3159 q3161 qs73 q146 q3162) (by decide +kernel) (t := 10) h27 rfl rfl (by decide) rfl (Nat.le_of_ble_eq_true rfl) dX12_of_22 ?_
      exact r_iretH hκ hf h (nar_int _) dX12_of_25
  | b + 1, h => trivial
set_option maxHeartbeats 4000000 in
set_option maxRecDepth 100000 in
theorem w_X12_of (Γ0 : bG) (l0 : Launch) {s0 st' : bS} {v a0 a1 a2 : Int} (h : F_X12_of s0 a0 a1 a2 = some (st', v)) : bCt Γ0 l0 yX12_of cX12_of 3 (some .int) 3 66 [(2, a0), (0, a1), (0, a2)] s0 st' (some (0, v)) := by
  refine b_ent (own := RX12) (by decide +kernel) rfl (Nat.le_of_ble_eq_true rfl) (L := [(0, (2, a0)), (1, (0, a1)), (2, (0, a2))]) rfl ?_
  intro κ hκ hi hf
  unfold F_X12_of at h
  refine r_iload_n hκ 1 rfl rfl dX12_of_0 ?_
  obtain ⟨s1, v1, h1, h⟩ := bcl_i h
  refine r_callS hκ (n' := 1) (index := 211) (w_X12_isEdit Γ0 l0 h1) (lw_S q3171 q3172 q146 q3173) (by decide +kernel) rfl (by decide) rfl (Nat.le_of_ble_eq_true rfl) dX12_of_1 ?_
  refine r_if_eq hκ (tgt := 19) (by decide) dX12_of_4 (fun h2 => ?_) (fun h2 => ?_)
  · replace h := (bte_i h).1 h2
    exact r_sub [0] rfl (w_X12_of_r hκ hi hf 0 _ _ h)
  · replace h := (bte_i h).2 h2
    refine r_iload_n hκ 2 rfl rfl dX12_of_7 ?_
    refine r_i2l hκ dX12_of_8 ?_
    refine r_lconst hκ (x := 0) (by decide) dX12_of_9 ?_
    refine r_ldcl hκ (x := 5) q3229 (by decide) dX12_of_10 ?_
    obtain ⟨s2, v2, h3, h⟩ := bcl_i h
    refine r_callS hκ (n' := 3) (index := 175) (w_X12_in Γ0 l0 h3) (lw_S q3156 q3157 q146 q3158) (by decide +kernel) rfl (by decide) rfl (Nat.le_of_ble_eq_true rfl) dX12_of_13 ?_
    refine r_if_ne hκ (tgt := 26) (by decide) dX12_of_16 (fun h4 => ?_) (fun h4 => ?_)
    · replace h := (bte_i h).2 h4
      refine r_aload_n hκ 0 rfl rfl dX12_of_26 ?_
      refine r_iload_n hκ 1 rfl rfl dX12_of_27 ?_
      obtain ⟨h5, h⟩ := bck_i h
      obtain ⟨s3, v3, h6, h⟩ := bcl_i h
      refine r_callV hκ (n' := 1) (index := 230) (w_X12_isKept Γ0 l0 h6) (lw_V q3230 q3232 qs82 q146 q3233) (by decide +kernel) (t := 10) h5 rfl rfl (by decide) rfl (Nat.le_of_ble_eq_true rfl) dX12_of_28 ?_
      refine r_if_ne hκ (tgt := 41) (by decide) dX12_of_31 (fun h7 => ?_) (fun h7 => ?_)
      · replace h := (bte_i h).2 h7
        refine r_iload_n hκ 2 rfl rfl dX12_of_41 ?_
        by_cases h8 : b_t a2 = 0
        · replace h := (bte_i h).1 h8
          refine r_tswIn hκ (kk := 0) (tgt := 76) h8 (by decide) (by decide) rfl (by decide) dX12_of_42 ?_
          refine r_aload_n hκ 0 rfl rfl dX12_of_76 ?_
          refine r_iload_n hκ 1 rfl rfl dX12_of_77 ?_
          obtain ⟨h9, h⟩ := bck_i h
          obtain ⟨s4, v4, h10, h⟩ := bcl_i h
          refine r_callV hκ (n' := 1) (index := 221) (w_X12_parts Γ0 l0 h10) (lw_V q3218 q3220 qs81 q146 q3221) (by decide +kernel) (t := 10) h9 rfl rfl (by decide) rfl (Nat.le_of_ble_eq_true rfl) dX12_of_78 ?_
          exact r_iretH hκ hf h (nar_int _) dX12_of_81
        replace h := (bte_i h).2 h8
        by_cases h11 : b_t a2 = 1
        · replace h := (bte_i h).1 h11
          refine r_tswIn hκ (kk := 1) (tgt := 82) h11 (by decide) (by decide) rfl (by decide) dX12_of_42 ?_
          refine r_aload_n hκ 0 rfl rfl dX12_of_82 ?_
          refine r_iload_n hκ 1 rfl rfl dX12_of_83 ?_
          obtain ⟨h12, h⟩ := bck_i h
          obtain ⟨s5, v5, h13, h⟩ := bcl_i h
          refine r_callV hκ (n' := 1) (index := 233) (w_X12_from Γ0 l0 h13) (lw_V q3234 q3236 qs83 q146 q3237) (by decide +kernel) (t := 10) h12 rfl rfl (by decide) rfl (Nat.le_of_ble_eq_true rfl) dX12_of_84 ?_
          exact r_iretH hκ hf h (nar_int _) dX12_of_87
        replace h := (bte_i h).2 h11
        by_cases h14 : b_t a2 = 2
        · replace h := (bte_i h).1 h14
          refine r_tswIn hκ (kk := 2) (tgt := 88) h14 (by decide) (by decide) rfl (by decide) dX12_of_42 ?_
          refine r_aload_n hκ 0 rfl rfl dX12_of_88 ?_
          refine r_iload_n hκ 1 rfl rfl dX12_of_89 ?_
          obtain ⟨h15, h⟩ := bck_i h
          obtain ⟨s6, v6, h16, h⟩ := bcl_i h
          refine r_callV hκ (n' := 1) (index := 236) (w_X12_to Γ0 l0 h16) (lw_V q3241 q3243 qs84 q146 q3244) (by decide +kernel) (t := 10) h15 rfl rfl (by decide) rfl (Nat.le_of_ble_eq_true rfl) dX12_of_90 ?_
          exact r_iretH hκ hf h (nar_int _) dX12_of_93
        replace h := (bte_i h).2 h14
        by_cases h17 : b_t a2 = 3
        · replace h := (bte_i h).1 h17
          refine r_tswIn hκ (kk := 3) (tgt := 94) h17 (by decide) (by decide) rfl (by decide) dX12_of_42 ?_
          refine r_aload_n hκ 0 rfl rfl dX12_of_94 ?_
          refine r_iload_n hκ 1 rfl rfl dX12_of_95 ?_
          refine r_ldci hκ (x := 1048576) q3185 (by decide) dX12_of_96 ?_
          obtain ⟨h18, h⟩ := bck_i h
          obtain ⟨s7, v7, h19, h⟩ := bcl_i h
          refine r_callV hκ (n' := 2) (index := 239) (w_X12_letters Γ0 l0 h19) (lw_V q3245 q3247 qs85 q146 q3248) (by decide +kernel) (t := 10) h18 rfl rfl (by decide) rfl (Nat.le_of_ble_eq_true rfl) dX12_of_98 ?_
          exact r_iretH hκ hf h (nar_int _) dX12_of_101
        replace h := (bte_i h).2 h17
        by_cases h20 : b_t a2 = 4
        · replace h := (bte_i h).1 h20
          refine r_tswIn hκ (kk := 4) (tgt := 102) h20 (by decide) (by decide) rfl (by decide) dX12_of_42 ?_
          refine r_aload_n hκ 0 rfl rfl dX12_of_102 ?_
          refine r_iload_n hκ 1 rfl rfl dX12_of_103 ?_
          refine r_ldci hκ (x := 3145728) q3197 (by decide) dX12_of_104 ?_
          obtain ⟨h21, h⟩ := bck_i h
          obtain ⟨s8, v8, h22, h⟩ := bcl_i h
          refine r_callV hκ (n' := 2) (index := 239) (w_X12_letters Γ0 l0 h22) (lw_V q3245 q3247 qs85 q146 q3248) (by decide +kernel) (t := 10) h21 rfl rfl (by decide) rfl (Nat.le_of_ble_eq_true rfl) dX12_of_106 ?_
          exact r_iretH hκ hf h (nar_int _) dX12_of_109
        replace h := (bte_i h).2 h20
        refine r_tswOut hκ (tgt := 110) (by omega) (by decide) dX12_of_42 ?_
        refine r_aload_n hκ 0 rfl rfl dX12_of_110 ?_
        refine r_iload_n hκ 1 rfl rfl dX12_of_111 ?_
        refine r_ldci hκ (x := 4194304) q3198 (by decide) dX12_of_112 ?_
        obtain ⟨h23, h⟩ := bck_i h
        obtain ⟨s9, v9, h24, h⟩ := bcl_i h
        refine r_callV hκ (n' := 2) (index := 239) (w_X12_letters Γ0 l0 h24) (lw_V q3245 q3247 qs85 q146 q3248) (by decide +kernel) (t := 10) h23 rfl rfl (by decide) rfl (Nat.le_of_ble_eq_true rfl) dX12_of_114 ?_
        exact r_iretH hκ hf h (nar_int _) dX12_of_117
      · replace h := (bte_i h).1 h7
        refine r_aload_n hκ 0 rfl rfl dX12_of_34 ?_
        refine r_bipush hκ (by decide) dX12_of_35 ?_
        obtain ⟨h25, h⟩ := bck_i h
        obtain ⟨s10, v10, h26, h⟩ := bcl_i h
        refine r_callV hκ (n' := 1) (index := 183) (w_X12_refused Γ0 l0 h26) (lw_V q3159 q3161 qs73 q146 q3162) (by decide +kernel) (t := 10) h25 rfl rfl (by decide) rfl (Nat.le_of_ble_eq_true rfl) dX12_of_37 ?_
        exact r_iretH hκ hf h (nar_int _) dX12_of_40
    · replace h := (bte_i h).1 h4
      exact r_sub [0] rfl (w_X12_of_r hκ hi hf 0 _ _ h)
/-- EditsMeetModel.beginOf(II)I -/
def F_X12_beginOf_r (b : Nat) (x0 x1 x2 x3 x4 x5 : Int) (s0 : bS) : Option (bS × Int) :=
  match b with
  | 0 =>
    bck (bg s0 0 x0 0 = 11) <|
    bck (bg s0 0 (bg s0 218 x0 0) 0 = 1003 ∧ (0 : Int) ≤ x1 ∧ x1 < bg s0 4 (bg s0 218 x0 0) 0) <|
    bte (i32 (bg s0 20 (bg s0 218 x0 0) x1) ≤ i32 x4)
    (bck (bg s0 0 x0 0 = 11) <|
    bck (bg s0 0 (bg s0 218 x0 0) 0 = 1003 ∧ (0 : Int) ≤ x1 ∧ x1 < bg s0 4 (bg s0 218 x0 0) 0) <|
    some (s0, (bg s0 20 (bg s0 218 x0 0) x1)))
    (bte (i32 x4 = 0)
    (F_X12_beginOf_r 1 x0 x1 x2 x4 x3 0 s0)
    (bck (bg s0 0 x0 0 = 11) <|
    bck (bg s0 0 (bg s0 214 x0 0) 0 = 1010 ∧ (0 : Int) ≤ x1 ∧ x1 < bg s0 4 (bg s0 214 x0 0) 0) <|
    bck (bg s0 0 (bg s0 10 (bg s0 214 x0 0) x1) 0 = 1003 ∧ (0 : Int) ≤ (x4 - 1) ∧ (x4 - 1) < bg s0 4 (bg s0 10 (bg s0 214 x0 0) x1) 0) <|
    bck (bg s0 0 x0 0 = 11) <|
    bck (bg s0 0 (bg s0 214 x0 0) 0 = 1010 ∧ (0 : Int) ≤ x1 ∧ x1 < bg s0 4 (bg s0 214 x0 0) 0) <|
    bck (bg s0 0 (bg s0 10 (bg s0 214 x0 0) x1) 0 = 1003 ∧ (0 : Int) ≤ x4 ∧ x4 < bg s0 4 (bg s0 10 (bg s0 214 x0 0) x1) 0) <|
    bcl (F_X12_isOne s0 (bg s0 20 (bg s0 10 (bg s0 214 x0 0) x1) (x4 - 1)) (bg s0 20 (bg s0 10 (bg s0 214 x0 0) x1) x4)) fun s1 v1 =>
    bte (i32 v1 = 0)
    (F_X12_beginOf_r 1 x0 x1 x2 x4 x3 0 s1)
    (F_X12_beginOf_r 2 x0 x1 x2 x4 0 x3 s1)))
  | 1 =>
    F_X12_beginOf_r 2 x0 x1 x2 x3 1 x4 s0
  | 2 =>
    bte (i32 (x5 + x4) = i32 x2)
    (some (s0, x3))
    (F_X12_beginOf_r 0 x0 x1 x2 (x5 + x4) (x3 + 1) 0 s0)
  | _ => none
partial_fixpoint
def F_X12_beginOf (s0 : bS) (a0 a1 a2 : Int) : Option (bS × Int) :=
  F_X12_beginOf_r 0 a0 a1 a2 (-1) 0 0 s0
set_option maxHeartbeats 4000000 in
set_option maxRecDepth 100000 in
set_option synthInstance.maxHeartbeats 4000000 in
theorem w_X12_beginOf_r {Γ0 : bG} {l0 : Launch} {κ : bK} {st' : bS} {v : Int} (hκ : bOk κ Γ0 l0 cX12_beginOf RX12 5 2 41) (hi : bIn κ yX12_beginOf) (hf : bFin κ (some .int) st' (some (0, v))) (b : Nat) (x0 x1 x2 x3 x4 x5 : Int) (s0 : bS) (h : F_X12_beginOf_r b x0 x1 x2 x3 x4 x5 s0 = some (st', v)) : match (generalizing := false) b with | 0 => bJ κ s0 5 [(0, (2, x0)), (1, (0, x1)), (2, (0, x2)), (3, (0, x3)), (4, (0, x4))] [] | 1 => bJ κ s0 48 [(0, (2, x0)), (1, (0, x1)), (2, (0, x2)), (4, (0, x3))] [(0, x4)] | 2 => bJ κ s0 53 [(0, (2, x0)), (1, (0, x1)), (2, (0, x2)), (4, (0, x3))] [(0, x4), (0, x5)] | _ => True := by
  refine F_X12_beginOf_r.partial_correctness x0 x1 x2 (fun b x3 x4 x5 s0 r => r = (st', v) → match (generalizing := false) b with | 0 => bJ κ s0 5 [(0, (2, x0)), (1, (0, x1)), (2, (0, x2)), (3, (0, x3)), (4, (0, x4))] [] | 1 => bJ κ s0 48 [(0, (2, x0)), (1, (0, x1)), (2, (0, x2)), (4, (0, x3))] [(0, x4)] | 2 => bJ κ s0 53 [(0, (2, x0)), (1, (0, x1)), (2, (0, x2)), (4, (0, x3))] [(0, x4), (0, x5)] | _ => True) ?_ b x3 x4 x5 s0 _ h rfl
  intro f' ih b x3 x4 x5 s0 r h hr
  subst hr
  match b, h with
  | 0, h =>
      refine r_iload hκ 4 rfl dX12_beginOf_5 ?_
      refine r_aload_n hκ 0 rfl rfl dX12_beginOf_7 ?_
      obtain ⟨h1, h⟩ := bck_i h
      refine r_get hκ (t := 10) (k := 1) (r := 218) h1 rfl in_X12 (by decide) rfl q3052 (Or.inl rfl) dX12_beginOf_8 ?_
      refine r_iload_n hκ 1 rfl rfl dX12_beginOf_11 ?_
      obtain ⟨⟨h2, h3⟩, h⟩ := bck_i h
      refine r_iald hκ h2 h3 dX12_beginOf_12 ?_
      refine r_icmp_ge hκ (tgt := 69) (by decide) dX12_beginOf_13 (fun h4 => ?_) (fun h4 => ?_)
      · replace h := (bte_i h).1 h4
        refine r_aload_n hκ 0 rfl rfl dX12_beginOf_69 ?_
        obtain ⟨h5, h⟩ := bck_i h
        refine r_get hκ (t := 10) (k := 1) (r := 218) h5 rfl in_X12 (by decide) rfl q3052 (Or.inl rfl) dX12_beginOf_70 ?_
        refine r_iload_n hκ 1 rfl rfl dX12_beginOf_73 ?_
        obtain ⟨⟨h6, h7⟩, h⟩ := bck_i h
        refine r_iald hκ h6 h7 dX12_beginOf_74 ?_
        exact r_iretH hκ hf h (nar_int _) dX12_beginOf_75
      · replace h := (bte_i h).2 h4
        refine r_iload_n hκ 3 rfl rfl dX12_beginOf_16 ?_
        refine r_iload hκ 4 rfl dX12_beginOf_17 ?_
        refine r_if_eq hκ (tgt := 48) (by decide) dX12_beginOf_19 (fun h8 => ?_) (fun h8 => ?_)
        · replace h := (bte_i h).1 h8
          exact r_sub [0, 1, 2, 4] rfl (ih 1 _ _ _ _ _ h rfl)
        · replace h := (bte_i h).2 h8
          refine r_aload_n hκ 0 rfl rfl dX12_beginOf_22 ?_
          obtain ⟨h9, h⟩ := bck_i h
          refine r_get hκ (t := 10) (k := 0) (r := 214) h9 rfl in_X12 (by decide) rfl q3051 (Or.inl rfl) dX12_beginOf_23 ?_
          refine r_iload_n hκ 1 rfl rfl dX12_beginOf_26 ?_
          obtain ⟨⟨h10, h11⟩, h⟩ := bck_i h
          refine r_aald hκ (t := 10) (by decide) h10 h11 dX12_beginOf_27 ?_
          refine r_iload hκ 4 rfl dX12_beginOf_28 ?_
          refine r_iconst hκ dX12_beginOf_30 ?_
          refine r_isub hκ dX12_beginOf_31 ?_
          obtain ⟨⟨h12, h13⟩, h⟩ := bck_i h
          refine r_iald hκ h12 h13 dX12_beginOf_32 ?_
          refine r_aload_n hκ 0 rfl rfl dX12_beginOf_33 ?_
          obtain ⟨h14, h⟩ := bck_i h
          refine r_get hκ (t := 10) (k := 0) (r := 214) h14 rfl in_X12 (by decide) rfl q3051 (Or.inl rfl) dX12_beginOf_34 ?_
          refine r_iload_n hκ 1 rfl rfl dX12_beginOf_37 ?_
          obtain ⟨⟨h15, h16⟩, h⟩ := bck_i h
          refine r_aald hκ (t := 10) (by decide) h15 h16 dX12_beginOf_38 ?_
          refine r_iload hκ 4 rfl dX12_beginOf_39 ?_
          obtain ⟨⟨h17, h18⟩, h⟩ := bck_i h
          refine r_iald hκ h17 h18 dX12_beginOf_41 ?_
          obtain ⟨s1, v1, h19, h⟩ := bcl_i h
          refine r_callS hκ (n' := 2) (index := 224) (w_X12_isOne Γ0 l0 h19) (lw_S q3222 q3223 q146 q3224) (by decide +kernel) rfl (by decide) rfl (Nat.le_of_ble_eq_true rfl) dX12_beginOf_42 ?_
          refine r_if_ne hκ (tgt := 52) (by decide) dX12_beginOf_45 (fun h20 => ?_) (fun h20 => ?_)
          · replace h := (bte_i h).2 h20
            refine r_iconst hκ dX12_beginOf_52 ?_
            exact r_sub [0, 1, 2, 4] rfl (ih 2 _ _ _ _ _ h rfl)
          · replace h := (bte_i h).1 h20
            exact r_sub [0, 1, 2, 4] rfl (ih 1 _ _ _ _ _ h rfl)
  | 1, h =>
      refine r_iconst hκ dX12_beginOf_48 ?_
      refine r_goto hκ (tgt := 53) (by decide) dX12_beginOf_49 ?_
      exact r_sub [0, 1, 2, 3] rfl (ih 2 _ _ _ _ _ h rfl)
  | 2, h =>
      refine r_iadd hκ dX12_beginOf_53 ?_
      refine r_istore_n hκ (L2 := [(3, (0, (x5 + x4))), (0, (2, x0)), (1, (0, x1)), (2, (0, x2)), (4, (0, x3))]) (by decide) rfl rfl dX12_beginOf_54 ?_
      refine r_iload_n hκ 0 rfl rfl dX12_beginOf_55 ?_
      refine r_iload_n hκ 3 rfl rfl dX12_beginOf_56 ?_
      refine r_icmp_ne hκ (tgt := 63) (by decide) dX12_beginOf_57 (fun h21 => ?_) (fun h21 => ?_)
      · replace h := (bte_i h).2 h21
        refine r_iinc hκ (L2 := [(4, (0, (x3 + 1))), (3, (0, (x5 + x4))), (0, (2, x0)), (1, (0, x1)), (2, (0, x2))]) 4 rfl (by decide) rfl dX12_beginOf_63 ?_
        refine r_goto hκ (tgt := 5) (by decide) dX12_beginOf_66 ?_
        exact r_sub [2, 3, 4, 1, 0] rfl (ih 0 _ _ _ _ _ h rfl)
      · replace h := (bte_i h).1 h21
        refine r_iload hκ 4 rfl dX12_beginOf_60 ?_
        exact r_iretH hκ hf h (nar_int _) dX12_beginOf_62
  | b + 3, h => trivial
set_option maxHeartbeats 4000000 in
set_option maxRecDepth 100000 in
theorem w_X12_beginOf (Γ0 : bG) (l0 : Launch) {s0 st' : bS} {v a0 a1 a2 : Int} (h : F_X12_beginOf s0 a0 a1 a2 = some (st', v)) : bCt Γ0 l0 yX12_beginOf cX12_beginOf 5 (some .int) 2 41 [(2, a0), (0, a1), (0, a2)] s0 st' (some (0, v)) := by
  refine b_ent (own := RX12) (by decide +kernel) rfl (Nat.le_of_ble_eq_true rfl) (L := [(0, (2, a0)), (1, (0, a1)), (2, (0, a2))]) rfl ?_
  intro κ hκ hi hf
  unfold F_X12_beginOf at h
  refine r_iconst hκ dX12_beginOf_0 ?_
  refine r_istore_n hκ (L2 := [(3, (0, (-1))), (0, (2, a0)), (1, (0, a1)), (2, (0, a2))]) (by decide) rfl rfl dX12_beginOf_1 ?_
  refine r_iconst hκ dX12_beginOf_2 ?_
  refine r_istore hκ (L2 := [(4, (0, 0)), (3, (0, (-1))), (0, (2, a0)), (1, (0, a1)), (2, (0, a2))]) (by decide) rfl dX12_beginOf_3 ?_
  exact r_sub [2, 3, 4, 1, 0] rfl (w_X12_beginOf_r hκ hi hf 0 _ _ _ _ _ _ _ h)
/-- EditsMeetModel.kindTold(I)I -/
def F_X12_kindTold (s0 : bS) (a0 : Int) : Option (bS × Int) :=
  bcl (F_X12_kind s0 a0) fun s1 v1 =>
  bte (i32 v1 = i32 1048576)
  (some (s1, 1))
  (bcl (F_X12_kind s1 a0) fun s2 v2 =>
  bte (i32 v2 = i32 2097152)
  (some (s2, 3))
  (bcl (F_X12_kind s2 a0) fun s3 v3 =>
  bte (i32 v3 = i32 3145728)
  (some (s3, 4))
  (some (s3, 5))))
set_option maxHeartbeats 4000000 in
set_option maxRecDepth 100000 in
theorem w_X12_kindTold (Γ0 : bG) (l0 : Launch) {s0 st' : bS} {v a0 : Int} (h : F_X12_kindTold s0 a0 = some (st', v)) : bCt Γ0 l0 yX12_kindTold cX12_kindTold 1 (some .int) 1 20 [(0, a0)] s0 st' (some (0, v)) := by
  refine b_ent (own := RX12) (by decide +kernel) rfl (Nat.le_of_ble_eq_true rfl) (L := [(0, (0, a0))]) rfl ?_
  intro κ hκ hi hf
  unfold F_X12_kindTold at h
  refine r_iload_n hκ 0 rfl rfl dX12_kindTold_0 ?_
  obtain ⟨s1, v1, h1, h⟩ := bcl_i h
  refine r_callS hκ (n' := 1) (index := 104) (w_X12_kind Γ0 l0 h1) (lw_S q3203 q3204 q146 q3205) (by decide +kernel) rfl (by decide) rfl (Nat.le_of_ble_eq_true rfl) dX12_kindTold_1 ?_
  refine r_ldci hκ (x := 1048576) q3185 (by decide) dX12_kindTold_4 ?_
  refine r_icmp_ne hκ (tgt := 13) (by decide) dX12_kindTold_6 (fun h2 => ?_) (fun h2 => ?_)
  · replace h := (bte_i h).2 h2
    refine r_iload_n hκ 0 rfl rfl dX12_kindTold_13 ?_
    obtain ⟨s2, v2, h3, h⟩ := bcl_i h
    refine r_callS hκ (n' := 1) (index := 104) (w_X12_kind Γ0 l0 h3) (lw_S q3203 q3204 q146 q3205) (by decide +kernel) rfl (by decide) rfl (Nat.le_of_ble_eq_true rfl) dX12_kindTold_14 ?_
    refine r_ldci hκ (x := 2097152) q3196 (by decide) dX12_kindTold_17 ?_
    refine r_icmp_ne hκ (tgt := 26) (by decide) dX12_kindTold_19 (fun h4 => ?_) (fun h4 => ?_)
    · replace h := (bte_i h).2 h4
      refine r_iload_n hκ 0 rfl rfl dX12_kindTold_26 ?_
      obtain ⟨s3, v3, h5, h⟩ := bcl_i h
      refine r_callS hκ (n' := 1) (index := 104) (w_X12_kind Γ0 l0 h5) (lw_S q3203 q3204 q146 q3205) (by decide +kernel) rfl (by decide) rfl (Nat.le_of_ble_eq_true rfl) dX12_kindTold_27 ?_
      refine r_ldci hκ (x := 3145728) q3197 (by decide) dX12_kindTold_30 ?_
      refine r_icmp_ne hκ (tgt := 39) (by decide) dX12_kindTold_32 (fun h6 => ?_) (fun h6 => ?_)
      · replace h := (bte_i h).2 h6
        refine r_iconst hκ dX12_kindTold_39 ?_
        exact r_iretH hκ hf h (nar_int _) dX12_kindTold_40
      · replace h := (bte_i h).1 h6
        refine r_iconst hκ dX12_kindTold_35 ?_
        refine r_goto hκ (tgt := 40) (by decide) dX12_kindTold_36 ?_
        exact r_iretH hκ hf h (nar_int _) dX12_kindTold_40
    · replace h := (bte_i h).1 h4
      refine r_iconst hκ dX12_kindTold_22 ?_
      refine r_goto hκ (tgt := 40) (by decide) dX12_kindTold_23 ?_
      exact r_iretH hκ hf h (nar_int _) dX12_kindTold_40
  · replace h := (bte_i h).1 h2
    refine r_iconst hκ dX12_kindTold_9 ?_
    refine r_goto hκ (tgt := 40) (by decide) dX12_kindTold_10 ?_
    exact r_iretH hκ hf h (nar_int _) dX12_kindTold_40
/-- EditsMeetModel.part(III)I -/
def F_X12_part_r (b : Nat) (x0 : Int) (s0 : bS) : Option (bS × Int) :=
  match b with
  | 0 =>
    bck (bg s0 0 x0 0 = 11) <|
    bcl (F_X12_refused s0 x0 (-2)) fun s12 v12 =>
    some (s12, v12)
  | _ => none
def F_X12_part (s0 : bS) (a0 a1 a2 a3 : Int) : Option (bS × Int) :=
  bcl (F_X12_isEdit s0 a1) fun s1 v1 =>
  bte (i32 v1 = 0)
  (F_X12_part_r 0 a0 s1)
  (bcl (F_X12_in s1 (b_i2l a3) 0 3) fun s2 v2 =>
  bte (i32 v2 = 0)
  (F_X12_part_r 0 a0 s2)
  (bck (bg s2 0 a0 0 = 11) <|
  bcl (F_X12_isKept s2 a0 a1) fun s3 v3 =>
  bte (i32 v3 = 0)
  (bck (bg s3 0 a0 0 = 11) <|
  bcl (F_X12_refused s3 a0 (-4)) fun s11 v11 =>
  some (s11, v11))
  (bck (bg s3 0 a0 0 = 11) <|
  bcl (F_X12_parts s3 a0 a1) fun s4 v4 =>
  bcl (F_X12_in s4 (b_i2l a2) 0 (b_i2l (v4 - 1))) fun s5 v5 =>
  bte (i32 v5 = 0)
  (bck (bg s5 0 a0 0 = 11) <|
  bcl (F_X12_refused s5 a0 (-2)) fun s10 v10 =>
  some (s10, v10))
  (bck (bg s5 0 a0 0 = 11) <|
  bcl (F_X12_beginOf s5 a0 a1 a2) fun s6 v6 =>
  bck (bg s6 0 a0 0 = 11) <|
  bck (bg s6 0 (bg s6 214 a0 0) 0 = 1010 ∧ (0 : Int) ≤ a1 ∧ a1 < bg s6 4 (bg s6 214 a0 0) 0) <|
  bck (bg s6 0 (bg s6 10 (bg s6 214 a0 0) a1) 0 = 1003 ∧ (0 : Int) ≤ v6 ∧ v6 < bg s6 4 (bg s6 10 (bg s6 214 a0 0) a1) 0) <|
  bvl ((bg s6 20 (bg s6 10 (bg s6 214 a0 0) a1) v6)) fun t1 =>
  bte (i32 2 ≤ i32 a3)
  (bcl (F_X12_kind s6 t1) fun s7 v7 =>
  bte (i32 v7 = i32 4194304)
  (bte (i32 a3 = i32 2)
  (some (s7, (b_iand (b_ishr t1 4) 15)))
  (some (s7, (b_iand t1 15))))
  (some (s7, 0)))
  (bte (i32 a3 = 0)
  (bcl (F_X12_kindTold s6 t1) fun s9 v9 =>
  some (s9, v9))
  (bck (bg s6 0 a0 0 = 11) <|
  bcl (F_X12_beginOf s6 a0 a1 (a2 + 1)) fun s8 v8 =>
  some (s8, (v8 - v6))))))))
set_option maxHeartbeats 4000000 in
set_option maxRecDepth 100000 in
set_option synthInstance.maxHeartbeats 4000000 in
theorem w_X12_part_r {Γ0 : bG} {l0 : Launch} {κ : bK} {st' : bS} {v : Int} (hκ : bOk κ Γ0 l0 cX12_part RX12 6 3 65) (hi : bIn κ yX12_part) (hf : bFin κ (some .int) st' (some (0, v))) (b : Nat) (x0 : Int) (s0 : bS) (h : F_X12_part_r b x0 s0 = some (st', v)) : match (generalizing := false) b with | 0 => bJ κ s0 19 [(0, (2, x0))] [] | _ => True := by
  unfold F_X12_part_r at h
  match b, h with
  | 0, h =>
      refine r_aload_n hκ 0 rfl rfl dX12_part_19 ?_
      refine r_bipush hκ (by decide) dX12_part_20 ?_
      obtain ⟨h31, h⟩ := bck_i h
      obtain ⟨s12, v12, h32, h⟩ := bcl_i h
      refine r_callV hκ (n' := 1) (index := 183) (w_X12_refused Γ0 l0 h32) (lw_V q3159 q3161 qs73 q146 q3162) (by decide +kernel) (t := 10) h31 rfl rfl (by decide) rfl (Nat.le_of_ble_eq_true rfl) dX12_part_22 ?_
      exact r_iretH hκ hf h (nar_int _) dX12_part_25
  | b + 1, h => trivial
set_option maxHeartbeats 4000000 in
set_option maxRecDepth 100000 in
theorem w_X12_part (Γ0 : bG) (l0 : Launch) {s0 st' : bS} {v a0 a1 a2 a3 : Int} (h : F_X12_part s0 a0 a1 a2 a3 = some (st', v)) : bCt Γ0 l0 yX12_part cX12_part 6 (some .int) 3 65 [(2, a0), (0, a1), (0, a2), (0, a3)] s0 st' (some (0, v)) := by
  refine b_ent (own := RX12) (by decide +kernel) rfl (Nat.le_of_ble_eq_true rfl) (L := [(0, (2, a0)), (1, (0, a1)), (2, (0, a2)), (3, (0, a3))]) rfl ?_
  intro κ hκ hi hf
  unfold F_X12_part at h
  refine r_iload_n hκ 1 rfl rfl dX12_part_0 ?_
  obtain ⟨s1, v1, h1, h⟩ := bcl_i h
  refine r_callS hκ (n' := 1) (index := 211) (w_X12_isEdit Γ0 l0 h1) (lw_S q3171 q3172 q146 q3173) (by decide +kernel) rfl (by decide) rfl (Nat.le_of_ble_eq_true rfl) dX12_part_1 ?_
  refine r_if_eq hκ (tgt := 19) (by decide) dX12_part_4 (fun h2 => ?_) (fun h2 => ?_)
  · replace h := (bte_i h).1 h2
    exact r_sub [0] rfl (w_X12_part_r hκ hi hf 0 _ _ h)
  · replace h := (bte_i h).2 h2
    refine r_iload_n hκ 3 rfl rfl dX12_part_7 ?_
    refine r_i2l hκ dX12_part_8 ?_
    refine r_lconst hκ (x := 0) (by decide) dX12_part_9 ?_
    refine r_ldcl hκ (x := 3) q3253 (by decide) dX12_part_10 ?_
    obtain ⟨s2, v2, h3, h⟩ := bcl_i h
    refine r_callS hκ (n' := 3) (index := 175) (w_X12_in Γ0 l0 h3) (lw_S q3156 q3157 q146 q3158) (by decide +kernel) rfl (by decide) rfl (Nat.le_of_ble_eq_true rfl) dX12_part_13 ?_
    refine r_if_ne hκ (tgt := 26) (by decide) dX12_part_16 (fun h4 => ?_) (fun h4 => ?_)
    · replace h := (bte_i h).2 h4
      refine r_aload_n hκ 0 rfl rfl dX12_part_26 ?_
      refine r_iload_n hκ 1 rfl rfl dX12_part_27 ?_
      obtain ⟨h5, h⟩ := bck_i h
      obtain ⟨s3, v3, h6, h⟩ := bcl_i h
      refine r_callV hκ (n' := 1) (index := 230) (w_X12_isKept Γ0 l0 h6) (lw_V q3230 q3232 qs82 q146 q3233) (by decide +kernel) (t := 10) h5 rfl rfl (by decide) rfl (Nat.le_of_ble_eq_true rfl) dX12_part_28 ?_
      refine r_if_ne hκ (tgt := 41) (by decide) dX12_part_31 (fun h7 => ?_) (fun h7 => ?_)
      · replace h := (bte_i h).2 h7
        refine r_iload_n hκ 2 rfl rfl dX12_part_41 ?_
        refine r_i2l hκ dX12_part_42 ?_
        refine r_lconst hκ (x := 0) (by decide) dX12_part_43 ?_
        refine r_aload_n hκ 0 rfl rfl dX12_part_44 ?_
        refine r_iload_n hκ 1 rfl rfl dX12_part_45 ?_
        obtain ⟨h8, h⟩ := bck_i h
        obtain ⟨s4, v4, h9, h⟩ := bcl_i h
        refine r_callV hκ (n' := 1) (index := 221) (w_X12_parts Γ0 l0 h9) (lw_V q3218 q3220 qs81 q146 q3221) (by decide +kernel) (t := 10) h8 rfl rfl (by decide) rfl (Nat.le_of_ble_eq_true rfl) dX12_part_46 ?_
        refine r_iconst hκ dX12_part_49 ?_
        refine r_isub hκ dX12_part_50 ?_
        refine r_i2l hκ dX12_part_51 ?_
        obtain ⟨s5, v5, h10, h⟩ := bcl_i h
        refine r_callS hκ (n' := 3) (index := 175) (w_X12_in Γ0 l0 h10) (lw_S q3156 q3157 q146 q3158) (by decide +kernel) rfl (by decide) rfl (Nat.le_of_ble_eq_true rfl) dX12_part_52 ?_
        refine r_if_ne hκ (tgt := 65) (by decide) dX12_part_55 (fun h11 => ?_) (fun h11 => ?_)
        · replace h := (bte_i h).2 h11
          refine r_aload_n hκ 0 rfl rfl dX12_part_65 ?_
          refine r_iload_n hκ 1 rfl rfl dX12_part_66 ?_
          refine r_iload_n hκ 2 rfl rfl dX12_part_67 ?_
          obtain ⟨h12, h⟩ := bck_i h
          obtain ⟨s6, v6, h13, h⟩ := bcl_i h
          refine r_callV hκ (n' := 2) (index := 242) (w_X12_beginOf Γ0 l0 h13) (lw_V q3254 q3256 qs86 q146 q3257) (by decide +kernel) (t := 10) h12 rfl rfl (by decide) rfl (Nat.le_of_ble_eq_true rfl) dX12_part_68 ?_
          refine r_istore hκ (L2 := [(4, (0, v6)), (0, (2, a0)), (1, (0, a1)), (2, (0, a2)), (3, (0, a3))]) (by decide) rfl dX12_part_71 ?_
          refine r_aload_n hκ 1 rfl rfl dX12_part_73 ?_
          obtain ⟨h14, h⟩ := bck_i h
          refine r_get hκ (t := 10) (k := 0) (r := 214) h14 rfl in_X12 (by decide) rfl q3051 (Or.inl rfl) dX12_part_74 ?_
          refine r_iload_n hκ 2 rfl rfl dX12_part_77 ?_
          obtain ⟨⟨h15, h16⟩, h⟩ := bck_i h
          refine r_aald hκ (t := 10) (by decide) h15 h16 dX12_part_78 ?_
          refine r_iload hκ 0 rfl dX12_part_79 ?_
          obtain ⟨⟨h17, h18⟩, h⟩ := bck_i h
          refine r_iald hκ h17 h18 dX12_part_81 ?_
          refine r_nm (fun t1 et1 => ?_)
          replace h := bvl_i h t1 et1
          refine r_istore hκ (L2 := [(5, (0, t1)), (4, (0, v6)), (0, (2, a0)), (1, (0, a1)), (2, (0, a2)), (3, (0, a3))]) (by decide) rfl dX12_part_82 ?_
          refine r_iload_n hκ 5 rfl rfl dX12_part_84 ?_
          refine r_iconst hκ dX12_part_85 ?_
          refine r_icmp_ge hκ (tgt := 113) (by decide) dX12_part_86 (fun h19 => ?_) (fun h19 => ?_)
          · replace h := (bte_i h).1 h19
            refine r_iload hκ 0 rfl dX12_part_113 ?_
            obtain ⟨s7, v7, h20, h⟩ := bcl_i h
            refine r_callS hκ (n' := 1) (index := 104) (w_X12_kind Γ0 l0 h20) (lw_S q3203 q3204 q146 q3205) (by decide +kernel) rfl (by decide) rfl (Nat.le_of_ble_eq_true rfl) dX12_part_115 ?_
            refine r_ldci hκ (x := 4194304) q3198 (by decide) dX12_part_118 ?_
            refine r_icmp_eq hκ (tgt := 127) (by decide) dX12_part_120 (fun h21 => ?_) (fun h21 => ?_)
            · replace h := (bte_i h).1 h21
              refine r_iload_n hκ 5 rfl rfl dX12_part_127 ?_
              refine r_iconst hκ dX12_part_128 ?_
              refine r_icmp_ne hκ (tgt := 142) (by decide) dX12_part_129 (fun h22 => ?_) (fun h22 => ?_)
              · replace h := (bte_i h).2 h22
                refine r_iload hκ 0 rfl dX12_part_142 ?_
                refine r_bipush hκ (by decide) dX12_part_144 ?_
                refine r_iand hκ dX12_part_146 ?_
                exact r_iretH hκ hf h (nar_int _) dX12_part_147
              · replace h := (bte_i h).1 h22
                refine r_iload hκ 0 rfl dX12_part_132 ?_
                refine r_iconst hκ dX12_part_134 ?_
                refine r_ishr hκ dX12_part_135 ?_
                refine r_bipush hκ (by decide) dX12_part_136 ?_
                refine r_iand hκ dX12_part_138 ?_
                refine r_goto hκ (tgt := 147) (by decide) dX12_part_139 ?_
                exact r_iretH hκ hf h (nar_int _) dX12_part_147
            · replace h := (bte_i h).2 h21
              refine r_iconst hκ dX12_part_123 ?_
              refine r_goto hκ (tgt := 147) (by decide) dX12_part_124 ?_
              exact r_iretH hκ hf h (nar_int _) dX12_part_147
          · replace h := (bte_i h).2 h19
            refine r_iload_n hκ 5 rfl rfl dX12_part_89 ?_
            refine r_if_ne hκ (tgt := 101) (by decide) dX12_part_90 (fun h23 => ?_) (fun h23 => ?_)
            · replace h := (bte_i h).2 h23
              refine r_aload_n hκ 2 rfl rfl dX12_part_101 ?_
              refine r_iload_n hκ 3 rfl rfl dX12_part_102 ?_
              refine r_iload_n hκ 4 rfl rfl dX12_part_103 ?_
              refine r_iconst hκ dX12_part_104 ?_
              refine r_iadd hκ dX12_part_105 ?_
              obtain ⟨h24, h⟩ := bck_i h
              obtain ⟨s8, v8, h25, h⟩ := bcl_i h
              refine r_callV hκ (n' := 2) (index := 242) (w_X12_beginOf Γ0 l0 h25) (lw_V q3254 q3256 qs86 q146 q3257) (by decide +kernel) (t := 10) h24 rfl rfl (by decide) rfl (Nat.le_of_ble_eq_true rfl) dX12_part_106 ?_
              refine r_iload hκ 1 rfl dX12_part_109 ?_
              refine r_isub hκ dX12_part_111 ?_
              exact r_iretH hκ hf h (nar_int _) dX12_part_112
            · replace h := (bte_i h).1 h23
              refine r_iload hκ 0 rfl dX12_part_93 ?_
              obtain ⟨s9, v9, h26, h⟩ := bcl_i h
              refine r_callS hκ (n' := 1) (index := 245) (w_X12_kindTold Γ0 l0 h26) (lw_S q3258 q3259 q146 q3260) (by decide +kernel) rfl (by decide) rfl (Nat.le_of_ble_eq_true rfl) dX12_part_95 ?_
              refine r_goto hκ (tgt := 112) (by decide) dX12_part_98 ?_
              exact r_iretH hκ hf h (nar_int _) dX12_part_112
        · replace h := (bte_i h).1 h11
          refine r_aload_n hκ 0 rfl rfl dX12_part_58 ?_
          refine r_bipush hκ (by decide) dX12_part_59 ?_
          obtain ⟨h27, h⟩ := bck_i h
          obtain ⟨s10, v10, h28, h⟩ := bcl_i h
          refine r_callV hκ (n' := 1) (index := 183) (w_X12_refused Γ0 l0 h28) (lw_V q3159 q3161 qs73 q146 q3162) (by decide +kernel) (t := 10) h27 rfl rfl (by decide) rfl (Nat.le_of_ble_eq_true rfl) dX12_part_61 ?_
          exact r_iretH hκ hf h (nar_int _) dX12_part_64
      · replace h := (bte_i h).1 h7
        refine r_aload_n hκ 0 rfl rfl dX12_part_34 ?_
        refine r_bipush hκ (by decide) dX12_part_35 ?_
        obtain ⟨h29, h⟩ := bck_i h
        obtain ⟨s11, v11, h30, h⟩ := bcl_i h
        refine r_callV hκ (n' := 1) (index := 183) (w_X12_refused Γ0 l0 h30) (lw_V q3159 q3161 qs73 q146 q3162) (by decide +kernel) (t := 10) h29 rfl rfl (by decide) rfl (Nat.le_of_ble_eq_true rfl) dX12_part_37 ?_
        exact r_iretH hκ hf h (nar_int _) dX12_part_40
    · replace h := (bte_i h).1 h4
      exact r_sub [0] rfl (w_X12_part_r hκ hi hf 0 _ _ h)
/-- EditsMeetModel.letter(III)I -/
def F_X12_letter (s0 : bS) (a0 a1 a2 a3 : Int) : Option (bS × Int) :=
  bcl (F_X12_isEdit s0 a1) fun s1 v1 =>
  bte (i32 v1 = 0)
  (bck (bg s1 0 a0 0 = 11) <|
  bcl (F_X12_refused s1 a0 (-2)) fun s13 v13 =>
  some (s13, v13))
  (bck (bg s1 0 a0 0 = 11) <|
  bcl (F_X12_isKept s1 a0 a1) fun s2 v2 =>
  bte (i32 v2 = 0)
  (bck (bg s2 0 a0 0 = 11) <|
  bcl (F_X12_refused s2 a0 (-4)) fun s12 v12 =>
  some (s12, v12))
  (bck (bg s2 0 a0 0 = 11) <|
  bcl (F_X12_parts s2 a0 a1) fun s3 v3 =>
  bcl (F_X12_in s3 (b_i2l a2) 0 (b_i2l (v3 - 1))) fun s4 v4 =>
  bte (i32 v4 = 0)
  (bck (bg s4 0 a0 0 = 11) <|
  bcl (F_X12_refused s4 a0 (-2)) fun s11 v11 =>
  some (s11, v11))
  (bck (bg s4 0 a0 0 = 11) <|
  bcl (F_X12_beginOf s4 a0 a1 a2) fun s5 v5 =>
  bck (bg s5 0 a0 0 = 11) <|
  bck (bg s5 0 (bg s5 214 a0 0) 0 = 1010 ∧ (0 : Int) ≤ a1 ∧ a1 < bg s5 4 (bg s5 214 a0 0) 0) <|
  bck (bg s5 0 (bg s5 10 (bg s5 214 a0 0) a1) 0 = 1003 ∧ (0 : Int) ≤ v5 ∧ v5 < bg s5 4 (bg s5 10 (bg s5 214 a0 0) a1) 0) <|
  bcl (F_X12_kind s5 (bg s5 20 (bg s5 10 (bg s5 214 a0 0) a1) v5)) fun s6 v6 =>
  bte (i32 v6 = i32 1048576)
  (bck (bg s6 0 a0 0 = 11) <|
  bcl (F_X12_beginOf s6 a0 a1 (a2 + 1)) fun s7 v7 =>
  bcl (F_X12_in s7 (b_i2l a3) 0 (b_i2l ((v7 - v5) - 1))) fun s8 v8 =>
  bte (i32 v8 = 0)
  (bck (bg s8 0 a0 0 = 11) <|
  bcl (F_X12_refused s8 a0 (-2)) fun s9 v9 =>
  some (s9, v9))
  (bck (bg s8 0 a0 0 = 11) <|
  bck (bg s8 0 (bg s8 214 a0 0) 0 = 1010 ∧ (0 : Int) ≤ a1 ∧ a1 < bg s8 4 (bg s8 214 a0 0) 0) <|
  bck (bg s8 0 (bg s8 10 (bg s8 214 a0 0) a1) 0 = 1003 ∧ (0 : Int) ≤ (v5 + a3) ∧ (v5 + a3) < bg s8 4 (bg s8 10 (bg s8 214 a0 0) a1) 0) <|
  bvl ((bg s8 20 (bg s8 10 (bg s8 214 a0 0) a1) (v5 + a3))) fun t1 =>
  some (s8, ((b_iand t1 255) + (100 * (b_iand (b_ishr t1 8) 15))))))
  (bck (bg s6 0 a0 0 = 11) <|
  bcl (F_X12_refused s6 a0 (-3)) fun s10 v10 =>
  some (s10, v10)))))
set_option maxHeartbeats 4000000 in
set_option maxRecDepth 100000 in
theorem w_X12_letter (Γ0 : bG) (l0 : Launch) {s0 st' : bS} {v a0 a1 a2 a3 : Int} (h : F_X12_letter s0 a0 a1 a2 a3 = some (st', v)) : bCt Γ0 l0 yX12_letter cX12_letter 6 (some .int) 3 65 [(2, a0), (0, a1), (0, a2), (0, a3)] s0 st' (some (0, v)) := by
  refine b_ent (own := RX12) (by decide +kernel) rfl (Nat.le_of_ble_eq_true rfl) (L := [(0, (2, a0)), (1, (0, a1)), (2, (0, a2)), (3, (0, a3))]) rfl ?_
  intro κ hκ hi hf
  unfold F_X12_letter at h
  refine r_iload_n hκ 1 rfl rfl dX12_letter_0 ?_
  obtain ⟨s1, v1, h1, h⟩ := bcl_i h
  refine r_callS hκ (n' := 1) (index := 211) (w_X12_isEdit Γ0 l0 h1) (lw_S q3171 q3172 q146 q3173) (by decide +kernel) rfl (by decide) rfl (Nat.le_of_ble_eq_true rfl) dX12_letter_1 ?_
  refine r_if_ne hκ (tgt := 14) (by decide) dX12_letter_4 (fun h2 => ?_) (fun h2 => ?_)
  · replace h := (bte_i h).2 h2
    refine r_aload_n hκ 0 rfl rfl dX12_letter_14 ?_
    refine r_iload_n hκ 1 rfl rfl dX12_letter_15 ?_
    obtain ⟨h3, h⟩ := bck_i h
    obtain ⟨s2, v2, h4, h⟩ := bcl_i h
    refine r_callV hκ (n' := 1) (index := 230) (w_X12_isKept Γ0 l0 h4) (lw_V q3230 q3232 qs82 q146 q3233) (by decide +kernel) (t := 10) h3 rfl rfl (by decide) rfl (Nat.le_of_ble_eq_true rfl) dX12_letter_16 ?_
    refine r_if_ne hκ (tgt := 29) (by decide) dX12_letter_19 (fun h5 => ?_) (fun h5 => ?_)
    · replace h := (bte_i h).2 h5
      refine r_iload_n hκ 2 rfl rfl dX12_letter_29 ?_
      refine r_i2l hκ dX12_letter_30 ?_
      refine r_lconst hκ (x := 0) (by decide) dX12_letter_31 ?_
      refine r_aload_n hκ 0 rfl rfl dX12_letter_32 ?_
      refine r_iload_n hκ 1 rfl rfl dX12_letter_33 ?_
      obtain ⟨h6, h⟩ := bck_i h
      obtain ⟨s3, v3, h7, h⟩ := bcl_i h
      refine r_callV hκ (n' := 1) (index := 221) (w_X12_parts Γ0 l0 h7) (lw_V q3218 q3220 qs81 q146 q3221) (by decide +kernel) (t := 10) h6 rfl rfl (by decide) rfl (Nat.le_of_ble_eq_true rfl) dX12_letter_34 ?_
      refine r_iconst hκ dX12_letter_37 ?_
      refine r_isub hκ dX12_letter_38 ?_
      refine r_i2l hκ dX12_letter_39 ?_
      obtain ⟨s4, v4, h8, h⟩ := bcl_i h
      refine r_callS hκ (n' := 3) (index := 175) (w_X12_in Γ0 l0 h8) (lw_S q3156 q3157 q146 q3158) (by decide +kernel) rfl (by decide) rfl (Nat.le_of_ble_eq_true rfl) dX12_letter_40 ?_
      refine r_if_ne hκ (tgt := 53) (by decide) dX12_letter_43 (fun h9 => ?_) (fun h9 => ?_)
      · replace h := (bte_i h).2 h9
        refine r_aload_n hκ 0 rfl rfl dX12_letter_53 ?_
        refine r_iload_n hκ 1 rfl rfl dX12_letter_54 ?_
        refine r_iload_n hκ 2 rfl rfl dX12_letter_55 ?_
        obtain ⟨h10, h⟩ := bck_i h
        obtain ⟨s5, v5, h11, h⟩ := bcl_i h
        refine r_callV hκ (n' := 2) (index := 242) (w_X12_beginOf Γ0 l0 h11) (lw_V q3254 q3256 qs86 q146 q3257) (by decide +kernel) (t := 10) h10 rfl rfl (by decide) rfl (Nat.le_of_ble_eq_true rfl) dX12_letter_56 ?_
        refine r_istore hκ (L2 := [(4, (0, v5)), (0, (2, a0)), (1, (0, a1)), (2, (0, a2)), (3, (0, a3))]) (by decide) rfl dX12_letter_59 ?_
        refine r_aload_n hκ 1 rfl rfl dX12_letter_61 ?_
        obtain ⟨h12, h⟩ := bck_i h
        refine r_get hκ (t := 10) (k := 0) (r := 214) h12 rfl in_X12 (by decide) rfl q3051 (Or.inl rfl) dX12_letter_62 ?_
        refine r_iload_n hκ 2 rfl rfl dX12_letter_65 ?_
        obtain ⟨⟨h13, h14⟩, h⟩ := bck_i h
        refine r_aald hκ (t := 10) (by decide) h13 h14 dX12_letter_66 ?_
        refine r_iload hκ 0 rfl dX12_letter_67 ?_
        obtain ⟨⟨h15, h16⟩, h⟩ := bck_i h
        refine r_iald hκ h15 h16 dX12_letter_69 ?_
        obtain ⟨s6, v6, h17, h⟩ := bcl_i h
        refine r_callS hκ (n' := 1) (index := 104) (w_X12_kind Γ0 l0 h17) (lw_S q3203 q3204 q146 q3205) (by decide +kernel) rfl (by decide) rfl (Nat.le_of_ble_eq_true rfl) dX12_letter_70 ?_
        refine r_ldci hκ (x := 1048576) q3185 (by decide) dX12_letter_73 ?_
        refine r_icmp_eq hκ (tgt := 85) (by decide) dX12_letter_75 (fun h18 => ?_) (fun h18 => ?_)
        · replace h := (bte_i h).1 h18
          refine r_iload_n hκ 4 rfl rfl dX12_letter_85 ?_
          refine r_i2l hκ dX12_letter_86 ?_
          refine r_lconst hκ (x := 0) (by decide) dX12_letter_87 ?_
          refine r_aload_n hκ 1 rfl rfl dX12_letter_88 ?_
          refine r_iload_n hκ 2 rfl rfl dX12_letter_89 ?_
          refine r_iload_n hκ 3 rfl rfl dX12_letter_90 ?_
          refine r_iconst hκ dX12_letter_91 ?_
          refine r_iadd hκ dX12_letter_92 ?_
          obtain ⟨h19, h⟩ := bck_i h
          obtain ⟨s7, v7, h20, h⟩ := bcl_i h
          refine r_callV hκ (n' := 2) (index := 242) (w_X12_beginOf Γ0 l0 h20) (lw_V q3254 q3256 qs86 q146 q3257) (by decide +kernel) (t := 10) h19 rfl rfl (by decide) rfl (Nat.le_of_ble_eq_true rfl) dX12_letter_93 ?_
          refine r_iload hκ 0 rfl dX12_letter_96 ?_
          refine r_isub hκ dX12_letter_98 ?_
          refine r_iconst hκ dX12_letter_99 ?_
          refine r_isub hκ dX12_letter_100 ?_
          refine r_i2l hκ dX12_letter_101 ?_
          obtain ⟨s8, v8, h21, h⟩ := bcl_i h
          refine r_callS hκ (n' := 3) (index := 175) (w_X12_in Γ0 l0 h21) (lw_S q3156 q3157 q146 q3158) (by decide +kernel) rfl (by decide) rfl (Nat.le_of_ble_eq_true rfl) dX12_letter_102 ?_
          refine r_if_ne hκ (tgt := 115) (by decide) dX12_letter_105 (fun h22 => ?_) (fun h22 => ?_)
          · replace h := (bte_i h).2 h22
            refine r_aload_n hκ 1 rfl rfl dX12_letter_115 ?_
            obtain ⟨h23, h⟩ := bck_i h
            refine r_get hκ (t := 10) (k := 0) (r := 214) h23 rfl in_X12 (by decide) rfl q3051 (Or.inl rfl) dX12_letter_116 ?_
            refine r_iload_n hκ 2 rfl rfl dX12_letter_119 ?_
            obtain ⟨⟨h24, h25⟩, h⟩ := bck_i h
            refine r_aald hκ (t := 10) (by decide) h24 h25 dX12_letter_120 ?_
            refine r_iload hκ 0 rfl dX12_letter_121 ?_
            refine r_iload_n hκ 4 rfl rfl dX12_letter_123 ?_
            refine r_iadd hκ dX12_letter_124 ?_
            obtain ⟨⟨h26, h27⟩, h⟩ := bck_i h
            refine r_iald hκ h26 h27 dX12_letter_125 ?_
            refine r_nm (fun t1 et1 => ?_)
            replace h := bvl_i h t1 et1
            refine r_istore hκ (L2 := [(5, (0, t1)), (4, (0, v5)), (0, (2, a0)), (1, (0, a1)), (2, (0, a2)), (3, (0, a3))]) (by decide) rfl dX12_letter_126 ?_
            refine r_iload hκ 0 rfl dX12_letter_128 ?_
            refine r_sipush hκ (by decide) dX12_letter_130 ?_
            refine r_iand hκ dX12_letter_133 ?_
            refine r_bipush hκ (by decide) dX12_letter_134 ?_
            refine r_iload hκ 0 rfl dX12_letter_136 ?_
            refine r_bipush hκ (by decide) dX12_letter_138 ?_
            refine r_ishr hκ dX12_letter_140 ?_
            refine r_bipush hκ (by decide) dX12_letter_141 ?_
            refine r_iand hκ dX12_letter_143 ?_
            refine r_imul hκ dX12_letter_144 ?_
            refine r_iadd hκ dX12_letter_145 ?_
            exact r_iretH hκ hf h (nar_int _) dX12_letter_146
          · replace h := (bte_i h).1 h22
            refine r_aload_n hκ 1 rfl rfl dX12_letter_108 ?_
            refine r_bipush hκ (by decide) dX12_letter_109 ?_
            obtain ⟨h28, h⟩ := bck_i h
            obtain ⟨s9, v9, h29, h⟩ := bcl_i h
            refine r_callV hκ (n' := 1) (index := 183) (w_X12_refused Γ0 l0 h29) (lw_V q3159 q3161 qs73 q146 q3162) (by decide +kernel) (t := 10) h28 rfl rfl (by decide) rfl (Nat.le_of_ble_eq_true rfl) dX12_letter_111 ?_
            exact r_iretH hκ hf h (nar_int _) dX12_letter_114
        · replace h := (bte_i h).2 h18
          refine r_aload_n hκ 1 rfl rfl dX12_letter_78 ?_
          refine r_bipush hκ (by decide) dX12_letter_79 ?_
          obtain ⟨h30, h⟩ := bck_i h
          obtain ⟨s10, v10, h31, h⟩ := bcl_i h
          refine r_callV hκ (n' := 1) (index := 183) (w_X12_refused Γ0 l0 h31) (lw_V q3159 q3161 qs73 q146 q3162) (by decide +kernel) (t := 10) h30 rfl rfl (by decide) rfl (Nat.le_of_ble_eq_true rfl) dX12_letter_81 ?_
          exact r_iretH hκ hf h (nar_int _) dX12_letter_84
      · replace h := (bte_i h).1 h9
        refine r_aload_n hκ 0 rfl rfl dX12_letter_46 ?_
        refine r_bipush hκ (by decide) dX12_letter_47 ?_
        obtain ⟨h32, h⟩ := bck_i h
        obtain ⟨s11, v11, h33, h⟩ := bcl_i h
        refine r_callV hκ (n' := 1) (index := 183) (w_X12_refused Γ0 l0 h33) (lw_V q3159 q3161 qs73 q146 q3162) (by decide +kernel) (t := 10) h32 rfl rfl (by decide) rfl (Nat.le_of_ble_eq_true rfl) dX12_letter_49 ?_
        exact r_iretH hκ hf h (nar_int _) dX12_letter_52
    · replace h := (bte_i h).1 h5
      refine r_aload_n hκ 0 rfl rfl dX12_letter_22 ?_
      refine r_bipush hκ (by decide) dX12_letter_23 ?_
      obtain ⟨h34, h⟩ := bck_i h
      obtain ⟨s12, v12, h35, h⟩ := bcl_i h
      refine r_callV hκ (n' := 1) (index := 183) (w_X12_refused Γ0 l0 h35) (lw_V q3159 q3161 qs73 q146 q3162) (by decide +kernel) (t := 10) h34 rfl rfl (by decide) rfl (Nat.le_of_ble_eq_true rfl) dX12_letter_25 ?_
      exact r_iretH hκ hf h (nar_int _) dX12_letter_28
  · replace h := (bte_i h).1 h2
    refine r_aload_n hκ 0 rfl rfl dX12_letter_7 ?_
    refine r_bipush hκ (by decide) dX12_letter_8 ?_
    obtain ⟨h36, h⟩ := bck_i h
    obtain ⟨s13, v13, h37, h⟩ := bcl_i h
    refine r_callV hκ (n' := 1) (index := 183) (w_X12_refused Γ0 l0 h37) (lw_V q3159 q3161 qs73 q146 q3162) (by decide +kernel) (t := 10) h36 rfl rfl (by decide) rfl (Nat.le_of_ble_eq_true rfl) dX12_letter_10 ?_
    exact r_iretH hκ hf h (nar_int _) dX12_letter_13
/-- EditsMeetModel.tells(I)V -/
def F_X12_tells_r (b : Nat) (x0 x1 x2 : Int) (s0 : bS) : Option (bS × Int) :=
  match b with
  | 0 =>
    bck ((bg s0 0 x2 0 = 11)) <|
    bst (bw s0 284 x2 0 x1) fun s1 =>
    bck (bg s1 0 x0 0 = 11) <|
    bck ((bg s1 0 x0 0 = 11)) <|
    bst (bw s1 276 x0 0 ((bg s1 276 x0 0) + 1)) fun s2 =>
    some (s2, 0)
  | _ => none
def F_X12_tells (s0 : bS) (a0 a1 : Int) : Option (bS × Int) :=
  bck (bg s0 0 a0 0 = 11) <|
  bck (bg s0 0 a0 0 = 11) <|
  bte (i32 (bg s0 276 a0 0) = i32 (bg s0 280 a0 0))
  (F_X12_tells_r 0 a0 a1 a0 s0)
  (bck (bg s0 0 a0 0 = 11) <|
  F_X12_tells_r 0 a0 (bg s0 284 a0 0) a0 s0)
set_option maxHeartbeats 4000000 in
set_option maxRecDepth 100000 in
set_option synthInstance.maxHeartbeats 4000000 in
theorem w_X12_tells_r {Γ0 : bG} {l0 : Launch} {κ : bK} {st' : bS} {v : Int} (hκ : bOk κ Γ0 l0 cX12_tells RX12 2 0 0) (hi : bIn κ yX12_tells) (hf : bFin κ none st' none) (b : Nat) (x0 x1 x2 : Int) (s0 : bS) (h : F_X12_tells_r b x0 x1 x2 s0 = some (st', v)) : match (generalizing := false) b with | 0 => bJ κ s0 20 [(0, (2, x0))] [(0, x1), (2, x2)] | _ => True := by
  unfold F_X12_tells_r at h
  match b, h with
  | 0, h =>
      obtain ⟨h5, h⟩ := bck_i h
      refine r_put hκ (t := 10) (k := 18) (r := 284) (ty := .int) tyX12 tyX12_ok nmX12 h5 rfl in_X12 (by decide) rfl q3069 (Or.inl rfl) rfl rfl rfl trivial (Or.inl (by decide)) dX12_tells_20 (fun s1 es1 => ?_)
      replace h := bst_i h s1 es1
      refine r_aload_n hκ 0 rfl rfl dX12_tells_23 ?_
      refine r_dup hκ (bd_cat2k _) dX12_tells_24 ?_
      obtain ⟨h6, h⟩ := bck_i h
      refine r_get hκ (t := 10) (k := 16) (r := 276) h6 rfl in_X12 (by decide) rfl q3067 (Or.inl rfl) dX12_tells_25 ?_
      refine r_iconst hκ dX12_tells_28 ?_
      refine r_iadd hκ dX12_tells_29 ?_
      obtain ⟨h7, h⟩ := bck_i h
      refine r_put hκ (t := 10) (k := 16) (r := 276) (ty := .int) tyX12 tyX12_ok nmX12 h7 rfl in_X12 (by decide) rfl q3067 (Or.inl rfl) rfl rfl rfl trivial (Or.inl (by decide)) dX12_tells_30 (fun s2 es2 => ?_)
      replace h := bst_i h s2 es2
      exact r_vretH hκ hf h dX12_tells_33
  | b + 1, h => trivial
set_option maxHeartbeats 4000000 in
set_option maxRecDepth 100000 in
theorem w_X12_tells (Γ0 : bG) (l0 : Launch) {s0 st' : bS} {v a0 a1 : Int} (h : F_X12_tells s0 a0 a1 = some (st', v)) : bCt Γ0 l0 yX12_tells cX12_tells 2 none 0 0 [(2, a0), (0, a1)] s0 st' none := by
  refine b_ent (own := RX12) (by decide +kernel) rfl (Nat.le_of_ble_eq_true rfl) (L := [(0, (2, a0)), (1, (0, a1))]) rfl ?_
  intro κ hκ hi hf
  unfold F_X12_tells at h
  refine r_aload_n hκ 0 rfl rfl dX12_tells_0 ?_
  refine r_aload_n hκ 0 rfl rfl dX12_tells_1 ?_
  obtain ⟨h1, h⟩ := bck_i h
  refine r_get hκ (t := 10) (k := 16) (r := 276) h1 rfl in_X12 (by decide) rfl q3067 (Or.inl rfl) dX12_tells_2 ?_
  refine r_aload_n hκ 0 rfl rfl dX12_tells_5 ?_
  obtain ⟨h2, h⟩ := bck_i h
  refine r_get hκ (t := 10) (k := 17) (r := 280) h2 rfl in_X12 (by decide) rfl q3068 (Or.inl rfl) dX12_tells_6 ?_
  refine r_icmp_ne hκ (tgt := 16) (by decide) dX12_tells_9 (fun h3 => ?_) (fun h3 => ?_)
  · replace h := (bte_i h).2 h3
    refine r_aload_n hκ 0 rfl rfl dX12_tells_16 ?_
    obtain ⟨h4, h⟩ := bck_i h
    refine r_get hκ (t := 10) (k := 18) (r := 284) h4 rfl in_X12 (by decide) rfl q3069 (Or.inl rfl) dX12_tells_17 ?_
    exact r_sub [0] rfl (w_X12_tells_r hκ hi hf 0 _ _ _ _ h)
  · replace h := (bte_i h).1 h3
    refine r_iload_n hκ 1 rfl rfl dX12_tells_12 ?_
    refine r_goto hκ (tgt := 20) (by decide) dX12_tells_13 ?_
    exact r_sub [0] rfl (w_X12_tells_r hκ hi hf 0 _ _ _ _ h)
/-- EditsMeetModel.tellsNumber(I)V -/
def F_X12_tellsNumber_0 (s0 : bS) (a0 a1 : Int) : Option (bS × Int) :=
  bte (i32 a1 ≤ i32 9)
  (bck (¬ i32 10 = 0) <|
  bck (bg s0 0 a0 0 = 11) <|
  bcl (F_X12_tells s0 a0 (48 + (b_irem a1 10))) fun s1 v1 =>
  some (s1, 0))
  (none)
set_option maxHeartbeats 4000000 in
set_option maxRecDepth 100000 in
theorem w_X12_tellsNumber_0 (Γ0 : bG) (l0 : Launch) {s0 st' : bS} {v a0 a1 : Int} (h : F_X12_tellsNumber_0 s0 a0 a1 = some (st', v)) : bCt Γ0 l0 yX12_tellsNumber cX12_tellsNumber 2 none 1 21 [(2, a0), (0, a1)] s0 st' none := by
  refine b_ent (own := RX12) (by decide +kernel) rfl (Nat.le_of_ble_eq_true rfl) (L := [(0, (2, a0)), (1, (0, a1))]) rfl ?_
  intro κ hκ hi hf
  unfold F_X12_tellsNumber_0 at h
  refine r_iload_n hκ 1 rfl rfl dX12_tellsNumber_0 ?_
  refine r_bipush hκ (by decide) dX12_tellsNumber_1 ?_
  refine r_icmp_le hκ (tgt := 14) (by decide) dX12_tellsNumber_3 (fun h1 => ?_) (fun h1 => ?_)
  · replace h := (bte_i h).1 h1
    refine r_aload_n hκ 0 rfl rfl dX12_tellsNumber_14 ?_
    refine r_bipush hκ (by decide) dX12_tellsNumber_15 ?_
    refine r_iload_n hκ 1 rfl rfl dX12_tellsNumber_17 ?_
    refine r_bipush hκ (by decide) dX12_tellsNumber_18 ?_
    obtain ⟨h2, h⟩ := bck_i h
    refine r_irem hκ h2 dX12_tellsNumber_20 ?_
    refine r_iadd hκ dX12_tellsNumber_21 ?_
    obtain ⟨h3, h⟩ := bck_i h
    obtain ⟨s1, v1, h4, h⟩ := bcl_i h
    refine r_callV hκ (n' := 1) (index := 260) (w_X12_tells Γ0 l0 h4) (lw_V q3269 q3271 qs87 q146 q3272) (by decide +kernel) (t := 10) h3 rfl rfl (by decide) rfl (Nat.le_of_ble_eq_true rfl) dX12_tellsNumber_22 ?_
    exact r_vretH hκ hf h dX12_tellsNumber_25
  · replace h := (bte_i h).2 h1
    cases h
/-- EditsMeetModel.tellsNumber(I)V -/
def F_X12_tellsNumber_1_r (b : Nat) (x0 x1 : Int) (s0 : bS) : Option (bS × Int) :=
  match b with
  | 0 =>
    bck (¬ i32 10 = 0) <|
    bck (bg s0 0 x0 0 = 11) <|
    bcl (F_X12_tells s0 x0 (48 + (b_irem x1 10))) fun s2 v2 =>
    some (s2, 0)
  | _ => none
def F_X12_tellsNumber_1 (s0 : bS) (a0 a1 : Int) : Option (bS × Int) :=
  bte (i32 a1 ≤ i32 9)
  (F_X12_tellsNumber_1_r 0 a0 a1 s0)
  (bck (¬ i32 10 = 0) <|
  bck (bg s0 0 a0 0 = 11) <|
  bcl (F_X12_tellsNumber_0 s0 a0 (b_idiv a1 10)) fun s1 v1 =>
  F_X12_tellsNumber_1_r 0 a0 a1 s1)
set_option maxHeartbeats 4000000 in
set_option maxRecDepth 100000 in
set_option synthInstance.maxHeartbeats 4000000 in
theorem w_X12_tellsNumber_1_r {Γ0 : bG} {l0 : Launch} {κ : bK} {st' : bS} {v : Int} (hκ : bOk κ Γ0 l0 cX12_tellsNumber RX12 2 2 42) (hi : bIn κ yX12_tellsNumber) (hf : bFin κ none st' none) (b : Nat) (x0 x1 : Int) (s0 : bS) (h : F_X12_tellsNumber_1_r b x0 x1 s0 = some (st', v)) : match (generalizing := false) b with | 0 => bJ κ s0 14 [(0, (2, x0)), (1, (0, x1))] [] | _ => True := by
  unfold F_X12_tellsNumber_1_r at h
  match b, h with
  | 0, h =>
      refine r_aload_n hκ 0 rfl rfl dX12_tellsNumber_14 ?_
      refine r_bipush hκ (by decide) dX12_tellsNumber_15 ?_
      refine r_iload_n hκ 1 rfl rfl dX12_tellsNumber_17 ?_
      refine r_bipush hκ (by decide) dX12_tellsNumber_18 ?_
      obtain ⟨h5, h⟩ := bck_i h
      refine r_irem hκ h5 dX12_tellsNumber_20 ?_
      refine r_iadd hκ dX12_tellsNumber_21 ?_
      obtain ⟨h6, h⟩ := bck_i h
      obtain ⟨s2, v2, h7, h⟩ := bcl_i h
      refine r_callV hκ (n' := 1) (index := 260) (w_X12_tells Γ0 l0 h7) (lw_V q3269 q3271 qs87 q146 q3272) (by decide +kernel) (t := 10) h6 rfl rfl (by decide) rfl (Nat.le_of_ble_eq_true rfl) dX12_tellsNumber_22 ?_
      exact r_vretH hκ hf h dX12_tellsNumber_25
  | b + 1, h => trivial
set_option maxHeartbeats 4000000 in
set_option maxRecDepth 100000 in
theorem w_X12_tellsNumber_1 (Γ0 : bG) (l0 : Launch) {s0 st' : bS} {v a0 a1 : Int} (h : F_X12_tellsNumber_1 s0 a0 a1 = some (st', v)) : bCt Γ0 l0 yX12_tellsNumber cX12_tellsNumber 2 none 2 42 [(2, a0), (0, a1)] s0 st' none := by
  refine b_ent (own := RX12) (by decide +kernel) rfl (Nat.le_of_ble_eq_true rfl) (L := [(0, (2, a0)), (1, (0, a1))]) rfl ?_
  intro κ hκ hi hf
  unfold F_X12_tellsNumber_1 at h
  refine r_iload_n hκ 1 rfl rfl dX12_tellsNumber_0 ?_
  refine r_bipush hκ (by decide) dX12_tellsNumber_1 ?_
  refine r_icmp_le hκ (tgt := 14) (by decide) dX12_tellsNumber_3 (fun h1 => ?_) (fun h1 => ?_)
  · replace h := (bte_i h).1 h1
    exact r_sub [0, 1] rfl (w_X12_tellsNumber_1_r hκ hi hf 0 _ _ _ h)
  · replace h := (bte_i h).2 h1
    refine r_aload_n hκ 0 rfl rfl dX12_tellsNumber_6 ?_
    refine r_iload_n hκ 1 rfl rfl dX12_tellsNumber_7 ?_
    refine r_bipush hκ (by decide) dX12_tellsNumber_8 ?_
    obtain ⟨h2, h⟩ := bck_i h
    refine r_idiv hκ h2 dX12_tellsNumber_10 ?_
    obtain ⟨h3, h⟩ := bck_i h
    obtain ⟨s1, v1, h4, h⟩ := bcl_i h
    refine r_callV hκ (n' := 1) (index := 257) (w_X12_tellsNumber_0 Γ0 l0 h4) (lw_V q3277 q3279 qs89 q146 q3280) (by decide +kernel) (t := 10) h3 rfl rfl (by decide) rfl (Nat.le_of_ble_eq_true rfl) dX12_tellsNumber_11 ?_
    exact r_sub [0, 1] rfl (w_X12_tellsNumber_1_r hκ hi hf 0 _ _ _ h)
/-- EditsMeetModel.tellsNumber(I)V -/
def F_X12_tellsNumber_2_r (b : Nat) (x0 x1 : Int) (s0 : bS) : Option (bS × Int) :=
  match b with
  | 0 =>
    bck (¬ i32 10 = 0) <|
    bck (bg s0 0 x0 0 = 11) <|
    bcl (F_X12_tells s0 x0 (48 + (b_irem x1 10))) fun s2 v2 =>
    some (s2, 0)
  | _ => none
def F_X12_tellsNumber_2 (s0 : bS) (a0 a1 : Int) : Option (bS × Int) :=
  bte (i32 a1 ≤ i32 9)
  (F_X12_tellsNumber_2_r 0 a0 a1 s0)
  (bck (¬ i32 10 = 0) <|
  bck (bg s0 0 a0 0 = 11) <|
  bcl (F_X12_tellsNumber_1 s0 a0 (b_idiv a1 10)) fun s1 v1 =>
  F_X12_tellsNumber_2_r 0 a0 a1 s1)
set_option maxHeartbeats 4000000 in
set_option maxRecDepth 100000 in
set_option synthInstance.maxHeartbeats 4000000 in
theorem w_X12_tellsNumber_2_r {Γ0 : bG} {l0 : Launch} {κ : bK} {st' : bS} {v : Int} (hκ : bOk κ Γ0 l0 cX12_tellsNumber RX12 2 3 63) (hi : bIn κ yX12_tellsNumber) (hf : bFin κ none st' none) (b : Nat) (x0 x1 : Int) (s0 : bS) (h : F_X12_tellsNumber_2_r b x0 x1 s0 = some (st', v)) : match (generalizing := false) b with | 0 => bJ κ s0 14 [(0, (2, x0)), (1, (0, x1))] [] | _ => True := by
  unfold F_X12_tellsNumber_2_r at h
  match b, h with
  | 0, h =>
      refine r_aload_n hκ 0 rfl rfl dX12_tellsNumber_14 ?_
      refine r_bipush hκ (by decide) dX12_tellsNumber_15 ?_
      refine r_iload_n hκ 1 rfl rfl dX12_tellsNumber_17 ?_
      refine r_bipush hκ (by decide) dX12_tellsNumber_18 ?_
      obtain ⟨h5, h⟩ := bck_i h
      refine r_irem hκ h5 dX12_tellsNumber_20 ?_
      refine r_iadd hκ dX12_tellsNumber_21 ?_
      obtain ⟨h6, h⟩ := bck_i h
      obtain ⟨s2, v2, h7, h⟩ := bcl_i h
      refine r_callV hκ (n' := 1) (index := 260) (w_X12_tells Γ0 l0 h7) (lw_V q3269 q3271 qs87 q146 q3272) (by decide +kernel) (t := 10) h6 rfl rfl (by decide) rfl (Nat.le_of_ble_eq_true rfl) dX12_tellsNumber_22 ?_
      exact r_vretH hκ hf h dX12_tellsNumber_25
  | b + 1, h => trivial
set_option maxHeartbeats 4000000 in
set_option maxRecDepth 100000 in
theorem w_X12_tellsNumber_2 (Γ0 : bG) (l0 : Launch) {s0 st' : bS} {v a0 a1 : Int} (h : F_X12_tellsNumber_2 s0 a0 a1 = some (st', v)) : bCt Γ0 l0 yX12_tellsNumber cX12_tellsNumber 2 none 3 63 [(2, a0), (0, a1)] s0 st' none := by
  refine b_ent (own := RX12) (by decide +kernel) rfl (Nat.le_of_ble_eq_true rfl) (L := [(0, (2, a0)), (1, (0, a1))]) rfl ?_
  intro κ hκ hi hf
  unfold F_X12_tellsNumber_2 at h
  refine r_iload_n hκ 1 rfl rfl dX12_tellsNumber_0 ?_
  refine r_bipush hκ (by decide) dX12_tellsNumber_1 ?_
  refine r_icmp_le hκ (tgt := 14) (by decide) dX12_tellsNumber_3 (fun h1 => ?_) (fun h1 => ?_)
  · replace h := (bte_i h).1 h1
    exact r_sub [0, 1] rfl (w_X12_tellsNumber_2_r hκ hi hf 0 _ _ _ h)
  · replace h := (bte_i h).2 h1
    refine r_aload_n hκ 0 rfl rfl dX12_tellsNumber_6 ?_
    refine r_iload_n hκ 1 rfl rfl dX12_tellsNumber_7 ?_
    refine r_bipush hκ (by decide) dX12_tellsNumber_8 ?_
    obtain ⟨h2, h⟩ := bck_i h
    refine r_idiv hκ h2 dX12_tellsNumber_10 ?_
    obtain ⟨h3, h⟩ := bck_i h
    obtain ⟨s1, v1, h4, h⟩ := bcl_i h
    refine r_callV hκ (n' := 1) (index := 257) (w_X12_tellsNumber_1 Γ0 l0 h4) (lw_V q3277 q3279 qs89 q146 q3280) (by decide +kernel) (t := 10) h3 rfl rfl (by decide) rfl (Nat.le_of_ble_eq_true rfl) dX12_tellsNumber_11 ?_
    exact r_sub [0, 1] rfl (w_X12_tellsNumber_2_r hκ hi hf 0 _ _ _ h)
/-- EditsMeetModel.tellsNumber(I)V -/
def F_X12_tellsNumber_3_r (b : Nat) (x0 x1 : Int) (s0 : bS) : Option (bS × Int) :=
  match b with
  | 0 =>
    bck (¬ i32 10 = 0) <|
    bck (bg s0 0 x0 0 = 11) <|
    bcl (F_X12_tells s0 x0 (48 + (b_irem x1 10))) fun s2 v2 =>
    some (s2, 0)
  | _ => none
def F_X12_tellsNumber_3 (s0 : bS) (a0 a1 : Int) : Option (bS × Int) :=
  bte (i32 a1 ≤ i32 9)
  (F_X12_tellsNumber_3_r 0 a0 a1 s0)
  (bck (¬ i32 10 = 0) <|
  bck (bg s0 0 a0 0 = 11) <|
  bcl (F_X12_tellsNumber_2 s0 a0 (b_idiv a1 10)) fun s1 v1 =>
  F_X12_tellsNumber_3_r 0 a0 a1 s1)
set_option maxHeartbeats 4000000 in
set_option maxRecDepth 100000 in
set_option synthInstance.maxHeartbeats 4000000 in
theorem w_X12_tellsNumber_3_r {Γ0 : bG} {l0 : Launch} {κ : bK} {st' : bS} {v : Int} (hκ : bOk κ Γ0 l0 cX12_tellsNumber RX12 2 4 84) (hi : bIn κ yX12_tellsNumber) (hf : bFin κ none st' none) (b : Nat) (x0 x1 : Int) (s0 : bS) (h : F_X12_tellsNumber_3_r b x0 x1 s0 = some (st', v)) : match (generalizing := false) b with | 0 => bJ κ s0 14 [(0, (2, x0)), (1, (0, x1))] [] | _ => True := by
  unfold F_X12_tellsNumber_3_r at h
  match b, h with
  | 0, h =>
      refine r_aload_n hκ 0 rfl rfl dX12_tellsNumber_14 ?_
      refine r_bipush hκ (by decide) dX12_tellsNumber_15 ?_
      refine r_iload_n hκ 1 rfl rfl dX12_tellsNumber_17 ?_
      refine r_bipush hκ (by decide) dX12_tellsNumber_18 ?_
      obtain ⟨h5, h⟩ := bck_i h
      refine r_irem hκ h5 dX12_tellsNumber_20 ?_
      refine r_iadd hκ dX12_tellsNumber_21 ?_
      obtain ⟨h6, h⟩ := bck_i h
      obtain ⟨s2, v2, h7, h⟩ := bcl_i h
      refine r_callV hκ (n' := 1) (index := 260) (w_X12_tells Γ0 l0 h7) (lw_V q3269 q3271 qs87 q146 q3272) (by decide +kernel) (t := 10) h6 rfl rfl (by decide) rfl (Nat.le_of_ble_eq_true rfl) dX12_tellsNumber_22 ?_
      exact r_vretH hκ hf h dX12_tellsNumber_25
  | b + 1, h => trivial
set_option maxHeartbeats 4000000 in
set_option maxRecDepth 100000 in
theorem w_X12_tellsNumber_3 (Γ0 : bG) (l0 : Launch) {s0 st' : bS} {v a0 a1 : Int} (h : F_X12_tellsNumber_3 s0 a0 a1 = some (st', v)) : bCt Γ0 l0 yX12_tellsNumber cX12_tellsNumber 2 none 4 84 [(2, a0), (0, a1)] s0 st' none := by
  refine b_ent (own := RX12) (by decide +kernel) rfl (Nat.le_of_ble_eq_true rfl) (L := [(0, (2, a0)), (1, (0, a1))]) rfl ?_
  intro κ hκ hi hf
  unfold F_X12_tellsNumber_3 at h
  refine r_iload_n hκ 1 rfl rfl dX12_tellsNumber_0 ?_
  refine r_bipush hκ (by decide) dX12_tellsNumber_1 ?_
  refine r_icmp_le hκ (tgt := 14) (by decide) dX12_tellsNumber_3 (fun h1 => ?_) (fun h1 => ?_)
  · replace h := (bte_i h).1 h1
    exact r_sub [0, 1] rfl (w_X12_tellsNumber_3_r hκ hi hf 0 _ _ _ h)
  · replace h := (bte_i h).2 h1
    refine r_aload_n hκ 0 rfl rfl dX12_tellsNumber_6 ?_
    refine r_iload_n hκ 1 rfl rfl dX12_tellsNumber_7 ?_
    refine r_bipush hκ (by decide) dX12_tellsNumber_8 ?_
    obtain ⟨h2, h⟩ := bck_i h
    refine r_idiv hκ h2 dX12_tellsNumber_10 ?_
    obtain ⟨h3, h⟩ := bck_i h
    obtain ⟨s1, v1, h4, h⟩ := bcl_i h
    refine r_callV hκ (n' := 1) (index := 257) (w_X12_tellsNumber_2 Γ0 l0 h4) (lw_V q3277 q3279 qs89 q146 q3280) (by decide +kernel) (t := 10) h3 rfl rfl (by decide) rfl (Nat.le_of_ble_eq_true rfl) dX12_tellsNumber_11 ?_
    exact r_sub [0, 1] rfl (w_X12_tellsNumber_3_r hκ hi hf 0 _ _ _ h)
/-- EditsMeetModel.tellsNumber(I)V -/
def F_X12_tellsNumber_4_r (b : Nat) (x0 x1 : Int) (s0 : bS) : Option (bS × Int) :=
  match b with
  | 0 =>
    bck (¬ i32 10 = 0) <|
    bck (bg s0 0 x0 0 = 11) <|
    bcl (F_X12_tells s0 x0 (48 + (b_irem x1 10))) fun s2 v2 =>
    some (s2, 0)
  | _ => none
def F_X12_tellsNumber_4 (s0 : bS) (a0 a1 : Int) : Option (bS × Int) :=
  bte (i32 a1 ≤ i32 9)
  (F_X12_tellsNumber_4_r 0 a0 a1 s0)
  (bck (¬ i32 10 = 0) <|
  bck (bg s0 0 a0 0 = 11) <|
  bcl (F_X12_tellsNumber_3 s0 a0 (b_idiv a1 10)) fun s1 v1 =>
  F_X12_tellsNumber_4_r 0 a0 a1 s1)
set_option maxHeartbeats 4000000 in
set_option maxRecDepth 100000 in
set_option synthInstance.maxHeartbeats 4000000 in
theorem w_X12_tellsNumber_4_r {Γ0 : bG} {l0 : Launch} {κ : bK} {st' : bS} {v : Int} (hκ : bOk κ Γ0 l0 cX12_tellsNumber RX12 2 5 105) (hi : bIn κ yX12_tellsNumber) (hf : bFin κ none st' none) (b : Nat) (x0 x1 : Int) (s0 : bS) (h : F_X12_tellsNumber_4_r b x0 x1 s0 = some (st', v)) : match (generalizing := false) b with | 0 => bJ κ s0 14 [(0, (2, x0)), (1, (0, x1))] [] | _ => True := by
  unfold F_X12_tellsNumber_4_r at h
  match b, h with
  | 0, h =>
      refine r_aload_n hκ 0 rfl rfl dX12_tellsNumber_14 ?_
      refine r_bipush hκ (by decide) dX12_tellsNumber_15 ?_
      refine r_iload_n hκ 1 rfl rfl dX12_tellsNumber_17 ?_
      refine r_bipush hκ (by decide) dX12_tellsNumber_18 ?_
      obtain ⟨h5, h⟩ := bck_i h
      refine r_irem hκ h5 dX12_tellsNumber_20 ?_
      refine r_iadd hκ dX12_tellsNumber_21 ?_
      obtain ⟨h6, h⟩ := bck_i h
      obtain ⟨s2, v2, h7, h⟩ := bcl_i h
      refine r_callV hκ (n' := 1) (index := 260) (w_X12_tells Γ0 l0 h7) (lw_V q3269 q3271 qs87 q146 q3272) (by decide +kernel) (t := 10) h6 rfl rfl (by decide) rfl (Nat.le_of_ble_eq_true rfl) dX12_tellsNumber_22 ?_
      exact r_vretH hκ hf h dX12_tellsNumber_25
  | b + 1, h => trivial
set_option maxHeartbeats 4000000 in
set_option maxRecDepth 100000 in
theorem w_X12_tellsNumber_4 (Γ0 : bG) (l0 : Launch) {s0 st' : bS} {v a0 a1 : Int} (h : F_X12_tellsNumber_4 s0 a0 a1 = some (st', v)) : bCt Γ0 l0 yX12_tellsNumber cX12_tellsNumber 2 none 5 105 [(2, a0), (0, a1)] s0 st' none := by
  refine b_ent (own := RX12) (by decide +kernel) rfl (Nat.le_of_ble_eq_true rfl) (L := [(0, (2, a0)), (1, (0, a1))]) rfl ?_
  intro κ hκ hi hf
  unfold F_X12_tellsNumber_4 at h
  refine r_iload_n hκ 1 rfl rfl dX12_tellsNumber_0 ?_
  refine r_bipush hκ (by decide) dX12_tellsNumber_1 ?_
  refine r_icmp_le hκ (tgt := 14) (by decide) dX12_tellsNumber_3 (fun h1 => ?_) (fun h1 => ?_)
  · replace h := (bte_i h).1 h1
    exact r_sub [0, 1] rfl (w_X12_tellsNumber_4_r hκ hi hf 0 _ _ _ h)
  · replace h := (bte_i h).2 h1
    refine r_aload_n hκ 0 rfl rfl dX12_tellsNumber_6 ?_
    refine r_iload_n hκ 1 rfl rfl dX12_tellsNumber_7 ?_
    refine r_bipush hκ (by decide) dX12_tellsNumber_8 ?_
    obtain ⟨h2, h⟩ := bck_i h
    refine r_idiv hκ h2 dX12_tellsNumber_10 ?_
    obtain ⟨h3, h⟩ := bck_i h
    obtain ⟨s1, v1, h4, h⟩ := bcl_i h
    refine r_callV hκ (n' := 1) (index := 257) (w_X12_tellsNumber_3 Γ0 l0 h4) (lw_V q3277 q3279 qs89 q146 q3280) (by decide +kernel) (t := 10) h3 rfl rfl (by decide) rfl (Nat.le_of_ble_eq_true rfl) dX12_tellsNumber_11 ?_
    exact r_sub [0, 1] rfl (w_X12_tellsNumber_4_r hκ hi hf 0 _ _ _ h)
/-- EditsMeetModel.tellsNumber(I)V -/
def F_X12_tellsNumber_5_r (b : Nat) (x0 x1 : Int) (s0 : bS) : Option (bS × Int) :=
  match b with
  | 0 =>
    bck (¬ i32 10 = 0) <|
    bck (bg s0 0 x0 0 = 11) <|
    bcl (F_X12_tells s0 x0 (48 + (b_irem x1 10))) fun s2 v2 =>
    some (s2, 0)
  | _ => none
def F_X12_tellsNumber_5 (s0 : bS) (a0 a1 : Int) : Option (bS × Int) :=
  bte (i32 a1 ≤ i32 9)
  (F_X12_tellsNumber_5_r 0 a0 a1 s0)
  (bck (¬ i32 10 = 0) <|
  bck (bg s0 0 a0 0 = 11) <|
  bcl (F_X12_tellsNumber_4 s0 a0 (b_idiv a1 10)) fun s1 v1 =>
  F_X12_tellsNumber_5_r 0 a0 a1 s1)
set_option maxHeartbeats 4000000 in
set_option maxRecDepth 100000 in
set_option synthInstance.maxHeartbeats 4000000 in
theorem w_X12_tellsNumber_5_r {Γ0 : bG} {l0 : Launch} {κ : bK} {st' : bS} {v : Int} (hκ : bOk κ Γ0 l0 cX12_tellsNumber RX12 2 6 126) (hi : bIn κ yX12_tellsNumber) (hf : bFin κ none st' none) (b : Nat) (x0 x1 : Int) (s0 : bS) (h : F_X12_tellsNumber_5_r b x0 x1 s0 = some (st', v)) : match (generalizing := false) b with | 0 => bJ κ s0 14 [(0, (2, x0)), (1, (0, x1))] [] | _ => True := by
  unfold F_X12_tellsNumber_5_r at h
  match b, h with
  | 0, h =>
      refine r_aload_n hκ 0 rfl rfl dX12_tellsNumber_14 ?_
      refine r_bipush hκ (by decide) dX12_tellsNumber_15 ?_
      refine r_iload_n hκ 1 rfl rfl dX12_tellsNumber_17 ?_
      refine r_bipush hκ (by decide) dX12_tellsNumber_18 ?_
      obtain ⟨h5, h⟩ := bck_i h
      refine r_irem hκ h5 dX12_tellsNumber_20 ?_
      refine r_iadd hκ dX12_tellsNumber_21 ?_
      obtain ⟨h6, h⟩ := bck_i h
      obtain ⟨s2, v2, h7, h⟩ := bcl_i h
      refine r_callV hκ (n' := 1) (index := 260) (w_X12_tells Γ0 l0 h7) (lw_V q3269 q3271 qs87 q146 q3272) (by decide +kernel) (t := 10) h6 rfl rfl (by decide) rfl (Nat.le_of_ble_eq_true rfl) dX12_tellsNumber_22 ?_
      exact r_vretH hκ hf h dX12_tellsNumber_25
  | b + 1, h => trivial
set_option maxHeartbeats 4000000 in
set_option maxRecDepth 100000 in
theorem w_X12_tellsNumber_5 (Γ0 : bG) (l0 : Launch) {s0 st' : bS} {v a0 a1 : Int} (h : F_X12_tellsNumber_5 s0 a0 a1 = some (st', v)) : bCt Γ0 l0 yX12_tellsNumber cX12_tellsNumber 2 none 6 126 [(2, a0), (0, a1)] s0 st' none := by
  refine b_ent (own := RX12) (by decide +kernel) rfl (Nat.le_of_ble_eq_true rfl) (L := [(0, (2, a0)), (1, (0, a1))]) rfl ?_
  intro κ hκ hi hf
  unfold F_X12_tellsNumber_5 at h
  refine r_iload_n hκ 1 rfl rfl dX12_tellsNumber_0 ?_
  refine r_bipush hκ (by decide) dX12_tellsNumber_1 ?_
  refine r_icmp_le hκ (tgt := 14) (by decide) dX12_tellsNumber_3 (fun h1 => ?_) (fun h1 => ?_)
  · replace h := (bte_i h).1 h1
    exact r_sub [0, 1] rfl (w_X12_tellsNumber_5_r hκ hi hf 0 _ _ _ h)
  · replace h := (bte_i h).2 h1
    refine r_aload_n hκ 0 rfl rfl dX12_tellsNumber_6 ?_
    refine r_iload_n hκ 1 rfl rfl dX12_tellsNumber_7 ?_
    refine r_bipush hκ (by decide) dX12_tellsNumber_8 ?_
    obtain ⟨h2, h⟩ := bck_i h
    refine r_idiv hκ h2 dX12_tellsNumber_10 ?_
    obtain ⟨h3, h⟩ := bck_i h
    obtain ⟨s1, v1, h4, h⟩ := bcl_i h
    refine r_callV hκ (n' := 1) (index := 257) (w_X12_tellsNumber_4 Γ0 l0 h4) (lw_V q3277 q3279 qs89 q146 q3280) (by decide +kernel) (t := 10) h3 rfl rfl (by decide) rfl (Nat.le_of_ble_eq_true rfl) dX12_tellsNumber_11 ?_
    exact r_sub [0, 1] rfl (w_X12_tellsNumber_5_r hκ hi hf 0 _ _ _ h)
/-- EditsMeetModel.tellsPart(II)V -/
def F_X12_tellsPart_r (b : Nat) (x0 x1 x2 x3 x4 x5 : Int) (s0 : bS) : Option (bS × Int) :=
  match b with
  | 0 =>
    bcl (F_X12_kind s0 x1) fun s3 v3 =>
    bte (i32 v3 = i32 2097152)
    (F_X12_tellsPart_r 1 x0 x2 61 x0 0 0 s3)
    (F_X12_tellsPart_r 1 x0 x2 45 x0 0 0 s3)
  | 1 =>
    bck (bg s0 0 x3 0 = 11) <|
    bcl (F_X12_tells s0 x3 x2) fun s7 v7 =>
    bck (bg s7 0 x0 0 = 11) <|
    bcl (F_X12_tellsNumber_5 s7 x0 x1) fun s8 v8 =>
    some (s8, 0)
  | 2 =>
    bck (bg s0 0 x5 0 = 11) <|
    bcl (F_X12_tells s0 x5 x4) fun s4 v4 =>
    bck (bg s4 0 x0 0 = 11) <|
    bcl (F_X12_tellsNumber_5 s4 x0 x1) fun s5 v5 =>
    bck (bg s5 0 x0 0 = 11) <|
    bcl (F_X12_tells s5 x0 46) fun s6 v6 =>
    bte (i32 x2 ≤ 0)
    (F_X12_tellsPart_r 3 x0 x2 x3 x3 x0 0 s6)
    (F_X12_tellsPart_r 3 x0 x2 x3 x2 x0 0 s6)
  | 3 =>
    bck (bg s0 0 x4 0 = 11) <|
    bcl (F_X12_tellsNumber_5 s0 x4 x3) fun s9 v9 =>
    bte (i32 x1 ≤ 0)
    (some (s9, 0))
    (bte (i32 x2 ≤ 0)
    (some (s9, 0))
    (bck (bg s9 0 x0 0 = 11) <|
    bcl (F_X12_tells s9 x0 95) fun s10 v10 =>
    bck (bg s10 0 x0 0 = 11) <|
    bcl (F_X12_tellsNumber_5 s10 x0 x2) fun s11 v11 =>
    some (s11, 0)))
  | _ => none
partial_fixpoint
def F_X12_tellsPart (s0 : bS) (a0 a1 a2 : Int) : Option (bS × Int) :=
  bcl (F_X12_kind s0 a1) fun s1 v1 =>
  bte (i32 v1 = i32 2097152)
  (F_X12_tellsPart_r 0 a0 a1 a2 0 0 0 s1)
  (bcl (F_X12_kind s1 a1) fun s2 v2 =>
  bte (i32 v2 = i32 3145728)
  (F_X12_tellsPart_r 0 a0 a1 a2 0 0 0 s2)
  (bvl ((b_iand (b_ishr a1 4) 15)) fun t1 =>
  bte (i32 t1 ≤ 0)
  (F_X12_tellsPart_r 2 a0 a2 t1 (b_iand a1 15) 95 a0 s2)
  (F_X12_tellsPart_r 2 a0 a2 t1 (b_iand a1 15) 94 a0 s2)))
set_option maxHeartbeats 4000000 in
set_option maxRecDepth 100000 in
set_option synthInstance.maxHeartbeats 4000000 in
theorem w_X12_tellsPart_r {Γ0 : bG} {l0 : Launch} {κ : bK} {st' : bS} {v : Int} (hκ : bOk κ Γ0 l0 cX12_tellsPart RX12 5 7 147) (hi : bIn κ yX12_tellsPart) (hf : bFin κ none st' none) (b : Nat) (x0 x1 x2 x3 x4 x5 : Int) (s0 : bS) (h : F_X12_tellsPart_r b x0 x1 x2 x3 x4 x5 s0 = some (st', v)) : match (generalizing := false) b with | 0 => bJ κ s0 18 [(0, (2, x0)), (1, (0, x1)), (2, (0, x2))] [] | 1 => bJ κ s0 35 [(0, (2, x0)), (2, (0, x1))] [(0, x2), (2, x3)] | 2 => bJ κ s0 69 [(0, (2, x0)), (2, (0, x1)), (3, (0, x2)), (4, (0, x3))] [(0, x4), (2, x5)] | 3 => bJ κ s0 94 [(0, (2, x0)), (3, (0, x1)), (4, (0, x2))] [(0, x3), (2, x4)] | _ => True := by
  refine F_X12_tellsPart_r.partial_correctness x0 (fun b x1 x2 x3 x4 x5 s0 r => r = (st', v) → match (generalizing := false) b with | 0 => bJ κ s0 18 [(0, (2, x0)), (1, (0, x1)), (2, (0, x2))] [] | 1 => bJ κ s0 35 [(0, (2, x0)), (2, (0, x1))] [(0, x2), (2, x3)] | 2 => bJ κ s0 69 [(0, (2, x0)), (2, (0, x1)), (3, (0, x2)), (4, (0, x3))] [(0, x4), (2, x5)] | 3 => bJ κ s0 94 [(0, (2, x0)), (3, (0, x1)), (4, (0, x2))] [(0, x3), (2, x4)] | _ => True) ?_ b x1 x2 x3 x4 x5 s0 _ h rfl
  intro f' ih b x1 x2 x3 x4 x5 s0 r h hr
  subst hr
  match b, h with
  | 0, h =>
      refine r_aload_n hκ 0 rfl rfl dX12_tellsPart_18 ?_
      refine r_iload_n hκ 1 rfl rfl dX12_tellsPart_19 ?_
      obtain ⟨s3, v3, h6, h⟩ := bcl_i h
      refine r_callS hκ (n' := 1) (index := 104) (w_X12_kind Γ0 l0 h6) (lw_S q3203 q3204 q146 q3205) (by decide +kernel) rfl (by decide) rfl (Nat.le_of_ble_eq_true rfl) dX12_tellsPart_20 ?_
      refine r_ldci hκ (x := 2097152) q3196 (by decide) dX12_tellsPart_23 ?_
      refine r_icmp_ne hκ (tgt := 33) (by decide) dX12_tellsPart_25 (fun h7 => ?_) (fun h7 => ?_)
      · replace h := (bte_i h).2 h7
        refine r_bipush hκ (by decide) dX12_tellsPart_33 ?_
        exact r_sub [0, 2] rfl (ih 1 _ _ _ _ _ _ _ h rfl)
      · replace h := (bte_i h).1 h7
        refine r_bipush hκ (by decide) dX12_tellsPart_28 ?_
        refine r_goto hκ (tgt := 35) (by decide) dX12_tellsPart_30 ?_
        exact r_sub [0, 2] rfl (ih 1 _ _ _ _ _ _ _ h rfl)
  | 1, h =>
      obtain ⟨h15, h⟩ := bck_i h
      obtain ⟨s7, v7, h16, h⟩ := bcl_i h
      refine r_callV hκ (n' := 1) (index := 260) (w_X12_tells Γ0 l0 h16) (lw_V q3269 q3271 qs87 q146 q3272) (by decide +kernel) (t := 10) h15 rfl rfl (by decide) rfl (Nat.le_of_ble_eq_true rfl) dX12_tellsPart_35 ?_
      refine r_aload_n hκ 0 rfl rfl dX12_tellsPart_38 ?_
      refine r_iload_n hκ 1 rfl rfl dX12_tellsPart_39 ?_
      obtain ⟨h17, h⟩ := bck_i h
      obtain ⟨s8, v8, h18, h⟩ := bcl_i h
      refine r_callV hκ (n' := 1) (index := 257) (w_X12_tellsNumber_5 Γ0 l0 h18) (lw_V q3277 q3279 qs89 q146 q3280) (by decide +kernel) (t := 10) h17 rfl rfl (by decide) rfl (Nat.le_of_ble_eq_true rfl) dX12_tellsPart_40 ?_
      exact r_vretH hκ hf h dX12_tellsPart_43
  | 2, h =>
      obtain ⟨h8, h⟩ := bck_i h
      obtain ⟨s4, v4, h9, h⟩ := bcl_i h
      refine r_callV hκ (n' := 1) (index := 260) (w_X12_tells Γ0 l0 h9) (lw_V q3269 q3271 qs87 q146 q3272) (by decide +kernel) (t := 10) h8 rfl rfl (by decide) rfl (Nat.le_of_ble_eq_true rfl) dX12_tellsPart_69 ?_
      refine r_aload_n hκ 0 rfl rfl dX12_tellsPart_72 ?_
      refine r_iload_n hκ 1 rfl rfl dX12_tellsPart_73 ?_
      obtain ⟨h10, h⟩ := bck_i h
      obtain ⟨s5, v5, h11, h⟩ := bcl_i h
      refine r_callV hκ (n' := 1) (index := 257) (w_X12_tellsNumber_5 Γ0 l0 h11) (lw_V q3277 q3279 qs89 q146 q3280) (by decide +kernel) (t := 10) h10 rfl rfl (by decide) rfl (Nat.le_of_ble_eq_true rfl) dX12_tellsPart_74 ?_
      refine r_aload_n hκ 0 rfl rfl dX12_tellsPart_77 ?_
      refine r_bipush hκ (by decide) dX12_tellsPart_78 ?_
      obtain ⟨h12, h⟩ := bck_i h
      obtain ⟨s6, v6, h13, h⟩ := bcl_i h
      refine r_callV hκ (n' := 1) (index := 260) (w_X12_tells Γ0 l0 h13) (lw_V q3269 q3271 qs87 q146 q3272) (by decide +kernel) (t := 10) h12 rfl rfl (by decide) rfl (Nat.le_of_ble_eq_true rfl) dX12_tellsPart_80 ?_
      refine r_aload_n hκ 0 rfl rfl dX12_tellsPart_83 ?_
      refine r_iload_n hκ 2 rfl rfl dX12_tellsPart_84 ?_
      refine r_if_le hκ (tgt := 92) (by decide) dX12_tellsPart_85 (fun h14 => ?_) (fun h14 => ?_)
      · replace h := (bte_i h).1 h14
        refine r_iload hκ 3 rfl dX12_tellsPart_92 ?_
        exact r_sub [0, 2, 3] rfl (ih 3 _ _ _ _ _ _ _ h rfl)
      · replace h := (bte_i h).2 h14
        refine r_iload_n hκ 2 rfl rfl dX12_tellsPart_88 ?_
        refine r_goto hκ (tgt := 94) (by decide) dX12_tellsPart_89 ?_
        exact r_sub [0, 2, 3] rfl (ih 3 _ _ _ _ _ _ _ h rfl)
  | 3, h =>
      obtain ⟨h19, h⟩ := bck_i h
      obtain ⟨s9, v9, h20, h⟩ := bcl_i h
      refine r_callV hκ (n' := 1) (index := 257) (w_X12_tellsNumber_5 Γ0 l0 h20) (lw_V q3277 q3279 qs89 q146 q3280) (by decide +kernel) (t := 10) h19 rfl rfl (by decide) rfl (Nat.le_of_ble_eq_true rfl) dX12_tellsPart_94 ?_
      refine r_iload_n hκ 1 rfl rfl dX12_tellsPart_97 ?_
      refine r_if_le hκ (tgt := 118) (by decide) dX12_tellsPart_98 (fun h21 => ?_) (fun h21 => ?_)
      · replace h := (bte_i h).1 h21
        exact r_vretH hκ hf h dX12_tellsPart_118
      · replace h := (bte_i h).2 h21
        refine r_iload hκ 2 rfl dX12_tellsPart_101 ?_
        refine r_if_le hκ (tgt := 118) (by decide) dX12_tellsPart_103 (fun h22 => ?_) (fun h22 => ?_)
        · replace h := (bte_i h).1 h22
          exact r_vretH hκ hf h dX12_tellsPart_118
        · replace h := (bte_i h).2 h22
          refine r_aload_n hκ 0 rfl rfl dX12_tellsPart_106 ?_
          refine r_bipush hκ (by decide) dX12_tellsPart_107 ?_
          obtain ⟨h23, h⟩ := bck_i h
          obtain ⟨s10, v10, h24, h⟩ := bcl_i h
          refine r_callV hκ (n' := 1) (index := 260) (w_X12_tells Γ0 l0 h24) (lw_V q3269 q3271 qs87 q146 q3272) (by decide +kernel) (t := 10) h23 rfl rfl (by decide) rfl (Nat.le_of_ble_eq_true rfl) dX12_tellsPart_109 ?_
          refine r_aload_n hκ 0 rfl rfl dX12_tellsPart_112 ?_
          refine r_iload hκ 2 rfl dX12_tellsPart_113 ?_
          obtain ⟨h25, h⟩ := bck_i h
          obtain ⟨s11, v11, h26, h⟩ := bcl_i h
          refine r_callV hκ (n' := 1) (index := 257) (w_X12_tellsNumber_5 Γ0 l0 h26) (lw_V q3277 q3279 qs89 q146 q3280) (by decide +kernel) (t := 10) h25 rfl rfl (by decide) rfl (Nat.le_of_ble_eq_true rfl) dX12_tellsPart_115 ?_
          exact r_vretH hκ hf h dX12_tellsPart_118
  | b + 4, h => trivial
set_option maxHeartbeats 4000000 in
set_option maxRecDepth 100000 in
theorem w_X12_tellsPart (Γ0 : bG) (l0 : Launch) {s0 st' : bS} {v a0 a1 a2 : Int} (h : F_X12_tellsPart s0 a0 a1 a2 = some (st', v)) : bCt Γ0 l0 yX12_tellsPart cX12_tellsPart 5 none 7 147 [(2, a0), (0, a1), (0, a2)] s0 st' none := by
  refine b_ent (own := RX12) (by decide +kernel) rfl (Nat.le_of_ble_eq_true rfl) (L := [(0, (2, a0)), (1, (0, a1)), (2, (0, a2))]) rfl ?_
  intro κ hκ hi hf
  unfold F_X12_tellsPart at h
  refine r_iload_n hκ 1 rfl rfl dX12_tellsPart_0 ?_
  obtain ⟨s1, v1, h1, h⟩ := bcl_i h
  refine r_callS hκ (n' := 1) (index := 104) (w_X12_kind Γ0 l0 h1) (lw_S q3203 q3204 q146 q3205) (by decide +kernel) rfl (by decide) rfl (Nat.le_of_ble_eq_true rfl) dX12_tellsPart_1 ?_
  refine r_ldci hκ (x := 2097152) q3196 (by decide) dX12_tellsPart_4 ?_
  refine r_icmp_eq hκ (tgt := 18) (by decide) dX12_tellsPart_6 (fun h2 => ?_) (fun h2 => ?_)
  · replace h := (bte_i h).1 h2
    exact r_sub [0, 1, 2] rfl (w_X12_tellsPart_r hκ hi hf 0 _ _ _ _ _ _ _ h)
  · replace h := (bte_i h).2 h2
    refine r_iload_n hκ 1 rfl rfl dX12_tellsPart_9 ?_
    obtain ⟨s2, v2, h3, h⟩ := bcl_i h
    refine r_callS hκ (n' := 1) (index := 104) (w_X12_kind Γ0 l0 h3) (lw_S q3203 q3204 q146 q3205) (by decide +kernel) rfl (by decide) rfl (Nat.le_of_ble_eq_true rfl) dX12_tellsPart_10 ?_
    refine r_ldci hκ (x := 3145728) q3197 (by decide) dX12_tellsPart_13 ?_
    refine r_icmp_ne hκ (tgt := 44) (by decide) dX12_tellsPart_15 (fun h4 => ?_) (fun h4 => ?_)
    · replace h := (bte_i h).2 h4
      refine r_iload_n hκ 1 rfl rfl dX12_tellsPart_44 ?_
      refine r_iconst hκ dX12_tellsPart_45 ?_
      refine r_ishr hκ dX12_tellsPart_46 ?_
      refine r_bipush hκ (by decide) dX12_tellsPart_47 ?_
      refine r_iand hκ dX12_tellsPart_49 ?_
      refine r_nm (fun t1 et1 => ?_)
      replace h := bvl_i h t1 et1
      refine r_istore_n hκ (L2 := [(3, (0, t1)), (0, (2, a0)), (1, (0, a1)), (2, (0, a2))]) (by decide) rfl rfl dX12_tellsPart_50 ?_
      refine r_iload_n hκ 2 rfl rfl dX12_tellsPart_51 ?_
      refine r_bipush hκ (by decide) dX12_tellsPart_52 ?_
      refine r_iand hκ dX12_tellsPart_54 ?_
      refine r_istore hκ (L2 := [(4, (0, (b_iand a1 15))), (3, (0, t1)), (0, (2, a0)), (1, (0, a1)), (2, (0, a2))]) (by decide) rfl dX12_tellsPart_55 ?_
      refine r_aload_n hκ 2 rfl rfl dX12_tellsPart_57 ?_
      refine r_iload_n hκ 1 rfl rfl dX12_tellsPart_58 ?_
      refine r_if_le hκ (tgt := 67) (by decide) dX12_tellsPart_59 (fun h5 => ?_) (fun h5 => ?_)
      · replace h := (bte_i h).1 h5
        refine r_bipush hκ (by decide) dX12_tellsPart_67 ?_
        exact r_sub [2, 4, 1, 0] rfl (w_X12_tellsPart_r hκ hi hf 2 _ _ _ _ _ _ _ h)
      · replace h := (bte_i h).2 h5
        refine r_bipush hκ (by decide) dX12_tellsPart_62 ?_
        refine r_goto hκ (tgt := 69) (by decide) dX12_tellsPart_64 ?_
        exact r_sub [2, 4, 1, 0] rfl (w_X12_tellsPart_r hκ hi hf 2 _ _ _ _ _ _ _ h)
    · replace h := (bte_i h).1 h4
      exact r_sub [0, 1, 2] rfl (w_X12_tellsPart_r hκ hi hf 0 _ _ _ _ _ _ _ h)
/-- EditsMeetModel.spelled(II)I -/
def F_X12_spelled_r (b : Nat) (x0 x1 x2 x3 x4 : Int) (s0 : bS) : Option (bS × Int) :=
  match b with
  | 0 =>
    bck (bg s0 0 x0 0 = 11) <|
    bck (bg s0 0 (bg s0 218 x0 0) 0 = 1003 ∧ (0 : Int) ≤ x1 ∧ x1 < bg s0 4 (bg s0 218 x0 0) 0) <|
    bte (i32 (bg s0 20 (bg s0 218 x0 0) x1) ≤ i32 x2)
    (bck (bg s0 0 x0 0 = 11) <|
    some (s0, (bg s0 284 x0 0)))
    (bck (bg s0 0 x0 0 = 11) <|
    bck (bg s0 0 (bg s0 214 x0 0) 0 = 1010 ∧ (0 : Int) ≤ x1 ∧ x1 < bg s0 4 (bg s0 214 x0 0) 0) <|
    bck (bg s0 0 (bg s0 10 (bg s0 214 x0 0) x1) 0 = 1003 ∧ (0 : Int) ≤ x2 ∧ x2 < bg s0 4 (bg s0 10 (bg s0 214 x0 0) x1) 0) <|
    bvl ((bg s0 20 (bg s0 10 (bg s0 214 x0 0) x1) x2)) fun t1 =>
    F_X12_spelled_r 1 x0 x1 x2 t1 1 s0)
  | 1 =>
    bck (bg s0 0 x0 0 = 11) <|
    bck (bg s0 0 (bg s0 218 x0 0) 0 = 1003 ∧ (0 : Int) ≤ x1 ∧ x1 < bg s0 4 (bg s0 218 x0 0) 0) <|
    bte (i32 (bg s0 20 (bg s0 218 x0 0) x1) ≤ i32 (x2 + x4))
    (F_X12_spelled_r 2 x0 x1 x2 x3 x4 s0)
    (bck (bg s0 0 x0 0 = 11) <|
    bck (bg s0 0 (bg s0 214 x0 0) 0 = 1010 ∧ (0 : Int) ≤ x1 ∧ x1 < bg s0 4 (bg s0 214 x0 0) 0) <|
    bck (bg s0 0 (bg s0 10 (bg s0 214 x0 0) x1) 0 = 1003 ∧ (0 : Int) ≤ ((x2 + x4) - 1) ∧ ((x2 + x4) - 1) < bg s0 4 (bg s0 10 (bg s0 214 x0 0) x1) 0) <|
    bck (bg s0 0 x0 0 = 11) <|
    bck (bg s0 0 (bg s0 214 x0 0) 0 = 1010 ∧ (0 : Int) ≤ x1 ∧ x1 < bg s0 4 (bg s0 214 x0 0) 0) <|
    bck (bg s0 0 (bg s0 10 (bg s0 214 x0 0) x1) 0 = 1003 ∧ (0 : Int) ≤ (x2 + x4) ∧ (x2 + x4) < bg s0 4 (bg s0 10 (bg s0 214 x0 0) x1) 0) <|
    bcl (F_X12_isOne s0 (bg s0 20 (bg s0 10 (bg s0 214 x0 0) x1) ((x2 + x4) - 1)) (bg s0 20 (bg s0 10 (bg s0 214 x0 0) x1) (x2 + x4))) fun s8 v5 =>
    bte (i32 v5 = 0)
    (F_X12_spelled_r 2 x0 x1 x2 x3 x4 s8)
    (F_X12_spelled_r 1 x0 x1 x2 x3 (x4 + 1) s8))
  | 2 =>
    bcl (F_X12_kind s0 x3) fun s9 v6 =>
    bte (i32 v6 = i32 1048576)
    (bck (bg s9 0 x0 0 = 11) <|
    bcl (F_X12_tells s9 x0 43) fun s11 v8 =>
    F_X12_spelled_r 3 x0 x1 x2 x4 0 s11)
    (bck (bg s9 0 x0 0 = 11) <|
    bcl (F_X12_tellsPart s9 x0 x3 x4) fun s10 v7 =>
    F_X12_spelled_r 4 x0 x1 x2 x4 0 s10)
  | 3 =>
    bte (i32 x3 ≤ i32 x4)
    (F_X12_spelled_r 4 x0 x1 x2 x3 0 s0)
    (bck (bg s0 0 x0 0 = 11) <|
    bck (bg s0 0 (bg s0 214 x0 0) 0 = 1010 ∧ (0 : Int) ≤ x1 ∧ x1 < bg s0 4 (bg s0 214 x0 0) 0) <|
    bck (bg s0 0 (bg s0 10 (bg s0 214 x0 0) x1) 0 = 1003 ∧ (0 : Int) ≤ (x2 + x4) ∧ (x2 + x4) < bg s0 4 (bg s0 10 (bg s0 214 x0 0) x1) 0) <|
    bck (bg s0 0 x0 0 = 11) <|
    bcl (F_X12_tells s0 x0 (97 + (b_iand (bg s0 20 (bg s0 10 (bg s0 214 x0 0) x1) (x2 + x4)) 255))) fun s12 v9 =>
    F_X12_spelled_r 3 x0 x1 x2 x3 (x4 + 1) s12)
  | 4 =>
    F_X12_spelled_r 0 x0 x1 (x2 + x3) 0 0 s0
  | _ => none
partial_fixpoint
def F_X12_spelled (s0 : bS) (a0 a1 a2 : Int) : Option (bS × Int) :=
  bcl (F_X12_isEdit s0 a1) fun s1 v1 =>
  bte (i32 v1 = 0)
  (bck (bg s1 0 a0 0 = 11) <|
  bcl (F_X12_refused s1 a0 (-2)) fun s7 v4 =>
  some (s7, v4))
  (bck (bg s1 0 a0 0 = 11) <|
  bcl (F_X12_isKept s1 a0 a1) fun s2 v2 =>
  bte (i32 v2 = 0)
  (bck (bg s2 0 a0 0 = 11) <|
  bcl (F_X12_refused s2 a0 (-4)) fun s6 v3 =>
  some (s6, v3))
  (bck ((bg s2 0 a0 0 = 11)) <|
  bst (bw s2 276 a0 0 0) fun s3 =>
  bck ((bg s3 0 a0 0 = 11)) <|
  bst (bw s3 280 a0 0 a2) fun s4 =>
  bck ((bg s4 0 a0 0 = 11)) <|
  bst (bw s4 284 a0 0 (-1)) fun s5 =>
  F_X12_spelled_r 0 a0 a1 0 0 0 s5))
set_option maxHeartbeats 4000000 in
set_option maxRecDepth 100000 in
set_option synthInstance.maxHeartbeats 4000000 in
theorem w_X12_spelled_r {Γ0 : bG} {l0 : Launch} {κ : bK} {st' : bS} {v : Int} (hκ : bOk κ Γ0 l0 cX12_spelled RX12 7 8 171) (hi : bIn κ yX12_spelled) (hf : bFin κ (some .int) st' (some (0, v))) (b : Nat) (x0 x1 x2 x3 x4 : Int) (s0 : bS) (h : F_X12_spelled_r b x0 x1 x2 x3 x4 s0 = some (st', v)) : match (generalizing := false) b with | 0 => bJ κ s0 46 [(0, (2, x0)), (1, (0, x1)), (3, (0, x2))] [] | 1 => bJ κ s0 69 [(0, (2, x0)), (1, (0, x1)), (3, (0, x2)), (4, (0, x3)), (5, (0, x4))] [] | 2 => bJ κ s0 118 [(0, (2, x0)), (1, (0, x1)), (3, (0, x2)), (4, (0, x3)), (5, (0, x4))] [] | 3 => bJ κ s0 137 [(0, (2, x0)), (1, (0, x1)), (3, (0, x2)), (5, (0, x3)), (6, (0, x4))] [] | 4 => bJ κ s0 183 [(0, (2, x0)), (1, (0, x1)), (3, (0, x2)), (5, (0, x3))] [] | _ => True := by
  refine F_X12_spelled_r.partial_correctness x0 x1 (fun b x2 x3 x4 s0 r => r = (st', v) → match (generalizing := false) b with | 0 => bJ κ s0 46 [(0, (2, x0)), (1, (0, x1)), (3, (0, x2))] [] | 1 => bJ κ s0 69 [(0, (2, x0)), (1, (0, x1)), (3, (0, x2)), (4, (0, x3)), (5, (0, x4))] [] | 2 => bJ κ s0 118 [(0, (2, x0)), (1, (0, x1)), (3, (0, x2)), (4, (0, x3)), (5, (0, x4))] [] | 3 => bJ κ s0 137 [(0, (2, x0)), (1, (0, x1)), (3, (0, x2)), (5, (0, x3)), (6, (0, x4))] [] | 4 => bJ κ s0 183 [(0, (2, x0)), (1, (0, x1)), (3, (0, x2)), (5, (0, x3))] [] | _ => True) ?_ b x2 x3 x4 s0 _ h rfl
  intro f' ih b x2 x3 x4 s0 r h hr
  subst hr
  match b, h with
  | 0, h =>
      refine r_iload_n hκ 2 rfl rfl dX12_spelled_46 ?_
      refine r_aload_n hκ 0 rfl rfl dX12_spelled_47 ?_
      obtain ⟨h13, h⟩ := bck_i h
      refine r_get hκ (t := 10) (k := 1) (r := 218) h13 rfl in_X12 (by decide) rfl q3052 (Or.inl rfl) dX12_spelled_48 ?_
      refine r_iload_n hκ 1 rfl rfl dX12_spelled_51 ?_
      obtain ⟨⟨h14, h15⟩, h⟩ := bck_i h
      refine r_iald hκ h14 h15 dX12_spelled_52 ?_
      refine r_icmp_ge hκ (tgt := 191) (by decide) dX12_spelled_53 (fun h16 => ?_) (fun h16 => ?_)
      · replace h := (bte_i h).1 h16
        refine r_aload_n hκ 0 rfl rfl dX12_spelled_191 ?_
        obtain ⟨h17, h⟩ := bck_i h
        refine r_get hκ (t := 10) (k := 18) (r := 284) h17 rfl in_X12 (by decide) rfl q3069 (Or.inl rfl) dX12_spelled_192 ?_
        exact r_iretH hκ hf h (nar_int _) dX12_spelled_195
      · replace h := (bte_i h).2 h16
        refine r_aload_n hκ 0 rfl rfl dX12_spelled_56 ?_
        obtain ⟨h18, h⟩ := bck_i h
        refine r_get hκ (t := 10) (k := 0) (r := 214) h18 rfl in_X12 (by decide) rfl q3051 (Or.inl rfl) dX12_spelled_57 ?_
        refine r_iload_n hκ 1 rfl rfl dX12_spelled_60 ?_
        obtain ⟨⟨h19, h20⟩, h⟩ := bck_i h
        refine r_aald hκ (t := 10) (by decide) h19 h20 dX12_spelled_61 ?_
        refine r_iload_n hκ 2 rfl rfl dX12_spelled_62 ?_
        obtain ⟨⟨h21, h22⟩, h⟩ := bck_i h
        refine r_iald hκ h21 h22 dX12_spelled_63 ?_
        refine r_nm (fun t1 et1 => ?_)
        replace h := bvl_i h t1 et1
        refine r_istore hκ (L2 := [(4, (0, t1)), (0, (2, x0)), (1, (0, x1)), (3, (0, x2))]) (by decide) rfl dX12_spelled_64 ?_
        refine r_iconst hκ dX12_spelled_66 ?_
        refine r_istore hκ (L2 := [(5, (0, 1)), (4, (0, t1)), (0, (2, x0)), (1, (0, x1)), (3, (0, x2))]) (by decide) rfl dX12_spelled_67 ?_
        exact r_sub [2, 3, 4, 1, 0] rfl (ih 1 _ _ _ _ _ h rfl)
  | 1, h =>
      refine r_iload_n hκ 2 rfl rfl dX12_spelled_69 ?_
      refine r_iload hκ 4 rfl dX12_spelled_70 ?_
      refine r_iadd hκ dX12_spelled_72 ?_
      refine r_aload_n hκ 0 rfl rfl dX12_spelled_73 ?_
      obtain ⟨h23, h⟩ := bck_i h
      refine r_get hκ (t := 10) (k := 1) (r := 218) h23 rfl in_X12 (by decide) rfl q3052 (Or.inl rfl) dX12_spelled_74 ?_
      refine r_iload_n hκ 1 rfl rfl dX12_spelled_77 ?_
      obtain ⟨⟨h24, h25⟩, h⟩ := bck_i h
      refine r_iald hκ h24 h25 dX12_spelled_78 ?_
      refine r_icmp_ge hκ (tgt := 118) (by decide) dX12_spelled_79 (fun h26 => ?_) (fun h26 => ?_)
      · replace h := (bte_i h).1 h26
        exact r_sub [0, 1, 2, 3, 4] rfl (ih 2 _ _ _ _ _ h rfl)
      · replace h := (bte_i h).2 h26
        refine r_aload_n hκ 0 rfl rfl dX12_spelled_82 ?_
        obtain ⟨h27, h⟩ := bck_i h
        refine r_get hκ (t := 10) (k := 0) (r := 214) h27 rfl in_X12 (by decide) rfl q3051 (Or.inl rfl) dX12_spelled_83 ?_
        refine r_iload_n hκ 1 rfl rfl dX12_spelled_86 ?_
        obtain ⟨⟨h28, h29⟩, h⟩ := bck_i h
        refine r_aald hκ (t := 10) (by decide) h28 h29 dX12_spelled_87 ?_
        refine r_iload_n hκ 2 rfl rfl dX12_spelled_88 ?_
        refine r_iload hκ 4 rfl dX12_spelled_89 ?_
        refine r_iadd hκ dX12_spelled_91 ?_
        refine r_iconst hκ dX12_spelled_92 ?_
        refine r_isub hκ dX12_spelled_93 ?_
        obtain ⟨⟨h30, h31⟩, h⟩ := bck_i h
        refine r_iald hκ h30 h31 dX12_spelled_94 ?_
        refine r_aload_n hκ 0 rfl rfl dX12_spelled_95 ?_
        obtain ⟨h32, h⟩ := bck_i h
        refine r_get hκ (t := 10) (k := 0) (r := 214) h32 rfl in_X12 (by decide) rfl q3051 (Or.inl rfl) dX12_spelled_96 ?_
        refine r_iload_n hκ 1 rfl rfl dX12_spelled_99 ?_
        obtain ⟨⟨h33, h34⟩, h⟩ := bck_i h
        refine r_aald hκ (t := 10) (by decide) h33 h34 dX12_spelled_100 ?_
        refine r_iload_n hκ 2 rfl rfl dX12_spelled_101 ?_
        refine r_iload hκ 4 rfl dX12_spelled_102 ?_
        refine r_iadd hκ dX12_spelled_104 ?_
        obtain ⟨⟨h35, h36⟩, h⟩ := bck_i h
        refine r_iald hκ h35 h36 dX12_spelled_105 ?_
        obtain ⟨s8, v5, h37, h⟩ := bcl_i h
        refine r_callS hκ (n' := 2) (index := 224) (w_X12_isOne Γ0 l0 h37) (lw_S q3222 q3223 q146 q3224) (by decide +kernel) rfl (by decide) rfl (Nat.le_of_ble_eq_true rfl) dX12_spelled_106 ?_
        refine r_if_eq hκ (tgt := 118) (by decide) dX12_spelled_109 (fun h38 => ?_) (fun h38 => ?_)
        · replace h := (bte_i h).1 h38
          exact r_sub [0, 1, 2, 3, 4] rfl (ih 2 _ _ _ _ _ h rfl)
        · replace h := (bte_i h).2 h38
          refine r_iinc hκ (L2 := [(5, (0, (x4 + 1))), (0, (2, x0)), (1, (0, x1)), (3, (0, x2)), (4, (0, x3))]) 4 rfl (by decide) rfl dX12_spelled_112 ?_
          refine r_goto hκ (tgt := 69) (by decide) dX12_spelled_115 ?_
          exact r_sub [1, 2, 3, 4, 0] rfl (ih 1 _ _ _ _ _ h rfl)
  | 2, h =>
      refine r_iload hκ 3 rfl dX12_spelled_118 ?_
      obtain ⟨s9, v6, h39, h⟩ := bcl_i h
      refine r_callS hκ (n' := 1) (index := 104) (w_X12_kind Γ0 l0 h39) (lw_S q3203 q3204 q146 q3205) (by decide +kernel) rfl (by decide) rfl (Nat.le_of_ble_eq_true rfl) dX12_spelled_120 ?_
      refine r_ldci hκ (x := 1048576) q3185 (by decide) dX12_spelled_123 ?_
      refine r_icmp_ne hκ (tgt := 175) (by decide) dX12_spelled_125 (fun h40 => ?_) (fun h40 => ?_)
      · replace h := (bte_i h).2 h40
        refine r_aload_n hκ 0 rfl rfl dX12_spelled_175 ?_
        refine r_iload hκ 3 rfl dX12_spelled_176 ?_
        refine r_iload hκ 4 rfl dX12_spelled_178 ?_
        obtain ⟨h41, h⟩ := bck_i h
        obtain ⟨s10, v7, h42, h⟩ := bcl_i h
        refine r_callV hκ (n' := 2) (index := 263) (w_X12_tellsPart Γ0 l0 h42) (lw_V q3273 q3275 qs88 q146 q3276) (by decide +kernel) (t := 10) h41 rfl rfl (by decide) rfl (Nat.le_of_ble_eq_true rfl) dX12_spelled_180 ?_
        exact r_sub [0, 1, 2, 4] rfl (ih 4 _ _ _ _ _ h rfl)
      · replace h := (bte_i h).1 h40
        refine r_aload_n hκ 0 rfl rfl dX12_spelled_128 ?_
        refine r_bipush hκ (by decide) dX12_spelled_129 ?_
        obtain ⟨h43, h⟩ := bck_i h
        obtain ⟨s11, v8, h44, h⟩ := bcl_i h
        refine r_callV hκ (n' := 1) (index := 260) (w_X12_tells Γ0 l0 h44) (lw_V q3269 q3271 qs87 q146 q3272) (by decide +kernel) (t := 10) h43 rfl rfl (by decide) rfl (Nat.le_of_ble_eq_true rfl) dX12_spelled_131 ?_
        refine r_iconst hκ dX12_spelled_134 ?_
        refine r_istore hκ (L2 := [(6, (0, 0)), (0, (2, x0)), (1, (0, x1)), (3, (0, x2)), (4, (0, x3)), (5, (0, x4))]) (by decide) rfl dX12_spelled_135 ?_
        exact r_sub [1, 2, 3, 5, 0] rfl (ih 3 _ _ _ _ _ h rfl)
  | 3, h =>
      refine r_iload hκ 4 rfl dX12_spelled_137 ?_
      refine r_iload hκ 3 rfl dX12_spelled_139 ?_
      refine r_icmp_ge hκ (tgt := 172) (by decide) dX12_spelled_141 (fun h45 => ?_) (fun h45 => ?_)
      · replace h := (bte_i h).1 h45
        refine r_goto hκ (tgt := 183) (by decide) dX12_spelled_172 ?_
        exact r_sub [0, 1, 2, 3] rfl (ih 4 _ _ _ _ _ h rfl)
      · replace h := (bte_i h).2 h45
        refine r_aload_n hκ 0 rfl rfl dX12_spelled_144 ?_
        refine r_bipush hκ (by decide) dX12_spelled_145 ?_
        refine r_aload_n hκ 0 rfl rfl dX12_spelled_147 ?_
        obtain ⟨h46, h⟩ := bck_i h
        refine r_get hκ (t := 10) (k := 0) (r := 214) h46 rfl in_X12 (by decide) rfl q3051 (Or.inl rfl) dX12_spelled_148 ?_
        refine r_iload_n hκ 1 rfl rfl dX12_spelled_151 ?_
        obtain ⟨⟨h47, h48⟩, h⟩ := bck_i h
        refine r_aald hκ (t := 10) (by decide) h47 h48 dX12_spelled_152 ?_
        refine r_iload_n hκ 2 rfl rfl dX12_spelled_153 ?_
        refine r_iload hκ 4 rfl dX12_spelled_154 ?_
        refine r_iadd hκ dX12_spelled_156 ?_
        obtain ⟨⟨h49, h50⟩, h⟩ := bck_i h
        refine r_iald hκ h49 h50 dX12_spelled_157 ?_
        refine r_sipush hκ (by decide) dX12_spelled_158 ?_
        refine r_iand hκ dX12_spelled_161 ?_
        refine r_iadd hκ dX12_spelled_162 ?_
        obtain ⟨h51, h⟩ := bck_i h
        obtain ⟨s12, v9, h52, h⟩ := bcl_i h
        refine r_callV hκ (n' := 1) (index := 260) (w_X12_tells Γ0 l0 h52) (lw_V q3269 q3271 qs87 q146 q3272) (by decide +kernel) (t := 10) h51 rfl rfl (by decide) rfl (Nat.le_of_ble_eq_true rfl) dX12_spelled_163 ?_
        refine r_iinc hκ (L2 := [(6, (0, (x4 + 1))), (0, (2, x0)), (1, (0, x1)), (3, (0, x2)), (5, (0, x3))]) 4 rfl (by decide) rfl dX12_spelled_166 ?_
        refine r_goto hκ (tgt := 137) (by decide) dX12_spelled_169 ?_
        exact r_sub [1, 2, 3, 4, 0] rfl (ih 3 _ _ _ _ _ h rfl)
  | 4, h =>
      refine r_iload_n hκ 2 rfl rfl dX12_spelled_183 ?_
      refine r_iload hκ 3 rfl dX12_spelled_184 ?_
      refine r_iadd hκ dX12_spelled_186 ?_
      refine r_istore_n hκ (L2 := [(3, (0, (x2 + x3))), (0, (2, x0)), (1, (0, x1)), (5, (0, x3))]) (by decide) rfl rfl dX12_spelled_187 ?_
      refine r_goto hκ (tgt := 46) (by decide) dX12_spelled_188 ?_
      exact r_sub [1, 2, 0] rfl (ih 0 _ _ _ _ _ h rfl)
  | b + 5, h => trivial
set_option maxHeartbeats 4000000 in
set_option maxRecDepth 100000 in
theorem w_X12_spelled (Γ0 : bG) (l0 : Launch) {s0 st' : bS} {v a0 a1 a2 : Int} (h : F_X12_spelled s0 a0 a1 a2 = some (st', v)) : bCt Γ0 l0 yX12_spelled cX12_spelled 7 (some .int) 8 171 [(2, a0), (0, a1), (0, a2)] s0 st' (some (0, v)) := by
  refine b_ent (own := RX12) (by decide +kernel) rfl (Nat.le_of_ble_eq_true rfl) (L := [(0, (2, a0)), (1, (0, a1)), (2, (0, a2))]) rfl ?_
  intro κ hκ hi hf
  unfold F_X12_spelled at h
  refine r_iload_n hκ 1 rfl rfl dX12_spelled_0 ?_
  obtain ⟨s1, v1, h1, h⟩ := bcl_i h
  refine r_callS hκ (n' := 1) (index := 211) (w_X12_isEdit Γ0 l0 h1) (lw_S q3171 q3172 q146 q3173) (by decide +kernel) rfl (by decide) rfl (Nat.le_of_ble_eq_true rfl) dX12_spelled_1 ?_
  refine r_if_ne hκ (tgt := 14) (by decide) dX12_spelled_4 (fun h2 => ?_) (fun h2 => ?_)
  · replace h := (bte_i h).2 h2
    refine r_aload_n hκ 0 rfl rfl dX12_spelled_14 ?_
    refine r_iload_n hκ 1 rfl rfl dX12_spelled_15 ?_
    obtain ⟨h3, h⟩ := bck_i h
    obtain ⟨s2, v2, h4, h⟩ := bcl_i h
    refine r_callV hκ (n' := 1) (index := 230) (w_X12_isKept Γ0 l0 h4) (lw_V q3230 q3232 qs82 q146 q3233) (by decide +kernel) (t := 10) h3 rfl rfl (by decide) rfl (Nat.le_of_ble_eq_true rfl) dX12_spelled_16 ?_
    refine r_if_ne hκ (tgt := 29) (by decide) dX12_spelled_19 (fun h5 => ?_) (fun h5 => ?_)
    · replace h := (bte_i h).2 h5
      refine r_aload_n hκ 0 rfl rfl dX12_spelled_29 ?_
      refine r_iconst hκ dX12_spelled_30 ?_
      obtain ⟨h6, h⟩ := bck_i h
      refine r_put hκ (t := 10) (k := 16) (r := 276) (ty := .int) tyX12 tyX12_ok nmX12 h6 rfl in_X12 (by decide) rfl q3067 (Or.inl rfl) rfl rfl rfl trivial (Or.inl (by decide)) dX12_spelled_31 (fun s3 es3 => ?_)
      replace h := bst_i h s3 es3
      refine r_aload_n hκ 0 rfl rfl dX12_spelled_34 ?_
      refine r_iload_n hκ 2 rfl rfl dX12_spelled_35 ?_
      obtain ⟨h7, h⟩ := bck_i h
      refine r_put hκ (t := 10) (k := 17) (r := 280) (ty := .int) tyX12 tyX12_ok nmX12 h7 rfl in_X12 (by decide) rfl q3068 (Or.inl rfl) rfl rfl rfl trivial (Or.inl (by decide)) dX12_spelled_36 (fun s4 es4 => ?_)
      replace h := bst_i h s4 es4
      refine r_aload_n hκ 0 rfl rfl dX12_spelled_39 ?_
      refine r_iconst hκ dX12_spelled_40 ?_
      obtain ⟨h8, h⟩ := bck_i h
      refine r_put hκ (t := 10) (k := 18) (r := 284) (ty := .int) tyX12 tyX12_ok nmX12 h8 rfl in_X12 (by decide) rfl q3069 (Or.inl rfl) rfl rfl rfl trivial (Or.inl (by decide)) dX12_spelled_41 (fun s5 es5 => ?_)
      replace h := bst_i h s5 es5
      refine r_iconst hκ dX12_spelled_44 ?_
      refine r_istore_n hκ (L2 := [(3, (0, 0)), (0, (2, a0)), (1, (0, a1)), (2, (0, a2))]) (by decide) rfl rfl dX12_spelled_45 ?_
      exact r_sub [1, 2, 0] rfl (w_X12_spelled_r hκ hi hf 0 _ _ _ _ _ _ h)
    · replace h := (bte_i h).1 h5
      refine r_aload_n hκ 0 rfl rfl dX12_spelled_22 ?_
      refine r_bipush hκ (by decide) dX12_spelled_23 ?_
      obtain ⟨h9, h⟩ := bck_i h
      obtain ⟨s6, v3, h10, h⟩ := bcl_i h
      refine r_callV hκ (n' := 1) (index := 183) (w_X12_refused Γ0 l0 h10) (lw_V q3159 q3161 qs73 q146 q3162) (by decide +kernel) (t := 10) h9 rfl rfl (by decide) rfl (Nat.le_of_ble_eq_true rfl) dX12_spelled_25 ?_
      exact r_iretH hκ hf h (nar_int _) dX12_spelled_28
  · replace h := (bte_i h).1 h2
    refine r_aload_n hκ 0 rfl rfl dX12_spelled_7 ?_
    refine r_bipush hκ (by decide) dX12_spelled_8 ?_
    obtain ⟨h11, h⟩ := bck_i h
    obtain ⟨s7, v4, h12, h⟩ := bcl_i h
    refine r_callV hκ (n' := 1) (index := 183) (w_X12_refused Γ0 l0 h12) (lw_V q3159 q3161 qs73 q146 q3162) (by decide +kernel) (t := 10) h11 rfl rfl (by decide) rfl (Nat.le_of_ble_eq_true rfl) dX12_spelled_10 ?_
    exact r_iretH hκ hf h (nar_int _) dX12_spelled_13
/-- EditsMeetModel.marksOf(II)I -/
def F_X12_marksOf (s0 : bS) (a0 a1 : Int) : Option (bS × Int) :=
  some (s0, (b_iand (b_ior a0 (b_iand (b_ishr a1 4) 15)) (b_ixor (b_iand a1 15) (-1))))
set_option maxHeartbeats 4000000 in
set_option maxRecDepth 100000 in
theorem w_X12_marksOf (Γ0 : bG) (l0 : Launch) {s0 st' : bS} {v a0 a1 : Int} (h : F_X12_marksOf s0 a0 a1 = some (st', v)) : bCt Γ0 l0 yX12_marksOf cX12_marksOf 2 (some .int) 0 0 [(0, a0), (0, a1)] s0 st' (some (0, v)) := by
  refine b_ent (own := RX12) (by decide +kernel) rfl (Nat.le_of_ble_eq_true rfl) (L := [(0, (0, a0)), (1, (0, a1))]) rfl ?_
  intro κ hκ hi hf
  unfold F_X12_marksOf at h
  refine r_iload_n hκ 0 rfl rfl dX12_marksOf_0 ?_
  refine r_iload_n hκ 1 rfl rfl dX12_marksOf_1 ?_
  refine r_iconst hκ dX12_marksOf_2 ?_
  refine r_ishr hκ dX12_marksOf_3 ?_
  refine r_bipush hκ (by decide) dX12_marksOf_4 ?_
  refine r_iand hκ dX12_marksOf_6 ?_
  refine r_ior hκ dX12_marksOf_7 ?_
  refine r_iload_n hκ 1 rfl rfl dX12_marksOf_8 ?_
  refine r_bipush hκ (by decide) dX12_marksOf_9 ?_
  refine r_iand hκ dX12_marksOf_11 ?_
  refine r_iconst hκ dX12_marksOf_12 ?_
  refine r_ixor hκ dX12_marksOf_13 ?_
  refine r_iand hκ dX12_marksOf_14 ?_
  exact r_iretH hκ hf h (nar_int _) dX12_marksOf_15
/-- EditsMeetModel.together(III)V -/
def F_X12_together_r (b : Nat) (x0 x1 x2 : Int) (s0 : bS) : Option (bS × Int) :=
  match b with
  | 0 =>
    bck (bg s0 0 x0 0 = 11) <|
    bcl (F_X12_adds s0 x0 x2 x1) fun s10 v10 =>
    some (s10, 0)
  | _ => none
def F_X12_together (s0 : bS) (a0 a1 a2 a3 : Int) : Option (bS × Int) :=
  bcl (F_X12_kind s0 a2) fun s1 v1 =>
  bte (i32 v1 = i32 2097152)
  (bck (bg s1 0 a0 0 = 11) <|
  bcl (F_X12_adds s1 a0 a3 a1) fun s9 v9 =>
  some (s9, 0))
  (bcl (F_X12_kind s1 a1) fun s2 v2 =>
  bte (i32 v2 = i32 1048576)
  (bcl (F_X12_kind s2 a2) fun s6 v6 =>
  bte (i32 v6 = i32 4194304)
  (bcl (F_X12_marksOf s6 (b_iand (b_ishr a1 8) 15) a2) fun s7 v7 =>
  bck (bg s7 0 a0 0 = 11) <|
  bcl (F_X12_adds s7 a0 a3 (b_ior (b_ior 1048576 (b_ishl v7 8)) (b_iand a1 255))) fun s8 v8 =>
  some (s8, 0))
  (some (s6, 0)))
  (bcl (F_X12_kind s2 a2) fun s3 v3 =>
  bte (i32 v3 = i32 3145728)
  (F_X12_together_r 0 a0 a2 a3 s3)
  (bcl (F_X12_kind s3 a1) fun s4 v4 =>
  bte (i32 v4 = i32 2097152)
  (F_X12_together_r 0 a0 a2 a3 s4)
  (bvl ((b_ior (b_iand (b_iand (b_ishr a1 4) 15) (b_ixor (b_iand a2 15) (-1))) (b_iand (b_ishr a2 4) 15))) fun t1 =>
  bvl ((b_ior (b_iand (b_iand a1 15) (b_ixor (b_iand (b_ishr a2 4) 15) (-1))) (b_iand a2 15))) fun t2 =>
  bck (bg s4 0 a0 0 = 11) <|
  bcl (F_X12_adds s4 a0 a3 (b_ior (b_ior 4194304 (b_ishl t1 4)) t2)) fun s5 v5 =>
  some (s5, 0)))))
set_option maxHeartbeats 4000000 in
set_option maxRecDepth 100000 in
set_option synthInstance.maxHeartbeats 4000000 in
theorem w_X12_together_r {Γ0 : bG} {l0 : Launch} {κ : bK} {st' : bS} {v : Int} (hκ : bOk κ Γ0 l0 cX12_together RX12 6 1 22) (hi : bIn κ yX12_together) (hf : bFin κ none st' none) (b : Nat) (x0 x1 x2 : Int) (s0 : bS) (h : F_X12_together_r b x0 x1 x2 s0 = some (st', v)) : match (generalizing := false) b with | 0 => bJ κ s0 89 [(0, (2, x0)), (2, (0, x1)), (3, (0, x2))] [] | _ => True := by
  unfold F_X12_together_r at h
  match b, h with
  | 0, h =>
      refine r_aload_n hκ 0 rfl rfl dX12_together_89 ?_
      refine r_iload_n hκ 2 rfl rfl dX12_together_90 ?_
      refine r_iload_n hκ 1 rfl rfl dX12_together_91 ?_
      obtain ⟨h18, h⟩ := bck_i h
      obtain ⟨s10, v10, h19, h⟩ := bcl_i h
      refine r_callV hκ (n' := 2) (index := 115) (w_X12_adds Γ0 l0 h19) (lw_V q3186 q3188 qs76 q146 q3189) (by decide +kernel) (t := 10) h18 rfl rfl (by decide) rfl (Nat.le_of_ble_eq_true rfl) dX12_together_92 ?_
      refine r_goto hκ (tgt := 155) (by decide) dX12_together_95 ?_
      exact r_vretH hκ hf h dX12_together_155
  | b + 1, h => trivial
set_option maxHeartbeats 4000000 in
set_option maxRecDepth 100000 in
theorem w_X12_together (Γ0 : bG) (l0 : Launch) {s0 st' : bS} {v a0 a1 a2 a3 : Int} (h : F_X12_together s0 a0 a1 a2 a3 = some (st', v)) : bCt Γ0 l0 yX12_together cX12_together 6 none 1 22 [(2, a0), (0, a1), (0, a2), (0, a3)] s0 st' none := by
  refine b_ent (own := RX12) (by decide +kernel) rfl (Nat.le_of_ble_eq_true rfl) (L := [(0, (2, a0)), (1, (0, a1)), (2, (0, a2)), (3, (0, a3))]) rfl ?_
  intro κ hκ hi hf
  unfold F_X12_together at h
  refine r_iload_n hκ 2 rfl rfl dX12_together_0 ?_
  obtain ⟨s1, v1, h1, h⟩ := bcl_i h
  refine r_callS hκ (n' := 1) (index := 104) (w_X12_kind Γ0 l0 h1) (lw_S q3203 q3204 q146 q3205) (by decide +kernel) rfl (by decide) rfl (Nat.le_of_ble_eq_true rfl) dX12_together_1 ?_
  refine r_ldci hκ (x := 2097152) q3196 (by decide) dX12_together_4 ?_
  refine r_icmp_ne hκ (tgt := 18) (by decide) dX12_together_6 (fun h2 => ?_) (fun h2 => ?_)
  · replace h := (bte_i h).2 h2
    refine r_iload_n hκ 1 rfl rfl dX12_together_18 ?_
    obtain ⟨s2, v2, h3, h⟩ := bcl_i h
    refine r_callS hκ (n' := 1) (index := 104) (w_X12_kind Γ0 l0 h3) (lw_S q3203 q3204 q146 q3205) (by decide +kernel) rfl (by decide) rfl (Nat.le_of_ble_eq_true rfl) dX12_together_19 ?_
    refine r_ldci hκ (x := 1048576) q3185 (by decide) dX12_together_22 ?_
    refine r_icmp_ne hκ (tgt := 71) (by decide) dX12_together_24 (fun h4 => ?_) (fun h4 => ?_)
    · replace h := (bte_i h).2 h4
      refine r_iload_n hκ 2 rfl rfl dX12_together_71 ?_
      obtain ⟨s3, v3, h5, h⟩ := bcl_i h
      refine r_callS hκ (n' := 1) (index := 104) (w_X12_kind Γ0 l0 h5) (lw_S q3203 q3204 q146 q3205) (by decide +kernel) rfl (by decide) rfl (Nat.le_of_ble_eq_true rfl) dX12_together_72 ?_
      refine r_ldci hκ (x := 3145728) q3197 (by decide) dX12_together_75 ?_
      refine r_icmp_eq hκ (tgt := 89) (by decide) dX12_together_77 (fun h6 => ?_) (fun h6 => ?_)
      · replace h := (bte_i h).1 h6
        exact r_sub [0, 2, 3] rfl (w_X12_together_r hκ hi hf 0 _ _ _ _ h)
      · replace h := (bte_i h).2 h6
        refine r_iload_n hκ 1 rfl rfl dX12_together_80 ?_
        obtain ⟨s4, v4, h7, h⟩ := bcl_i h
        refine r_callS hκ (n' := 1) (index := 104) (w_X12_kind Γ0 l0 h7) (lw_S q3203 q3204 q146 q3205) (by decide +kernel) rfl (by decide) rfl (Nat.le_of_ble_eq_true rfl) dX12_together_81 ?_
        refine r_ldci hκ (x := 2097152) q3196 (by decide) dX12_together_84 ?_
        refine r_icmp_ne hκ (tgt := 98) (by decide) dX12_together_86 (fun h8 => ?_) (fun h8 => ?_)
        · replace h := (bte_i h).2 h8
          refine r_iload_n hκ 1 rfl rfl dX12_together_98 ?_
          refine r_iconst hκ dX12_together_99 ?_
          refine r_ishr hκ dX12_together_100 ?_
          refine r_bipush hκ (by decide) dX12_together_101 ?_
          refine r_iand hκ dX12_together_103 ?_
          refine r_iload_n hκ 2 rfl rfl dX12_together_104 ?_
          refine r_bipush hκ (by decide) dX12_together_105 ?_
          refine r_iand hκ dX12_together_107 ?_
          refine r_iconst hκ dX12_together_108 ?_
          refine r_ixor hκ dX12_together_109 ?_
          refine r_iand hκ dX12_together_110 ?_
          refine r_iload_n hκ 2 rfl rfl dX12_together_111 ?_
          refine r_iconst hκ dX12_together_112 ?_
          refine r_ishr hκ dX12_together_113 ?_
          refine r_bipush hκ (by decide) dX12_together_114 ?_
          refine r_iand hκ dX12_together_116 ?_
          refine r_ior hκ dX12_together_117 ?_
          refine r_nm (fun t1 et1 => ?_)
          replace h := bvl_i h t1 et1
          refine r_istore hκ (L2 := [(4, (0, t1)), (0, (2, a0)), (1, (0, a1)), (2, (0, a2)), (3, (0, a3))]) (by decide) rfl dX12_together_118 ?_
          refine r_iload_n hκ 2 rfl rfl dX12_together_120 ?_
          refine r_bipush hκ (by decide) dX12_together_121 ?_
          refine r_iand hκ dX12_together_123 ?_
          refine r_iload_n hκ 3 rfl rfl dX12_together_124 ?_
          refine r_iconst hκ dX12_together_125 ?_
          refine r_ishr hκ dX12_together_126 ?_
          refine r_bipush hκ (by decide) dX12_together_127 ?_
          refine r_iand hκ dX12_together_129 ?_
          refine r_iconst hκ dX12_together_130 ?_
          refine r_ixor hκ dX12_together_131 ?_
          refine r_iand hκ dX12_together_132 ?_
          refine r_iload_n hκ 3 rfl rfl dX12_together_133 ?_
          refine r_bipush hκ (by decide) dX12_together_134 ?_
          refine r_iand hκ dX12_together_136 ?_
          refine r_ior hκ dX12_together_137 ?_
          refine r_nm (fun t2 et2 => ?_)
          replace h := bvl_i h t2 et2
          refine r_istore hκ (L2 := [(5, (0, t2)), (4, (0, t1)), (0, (2, a0)), (1, (0, a1)), (2, (0, a2)), (3, (0, a3))]) (by decide) rfl dX12_together_138 ?_
          refine r_aload_n hκ 2 rfl rfl dX12_together_140 ?_
          refine r_iload_n hκ 5 rfl rfl dX12_together_141 ?_
          refine r_ldci hκ (x := 4194304) q3198 (by decide) dX12_together_142 ?_
          refine r_iload hκ 1 rfl dX12_together_144 ?_
          refine r_iconst hκ dX12_together_146 ?_
          refine r_ishl hκ dX12_together_147 ?_
          refine r_ior hκ dX12_together_148 ?_
          refine r_iload hκ 0 rfl dX12_together_149 ?_
          refine r_ior hκ dX12_together_151 ?_
          obtain ⟨h9, h⟩ := bck_i h
          obtain ⟨s5, v5, h10, h⟩ := bcl_i h
          refine r_callV hκ (n' := 2) (index := 115) (w_X12_adds Γ0 l0 h10) (lw_V q3186 q3188 qs76 q146 q3189) (by decide +kernel) (t := 10) h9 rfl rfl (by decide) rfl (Nat.le_of_ble_eq_true rfl) dX12_together_152 ?_
          exact r_vretH hκ hf h dX12_together_155
        · replace h := (bte_i h).1 h8
          exact r_sub [0, 2, 3] rfl (w_X12_together_r hκ hi hf 0 _ _ _ _ h)
    · replace h := (bte_i h).1 h4
      refine r_iload_n hκ 2 rfl rfl dX12_together_27 ?_
      obtain ⟨s6, v6, h11, h⟩ := bcl_i h
      refine r_callS hκ (n' := 1) (index := 104) (w_X12_kind Γ0 l0 h11) (lw_S q3203 q3204 q146 q3205) (by decide +kernel) rfl (by decide) rfl (Nat.le_of_ble_eq_true rfl) dX12_together_28 ?_
      refine r_ldci hκ (x := 4194304) q3198 (by decide) dX12_together_31 ?_
      refine r_icmp_ne hκ (tgt := 155) (by decide) dX12_together_33 (fun h12 => ?_) (fun h12 => ?_)
      · replace h := (bte_i h).2 h12
        exact r_vretH hκ hf h dX12_together_155
      · replace h := (bte_i h).1 h12
        refine r_iload_n hκ 1 rfl rfl dX12_together_36 ?_
        refine r_bipush hκ (by decide) dX12_together_37 ?_
        refine r_ishr hκ dX12_together_39 ?_
        refine r_bipush hκ (by decide) dX12_together_40 ?_
        refine r_iand hκ dX12_together_42 ?_
        refine r_iload_n hκ 2 rfl rfl dX12_together_43 ?_
        obtain ⟨s7, v7, h13, h⟩ := bcl_i h
        refine r_callS hκ (n' := 2) (index := 127) (w_X12_marksOf Γ0 l0 h13) (lw_S q3297 q3298 q146 q3299) (by decide +kernel) rfl (by decide) rfl (Nat.le_of_ble_eq_true rfl) dX12_together_44 ?_
        refine r_istore hκ (L2 := [(4, (0, v7)), (0, (2, a0)), (1, (0, a1)), (2, (0, a2)), (3, (0, a3))]) (by decide) rfl dX12_together_47 ?_
        refine r_aload_n hκ 1 rfl rfl dX12_together_49 ?_
        refine r_iload_n hκ 4 rfl rfl dX12_together_50 ?_
        refine r_ldci hκ (x := 1048576) q3185 (by decide) dX12_together_51 ?_
        refine r_iload hκ 0 rfl dX12_together_53 ?_
        refine r_bipush hκ (by decide) dX12_together_55 ?_
        refine r_ishl hκ dX12_together_57 ?_
        refine r_ior hκ dX12_together_58 ?_
        refine r_iload_n hκ 2 rfl rfl dX12_together_59 ?_
        refine r_sipush hκ (by decide) dX12_together_60 ?_
        refine r_iand hκ dX12_together_63 ?_
        refine r_ior hκ dX12_together_64 ?_
        obtain ⟨h14, h⟩ := bck_i h
        obtain ⟨s8, v8, h15, h⟩ := bcl_i h
        refine r_callV hκ (n' := 2) (index := 115) (w_X12_adds Γ0 l0 h15) (lw_V q3186 q3188 qs76 q146 q3189) (by decide +kernel) (t := 10) h14 rfl rfl (by decide) rfl (Nat.le_of_ble_eq_true rfl) dX12_together_65 ?_
        refine r_goto hκ (tgt := 155) (by decide) dX12_together_68 ?_
        exact r_vretH hκ hf h dX12_together_155
  · replace h := (bte_i h).1 h2
    refine r_aload_n hκ 0 rfl rfl dX12_together_9 ?_
    refine r_iload_n hκ 3 rfl rfl dX12_together_10 ?_
    refine r_iload_n hκ 1 rfl rfl dX12_together_11 ?_
    obtain ⟨h16, h⟩ := bck_i h
    obtain ⟨s9, v9, h17, h⟩ := bcl_i h
    refine r_callV hκ (n' := 2) (index := 115) (w_X12_adds Γ0 l0 h17) (lw_V q3186 q3188 qs76 q146 q3189) (by decide +kernel) (t := 10) h16 rfl rfl (by decide) rfl (Nat.le_of_ble_eq_true rfl) dX12_together_12 ?_
    refine r_goto hκ (tgt := 155) (by decide) dX12_together_15 ?_
    exact r_vretH hκ hf h dX12_together_155
/-- EditsMeetModel.behindRow(III)V -/
def F_X12_behindRow_r (b : Nat) (x0 x1 x2 x3 x4 x5 x6 x7 : Int) (s0 : bS) : Option (bS × Int) :=
  match b with
  | 0 =>
    bck (bg s0 0 x0 0 = 11) <|
    bck (bg s0 0 (bg s0 254 x0 0) 0 = 1003 ∧ (0 : Int) ≤ x1 ∧ x1 < bg s0 4 (bg s0 254 x0 0) 0) <|
    bte (i32 x4 < i32 (bg s0 20 (bg s0 254 x0 0) x1))
    (F_X12_behindRow_r 1 x0 x1 x2 x3 x4 x5 0 0 s0)
    (bck (bg s0 0 x0 0 = 11) <|
    bck (bg s0 0 (bg s0 254 x0 0) 0 = 1003 ∧ (0 : Int) ≤ x2 ∧ x2 < bg s0 4 (bg s0 254 x0 0) 0) <|
    bte (i32 (bg s0 20 (bg s0 254 x0 0) x2) ≤ i32 x5)
    (bck (bg s0 0 x0 0 = 11) <|
    bcl (F_X12_plain s0 x0 x3) fun s2 v1 =>
    some (s2, 0))
    (F_X12_behindRow_r 1 x0 x1 x2 x3 x4 x5 0 0 s0))
  | 1 =>
    bck (bg s0 0 x0 0 = 11) <|
    bck (bg s0 0 (bg s0 254 x0 0) 0 = 1003 ∧ (0 : Int) ≤ x1 ∧ x1 < bg s0 4 (bg s0 254 x0 0) 0) <|
    bte (i32 (bg s0 20 (bg s0 254 x0 0) x1) ≤ i32 x4)
    (F_X12_behindRow_r 2 x0 x1 x2 x3 x4 x5 0 0 s0)
    (bck (bg s0 0 x0 0 = 11) <|
    bck (bg s0 0 (bg s0 250 x0 0) 0 = 1010 ∧ (0 : Int) ≤ x1 ∧ x1 < bg s0 4 (bg s0 250 x0 0) 0) <|
    bck (bg s0 0 (bg s0 10 (bg s0 250 x0 0) x1) 0 = 1003 ∧ (0 : Int) ≤ x4 ∧ x4 < bg s0 4 (bg s0 10 (bg s0 250 x0 0) x1) 0) <|
    F_X12_behindRow_r 2 x0 x1 x2 x3 x4 x5 (bg s0 20 (bg s0 10 (bg s0 250 x0 0) x1) x4) 0 s0)
  | 2 =>
    bck (bg s0 0 x0 0 = 11) <|
    bck (bg s0 0 (bg s0 254 x0 0) 0 = 1003 ∧ (0 : Int) ≤ x2 ∧ x2 < bg s0 4 (bg s0 254 x0 0) 0) <|
    bte (i32 (bg s0 20 (bg s0 254 x0 0) x2) ≤ i32 x5)
    (F_X12_behindRow_r 3 x0 x1 x2 x3 x4 x5 x6 0 s0)
    (bck (bg s0 0 x0 0 = 11) <|
    bck (bg s0 0 (bg s0 250 x0 0) 0 = 1010 ∧ (0 : Int) ≤ x2 ∧ x2 < bg s0 4 (bg s0 250 x0 0) 0) <|
    bck (bg s0 0 (bg s0 10 (bg s0 250 x0 0) x2) 0 = 1003 ∧ (0 : Int) ≤ x5 ∧ x5 < bg s0 4 (bg s0 10 (bg s0 250 x0 0) x2) 0) <|
    F_X12_behindRow_r 3 x0 x1 x2 x3 x4 x5 x6 (bg s0 20 (bg s0 10 (bg s0 250 x0 0) x2) x5) s0)
  | 3 =>
    bcl (F_X12_kind s0 x6) fun s3 v2 =>
    bte (i32 v2 = i32 3145728)
    (bck (bg s3 0 x0 0 = 11) <|
    bcl (F_X12_adds s3 x0 x3 x6) fun s7 v6 =>
    F_X12_behindRow_r 4 x0 x1 x2 x3 (x4 + 1) x5 0 0 s7)
    (bcl (F_X12_kind s3 x7) fun s4 v3 =>
    bte (i32 v3 = i32 1048576)
    (bck (bg s4 0 x0 0 = 11) <|
    bcl (F_X12_adds s4 x0 x3 x7) fun s6 v5 =>
    F_X12_behindRow_r 4 x0 x1 x2 x3 x4 (x5 + 1) 0 0 s6)
    (bck (bg s4 0 x0 0 = 11) <|
    bcl (F_X12_together s4 x0 x6 x7 x3) fun s5 v4 =>
    F_X12_behindRow_r 4 x0 x1 x2 x3 (x4 + 1) (x5 + 1) 0 0 s5))
  | 4 =>
    F_X12_behindRow_r 0 x0 x1 x2 x3 x4 x5 0 0 s0
  | _ => none
partial_fixpoint
def F_X12_behindRow (s0 : bS) (a0 a1 a2 a3 : Int) : Option (bS × Int) :=
  bck (bg s0 0 a0 0 = 11) <|
  bck (bg s0 0 (bg s0 254 a0 0) 0 = 1003 ∧ (0 : Int) ≤ a3 ∧ a3 < bg s0 4 (bg s0 254 a0 0) 0) <|
  bst (bw s0 20 (bg s0 254 a0 0) a3 0) fun s1 =>
  F_X12_behindRow_r 0 a0 a1 a2 a3 0 0 0 0 s1
set_option maxHeartbeats 4000000 in
set_option maxRecDepth 100000 in
set_option synthInstance.maxHeartbeats 4000000 in
theorem w_X12_behindRow_r {Γ0 : bG} {l0 : Launch} {κ : bK} {st' : bS} {v : Int} (hκ : bOk κ Γ0 l0 cX12_behindRow RX12 8 2 47) (hi : bIn κ yX12_behindRow) (hf : bFin κ none st' none) (b : Nat) (x0 x1 x2 x3 x4 x5 x6 x7 : Int) (s0 : bS) (h : F_X12_behindRow_r b x0 x1 x2 x3 x4 x5 x6 x7 s0 = some (st', v)) : match (generalizing := false) b with | 0 => bJ κ s0 13 [(0, (2, x0)), (1, (0, x1)), (2, (0, x2)), (3, (0, x3)), (4, (0, x4)), (5, (0, x5))] [] | 1 => bJ κ s0 35 [(0, (2, x0)), (1, (0, x1)), (2, (0, x2)), (3, (0, x3)), (4, (0, x4)), (5, (0, x5))] [] | 2 => bJ κ s0 59 [(0, (2, x0)), (1, (0, x1)), (2, (0, x2)), (3, (0, x3)), (4, (0, x4)), (5, (0, x5))] [(0, x6)] | 3 => bJ κ s0 85 [(0, (2, x0)), (1, (0, x1)), (2, (0, x2)), (3, (0, x3)), (4, (0, x4)), (5, (0, x5)), (6, (0, x6))] [(0, x7)] | 4 => bJ κ s0 148 [(0, (2, x0)), (1, (0, x1)), (2, (0, x2)), (3, (0, x3)), (4, (0, x4)), (5, (0, x5))] [] | _ => True := by
  refine F_X12_behindRow_r.partial_correctness x0 x1 x2 x3 (fun b x4 x5 x6 x7 s0 r => r = (st', v) → match (generalizing := false) b with | 0 => bJ κ s0 13 [(0, (2, x0)), (1, (0, x1)), (2, (0, x2)), (3, (0, x3)), (4, (0, x4)), (5, (0, x5))] [] | 1 => bJ κ s0 35 [(0, (2, x0)), (1, (0, x1)), (2, (0, x2)), (3, (0, x3)), (4, (0, x4)), (5, (0, x5))] [] | 2 => bJ κ s0 59 [(0, (2, x0)), (1, (0, x1)), (2, (0, x2)), (3, (0, x3)), (4, (0, x4)), (5, (0, x5))] [(0, x6)] | 3 => bJ κ s0 85 [(0, (2, x0)), (1, (0, x1)), (2, (0, x2)), (3, (0, x3)), (4, (0, x4)), (5, (0, x5)), (6, (0, x6))] [(0, x7)] | 4 => bJ κ s0 148 [(0, (2, x0)), (1, (0, x1)), (2, (0, x2)), (3, (0, x3)), (4, (0, x4)), (5, (0, x5))] [] | _ => True) ?_ b x4 x5 x6 x7 s0 _ h rfl
  intro f' ih b x4 x5 x6 x7 s0 r h hr
  subst hr
  match b, h with
  | 0, h =>
      refine r_iload hκ 4 rfl dX12_behindRow_13 ?_
      refine r_aload_n hκ 0 rfl rfl dX12_behindRow_15 ?_
      obtain ⟨h4, h⟩ := bck_i h
      refine r_get hκ (t := 10) (k := 10) (r := 254) h4 rfl in_X12 (by decide) rfl q3061 (Or.inl rfl) dX12_behindRow_16 ?_
      refine r_iload_n hκ 1 rfl rfl dX12_behindRow_19 ?_
      obtain ⟨⟨h5, h6⟩, h⟩ := bck_i h
      refine r_iald hκ h5 h6 dX12_behindRow_20 ?_
      refine r_icmp_lt hκ (tgt := 35) (by decide) dX12_behindRow_21 (fun h7 => ?_) (fun h7 => ?_)
      · replace h := (bte_i h).1 h7
        exact r_sub [0, 1, 2, 3, 4, 5] rfl (ih 1 _ _ _ _ _ _ h rfl)
      · replace h := (bte_i h).2 h7
        refine r_iload hκ 5 rfl dX12_behindRow_24 ?_
        refine r_aload_n hκ 0 rfl rfl dX12_behindRow_26 ?_
        obtain ⟨h8, h⟩ := bck_i h
        refine r_get hκ (t := 10) (k := 10) (r := 254) h8 rfl in_X12 (by decide) rfl q3061 (Or.inl rfl) dX12_behindRow_27 ?_
        refine r_iload_n hκ 2 rfl rfl dX12_behindRow_30 ?_
        obtain ⟨⟨h9, h10⟩, h⟩ := bck_i h
        refine r_iald hκ h9 h10 dX12_behindRow_31 ?_
        refine r_icmp_ge hκ (tgt := 151) (by decide) dX12_behindRow_32 (fun h11 => ?_) (fun h11 => ?_)
        · replace h := (bte_i h).1 h11
          refine r_aload_n hκ 0 rfl rfl dX12_behindRow_151 ?_
          refine r_iload_n hκ 3 rfl rfl dX12_behindRow_152 ?_
          obtain ⟨h12, h⟩ := bck_i h
          obtain ⟨s2, v1, h13, h⟩ := bcl_i h
          refine r_callV hκ (n' := 1) (index := 122) (w_X12_plain Γ0 l0 h13) (lw_V q3199 q3201 qs78 q146 q3202) (by decide +kernel) (t := 10) h12 rfl rfl (by decide) rfl (Nat.le_of_ble_eq_true rfl) dX12_behindRow_153 ?_
          exact r_vretH hκ hf h dX12_behindRow_156
        · replace h := (bte_i h).2 h11
          exact r_sub [0, 1, 2, 3, 4, 5] rfl (ih 1 _ _ _ _ _ _ h rfl)
  | 1, h =>
      refine r_iload hκ 4 rfl dX12_behindRow_35 ?_
      refine r_aload_n hκ 0 rfl rfl dX12_behindRow_37 ?_
      obtain ⟨h14, h⟩ := bck_i h
      refine r_get hκ (t := 10) (k := 10) (r := 254) h14 rfl in_X12 (by decide) rfl q3061 (Or.inl rfl) dX12_behindRow_38 ?_
      refine r_iload_n hκ 1 rfl rfl dX12_behindRow_41 ?_
      obtain ⟨⟨h15, h16⟩, h⟩ := bck_i h
      refine r_iald hκ h15 h16 dX12_behindRow_42 ?_
      refine r_icmp_ge hκ (tgt := 58) (by decide) dX12_behindRow_43 (fun h17 => ?_) (fun h17 => ?_)
      · replace h := (bte_i h).1 h17
        refine r_iconst hκ dX12_behindRow_58 ?_
        exact r_sub [0, 1, 2, 3, 4, 5] rfl (ih 2 _ _ _ _ _ _ h rfl)
      · replace h := (bte_i h).2 h17
        refine r_aload_n hκ 0 rfl rfl dX12_behindRow_46 ?_
        obtain ⟨h18, h⟩ := bck_i h
        refine r_get hκ (t := 10) (k := 9) (r := 250) h18 rfl in_X12 (by decide) rfl q3060 (Or.inl rfl) dX12_behindRow_47 ?_
        refine r_iload_n hκ 1 rfl rfl dX12_behindRow_50 ?_
        obtain ⟨⟨h19, h20⟩, h⟩ := bck_i h
        refine r_aald hκ (t := 10) (by decide) h19 h20 dX12_behindRow_51 ?_
        refine r_iload hκ 4 rfl dX12_behindRow_52 ?_
        obtain ⟨⟨h21, h22⟩, h⟩ := bck_i h
        refine r_iald hκ h21 h22 dX12_behindRow_54 ?_
        refine r_goto hκ (tgt := 59) (by decide) dX12_behindRow_55 ?_
        exact r_sub [0, 1, 2, 3, 4, 5] rfl (ih 2 _ _ _ _ _ _ h rfl)
  | 2, h =>
      refine r_istore hκ (L2 := [(6, (0, x6)), (0, (2, x0)), (1, (0, x1)), (2, (0, x2)), (3, (0, x3)), (4, (0, x4)), (5, (0, x5))]) (by decide) rfl dX12_behindRow_59 ?_
      refine r_iload hκ 6 rfl dX12_behindRow_61 ?_
      refine r_aload_n hκ 1 rfl rfl dX12_behindRow_63 ?_
      obtain ⟨h23, h⟩ := bck_i h
      refine r_get hκ (t := 10) (k := 10) (r := 254) h23 rfl in_X12 (by decide) rfl q3061 (Or.inl rfl) dX12_behindRow_64 ?_
      refine r_iload_n hκ 3 rfl rfl dX12_behindRow_67 ?_
      obtain ⟨⟨h24, h25⟩, h⟩ := bck_i h
      refine r_iald hκ h24 h25 dX12_behindRow_68 ?_
      refine r_icmp_ge hκ (tgt := 84) (by decide) dX12_behindRow_69 (fun h26 => ?_) (fun h26 => ?_)
      · replace h := (bte_i h).1 h26
        refine r_iconst hκ dX12_behindRow_84 ?_
        exact r_sub [1, 2, 3, 4, 5, 6, 0] rfl (ih 3 _ _ _ _ _ _ h rfl)
      · replace h := (bte_i h).2 h26
        refine r_aload_n hκ 1 rfl rfl dX12_behindRow_72 ?_
        obtain ⟨h27, h⟩ := bck_i h
        refine r_get hκ (t := 10) (k := 9) (r := 250) h27 rfl in_X12 (by decide) rfl q3060 (Or.inl rfl) dX12_behindRow_73 ?_
        refine r_iload_n hκ 3 rfl rfl dX12_behindRow_76 ?_
        obtain ⟨⟨h28, h29⟩, h⟩ := bck_i h
        refine r_aald hκ (t := 10) (by decide) h28 h29 dX12_behindRow_77 ?_
        refine r_iload hκ 6 rfl dX12_behindRow_78 ?_
        obtain ⟨⟨h30, h31⟩, h⟩ := bck_i h
        refine r_iald hκ h30 h31 dX12_behindRow_80 ?_
        refine r_goto hκ (tgt := 85) (by decide) dX12_behindRow_81 ?_
        exact r_sub [1, 2, 3, 4, 5, 6, 0] rfl (ih 3 _ _ _ _ _ _ h rfl)
  | 3, h =>
      refine r_istore hκ (L2 := [(7, (0, x7)), (0, (2, x0)), (1, (0, x1)), (2, (0, x2)), (3, (0, x3)), (4, (0, x4)), (5, (0, x5)), (6, (0, x6))]) (by decide) rfl dX12_behindRow_85 ?_
      refine r_iload hκ 7 rfl dX12_behindRow_87 ?_
      obtain ⟨s3, v2, h32, h⟩ := bcl_i h
      refine r_callS hκ (n' := 1) (index := 104) (w_X12_kind Γ0 l0 h32) (lw_S q3203 q3204 q146 q3205) (by decide +kernel) rfl (by decide) rfl (Nat.le_of_ble_eq_true rfl) dX12_behindRow_89 ?_
      refine r_ldci hκ (x := 3145728) q3197 (by decide) dX12_behindRow_92 ?_
      refine r_icmp_ne hκ (tgt := 110) (by decide) dX12_behindRow_94 (fun h33 => ?_) (fun h33 => ?_)
      · replace h := (bte_i h).2 h33
        refine r_iload hκ 0 rfl dX12_behindRow_110 ?_
        obtain ⟨s4, v3, h34, h⟩ := bcl_i h
        refine r_callS hκ (n' := 1) (index := 104) (w_X12_kind Γ0 l0 h34) (lw_S q3203 q3204 q146 q3205) (by decide +kernel) rfl (by decide) rfl (Nat.le_of_ble_eq_true rfl) dX12_behindRow_112 ?_
        refine r_ldci hκ (x := 1048576) q3185 (by decide) dX12_behindRow_115 ?_
        refine r_icmp_ne hκ (tgt := 133) (by decide) dX12_behindRow_117 (fun h35 => ?_) (fun h35 => ?_)
        · replace h := (bte_i h).2 h35
          refine r_iinc hκ (L2 := [(4, (0, (x4 + 1))), (7, (0, x7)), (0, (2, x0)), (1, (0, x1)), (2, (0, x2)), (3, (0, x3)), (5, (0, x5)), (6, (0, x6))]) 5 rfl (by decide) rfl dX12_behindRow_133 ?_
          refine r_iinc hκ (L2 := [(5, (0, (x5 + 1))), (4, (0, (x4 + 1))), (7, (0, x7)), (0, (2, x0)), (1, (0, x1)), (2, (0, x2)), (3, (0, x3)), (6, (0, x6))]) 6 rfl (by decide) rfl dX12_behindRow_136 ?_
          refine r_aload_n hκ 3 rfl rfl dX12_behindRow_139 ?_
          refine r_iload hκ 7 rfl dX12_behindRow_140 ?_
          refine r_iload hκ 2 rfl dX12_behindRow_142 ?_
          refine r_iload_n hκ 6 rfl rfl dX12_behindRow_144 ?_
          obtain ⟨h36, h⟩ := bck_i h
          obtain ⟨s5, v4, h37, h⟩ := bcl_i h
          refine r_callV hκ (n' := 3) (index := 118) (w_X12_together Γ0 l0 h37) (lw_V q3293 q3295 qs92 q146 q3296) (by decide +kernel) (t := 10) h36 rfl rfl (by decide) rfl (Nat.le_of_ble_eq_true rfl) dX12_behindRow_145 ?_
          exact r_sub [3, 4, 5, 6, 1, 0] rfl (ih 4 _ _ _ _ _ _ h rfl)
        · replace h := (bte_i h).1 h35
          refine r_aload_n hκ 1 rfl rfl dX12_behindRow_120 ?_
          refine r_iload_n hκ 4 rfl rfl dX12_behindRow_121 ?_
          refine r_iload hκ 0 rfl dX12_behindRow_122 ?_
          obtain ⟨h38, h⟩ := bck_i h
          obtain ⟨s6, v5, h39, h⟩ := bcl_i h
          refine r_callV hκ (n' := 2) (index := 115) (w_X12_adds Γ0 l0 h39) (lw_V q3186 q3188 qs76 q146 q3189) (by decide +kernel) (t := 10) h38 rfl rfl (by decide) rfl (Nat.le_of_ble_eq_true rfl) dX12_behindRow_124 ?_
          refine r_iinc hκ (L2 := [(5, (0, (x5 + 1))), (7, (0, x7)), (0, (2, x0)), (1, (0, x1)), (2, (0, x2)), (3, (0, x3)), (4, (0, x4)), (6, (0, x6))]) 6 rfl (by decide) rfl dX12_behindRow_127 ?_
          refine r_goto hκ (tgt := 148) (by decide) dX12_behindRow_130 ?_
          exact r_sub [2, 3, 4, 5, 6, 0] rfl (ih 4 _ _ _ _ _ _ h rfl)
      · replace h := (bte_i h).1 h33
        refine r_aload_n hκ 1 rfl rfl dX12_behindRow_97 ?_
        refine r_iload_n hκ 4 rfl rfl dX12_behindRow_98 ?_
        refine r_iload hκ 7 rfl dX12_behindRow_99 ?_
        obtain ⟨h40, h⟩ := bck_i h
        obtain ⟨s7, v6, h41, h⟩ := bcl_i h
        refine r_callV hκ (n' := 2) (index := 115) (w_X12_adds Γ0 l0 h41) (lw_V q3186 q3188 qs76 q146 q3189) (by decide +kernel) (t := 10) h40 rfl rfl (by decide) rfl (Nat.le_of_ble_eq_true rfl) dX12_behindRow_101 ?_
        refine r_iinc hκ (L2 := [(4, (0, (x4 + 1))), (7, (0, x7)), (0, (2, x0)), (1, (0, x1)), (2, (0, x2)), (3, (0, x3)), (5, (0, x5)), (6, (0, x6))]) 5 rfl (by decide) rfl dX12_behindRow_104 ?_
        refine r_goto hκ (tgt := 148) (by decide) dX12_behindRow_107 ?_
        exact r_sub [2, 3, 4, 5, 0, 6] rfl (ih 4 _ _ _ _ _ _ h rfl)
  | 4, h =>
      refine r_goto hκ (tgt := 13) (by decide) dX12_behindRow_148 ?_
      exact r_sub [0, 1, 2, 3, 4, 5] rfl (ih 0 _ _ _ _ _ _ h rfl)
  | b + 5, h => trivial
set_option maxHeartbeats 4000000 in
set_option maxRecDepth 100000 in
theorem w_X12_behindRow (Γ0 : bG) (l0 : Launch) {s0 st' : bS} {v a0 a1 a2 a3 : Int} (h : F_X12_behindRow s0 a0 a1 a2 a3 = some (st', v)) : bCt Γ0 l0 yX12_behindRow cX12_behindRow 8 none 2 47 [(2, a0), (0, a1), (0, a2), (0, a3)] s0 st' none := by
  refine b_ent (own := RX12) (by decide +kernel) rfl (Nat.le_of_ble_eq_true rfl) (L := [(0, (2, a0)), (1, (0, a1)), (2, (0, a2)), (3, (0, a3))]) rfl ?_
  intro κ hκ hi hf
  unfold F_X12_behindRow at h
  refine r_iconst hκ dX12_behindRow_0 ?_
  refine r_istore hκ (L2 := [(4, (0, 0)), (0, (2, a0)), (1, (0, a1)), (2, (0, a2)), (3, (0, a3))]) (by decide) rfl dX12_behindRow_1 ?_
  refine r_iconst hκ dX12_behindRow_3 ?_
  refine r_istore hκ (L2 := [(5, (0, 0)), (4, (0, 0)), (0, (2, a0)), (1, (0, a1)), (2, (0, a2)), (3, (0, a3))]) (by decide) rfl dX12_behindRow_4 ?_
  refine r_aload_n hκ 2 rfl rfl dX12_behindRow_6 ?_
  obtain ⟨h1, h⟩ := bck_i h
  refine r_get hκ (t := 10) (k := 10) (r := 254) h1 rfl in_X12 (by decide) rfl q3061 (Or.inl rfl) dX12_behindRow_7 ?_
  refine r_iload_n hκ 5 rfl rfl dX12_behindRow_10 ?_
  refine r_iconst hκ dX12_behindRow_11 ?_
  obtain ⟨⟨h2, h3⟩, h⟩ := bck_i h
  refine r_iast hκ h2 h3 dX12_behindRow_12 (fun s1 es1 => ?_)
  replace h := bst_i h s1 es1
  exact r_sub [2, 3, 4, 5, 1, 0] rfl (w_X12_behindRow_r hκ hi hf 0 _ _ _ _ _ _ _ _ _ h)
