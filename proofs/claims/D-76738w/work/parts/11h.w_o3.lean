/-! walks, printed by dec.py: 11h.w_o3 -/
theorem r_xj1L {κ : bK} {s1 : bS} {v1 x1 : Int} {pc : Nat} {L : List (Nat × bV)} {stk : List bV} (k : x1 = -1 → bJ κ s1 pc L ((0, v1) :: stk)) : ∀ st2 v, bEq s1 v1 x1 st2 v (-1) → bJ κ st2 pc L ((0, v) :: stk) := by
  intro st2 v h
  cases h
  exact k rfl
/-- java/lang/Throwable.<init>(Ljava/lang/String;Ljava/lang/Throwable;ZZ)V -/
def F_J4_init_3_r (b : Nat) (x0 x1 x2 x3 : Int) (s0 : bS) : Option (bS × Int) :=
  match b with
  | 0 =>
    bck ((bg s0 0 x0 0 = 12 ∨ bg s0 0 x0 0 = 14)) <|
    bst (bw s0 358 x0 0 x1) fun s5 =>
    bck ((bg s5 0 x0 0 = 12 ∨ bg s5 0 x0 0 = 14)) <|
    bst (bw s5 346 x0 0 x2) fun s6 =>
    bte (i32 x3 = 0)
    (bck ((bg s6 0 x0 0 = 12 ∨ bg s6 0 x0 0 = 14)) <|
    bst (bw s6 354 x0 0 (-1)) fun s7 =>
    some (s7, 0))
    (some (s6, 0))
  | _ => none
def F_J4_init_3 (s0 : bS) (a0 a1 a2 a3 a4 : Int) : Option (bS × Int) :=
  bck ((0 : Int) ≤ a0) <|
  bck ((bg s0 0 a0 0 = 12 ∨ bg s0 0 a0 0 = 14)) <|
  bst (bw s0 346 a0 0 a0) fun s1 =>
  bck ((bg s1 0 a0 0 = 12 ∨ bg s1 0 a0 0 = 14)) <|
  bst (bw s1 350 a0 0 (bg s1 1 (-(2 + 4)) 0)) fun s2 =>
  bck ((bg s2 0 a0 0 = 12 ∨ bg s2 0 a0 0 = 14)) <|
  bst (bw s2 354 a0 0 (bg s2 1 (-(2 + 5)) 0)) fun s3 =>
  bte (i32 a4 = 0)
  (bck ((bg s3 0 a0 0 = 12 ∨ bg s3 0 a0 0 = 14)) <|
  bst (bw s3 350 a0 0 (-1)) fun s4 =>
  F_J4_init_3_r 0 a0 a1 a2 a3 s4)
  (none)
set_option maxHeartbeats 4000000 in
set_option maxRecDepth 100000 in
set_option synthInstance.maxHeartbeats 4000000 in
theorem w_J4_init_3_r {Γ0 : bG} {l0 : Launch} {κ : bK} {st' : bS} {v : Int} (hκ : bOk κ Γ0 l0 cJ4_init_3 RJ4 5 1 20) (hi : bIn κ yJ4_init_3) (hf : bFin κ none st' none) (b : Nat) (x0 x1 x2 x3 : Int) (s0 : bS) (h : F_J4_init_3_r b x0 x1 x2 x3 s0 = some (st', v)) : match (generalizing := false) b with | 0 => bJ κ s0 41 [(0, (2, x0)), (1, (2, x1)), (2, (2, x2)), (3, (0, x3))] [] | _ => True := by
  unfold F_J4_init_3_r at h
  match b, h with
  | 0, h =>
      refine r_aload_n hκ 0 rfl rfl dJ4_init_3_41 ?_
      refine r_aload_n hκ 1 rfl rfl dJ4_init_3_42 ?_
      obtain ⟨h7, h⟩ := bck_i h
      refine r_seq (A := ∀ st', st' = bw s0 358 x0 0 x1 → bJ κ st' 46 [(0, (2, x0)), (1, (2, x1)), (2, (2, x2)), (3, (0, x3))] []) (fun s5 es5 => ?_) (fun k0 => Or.elim h7 (fun h7 => r_put hκ (t := 11) (k := 3) (r := 358) (ty := (.object "java/lang/String")) tyX13 tyX13_ok nmX13 h7 rfl in_X13 (by decide) rfl q288 (Or.inl rfl) rfl rfl rfl trivial (Or.inl (by decide)) dJ4_init_3_43 k0) (fun h7 => r_put hκ (t := 13) (k := 3) (r := 358) (ty := (.object "java/lang/String")) tyX15 tyX15_ok nmX15 h7 rfl in_X15 (by decide) rfl q288 (Or.inl rfl) rfl rfl rfl trivial (Or.inl (by decide)) dJ4_init_3_43 k0))
      replace h := bst_i h s5 es5
      refine r_aload_n hκ 0 rfl rfl dJ4_init_3_46 ?_
      refine r_aload_n hκ 2 rfl rfl dJ4_init_3_47 ?_
      obtain ⟨h8, h⟩ := bck_i h
      refine r_seq (A := ∀ st', st' = bw s5 346 x0 0 x2 → bJ κ st' 51 [(0, (2, x0)), (1, (2, x1)), (2, (2, x2)), (3, (0, x3))] []) (fun s6 es6 => ?_) (fun k0 => Or.elim h8 (fun h8 => r_put hκ (t := 11) (k := 0) (r := 346) (ty := (.object "java/lang/Throwable")) tyX13 tyX13_ok nmX13 h8 rfl in_X13 (by decide) rfl q289 (Or.inl rfl) rfl rfl rfl trivial (Or.inl (by decide)) dJ4_init_3_48 k0) (fun h8 => r_put hκ (t := 13) (k := 0) (r := 346) (ty := (.object "java/lang/Throwable")) tyX15 tyX15_ok nmX15 h8 rfl in_X15 (by decide) rfl q289 (Or.inl rfl) rfl rfl rfl trivial (Or.inl (by decide)) dJ4_init_3_48 k0))
      replace h := bst_i h s6 es6
      refine r_iload_n hκ 3 rfl rfl dJ4_init_3_51 ?_
      refine r_if_ne hκ (tgt := 60) (by decide) dJ4_init_3_52 (fun h9 => ?_) (fun h9 => ?_)
      · replace h := (bte_i h).2 h9
        exact r_vretH hκ hf h dJ4_init_3_60
      · replace h := (bte_i h).1 h9
        refine r_aload_n hκ 0 rfl rfl dJ4_init_3_55 ?_
        refine r_null hκ dJ4_init_3_56 ?_
        obtain ⟨h10, h⟩ := bck_i h
        refine r_seq (A := ∀ st', st' = bw s6 354 x0 0 (-1) → bJ κ st' 60 [(0, (2, x0)), (1, (2, x1)), (2, (2, x2)), (3, (0, x3))] []) (fun s7 es7 => ?_) (fun k0 => Or.elim h10 (fun h10 => r_put hκ (t := 11) (k := 2) (r := 354) (ty := (.object "java/util/List")) tyX13 tyX13_ok nmX13 h10 rfl in_X13 (by decide) rfl q291 (Or.inl rfl) rfl rfl rfl trivial (Or.inl (by decide)) dJ4_init_3_57 k0) (fun h10 => r_put hκ (t := 13) (k := 2) (r := 354) (ty := (.object "java/util/List")) tyX15 tyX15_ok nmX15 h10 rfl in_X15 (by decide) rfl q291 (Or.inl rfl) rfl rfl rfl trivial (Or.inl (by decide)) dJ4_init_3_57 k0))
        replace h := bst_i h s7 es7
        exact r_vretH hκ hf h dJ4_init_3_60
  | b + 1, h => trivial
set_option maxHeartbeats 4000000 in
set_option maxRecDepth 100000 in
theorem w_J4_init_3 (Γ0 : bG) (l0 : Launch) {s0 st' : bS} {v a0 a1 a2 a3 a4 : Int} (h : F_J4_init_3 s0 a0 a1 a2 a3 a4 = some (st', v)) : bCt Γ0 l0 yJ4_init_3 cJ4_init_3 5 none 1 20 [(2, a0), (2, a1), (2, a2), (0, a3), (0, a4)] s0 st' none := by
  refine b_ent (own := RJ4) (by decide +kernel) rfl (Nat.le_of_ble_eq_true rfl) (L := [(0, (2, a0)), (1, (2, a1)), (2, (2, a2)), (3, (0, a3)), (4, (0, a4))]) rfl ?_
  intro κ hκ hi hf
  unfold F_J4_init_3 at h
  refine r_aload_n hκ 0 rfl rfl dJ4_init_3_0 ?_
  obtain ⟨h1, h⟩ := bck_i h
  refine r_oinit hκ h1 q241 q183 q184 (by decide) (Nat.le_of_ble_eq_true rfl) dJ4_init_3_1 ?_
  refine r_aload_n hκ 0 rfl rfl dJ4_init_3_4 ?_
  refine r_aload_n hκ 0 rfl rfl dJ4_init_3_5 ?_
  obtain ⟨h2, h⟩ := bck_i h
  refine r_seq (A := ∀ st', st' = bw s0 346 a0 0 a0 → bJ κ st' 9 [(0, (2, a0)), (1, (2, a1)), (2, (2, a2)), (3, (0, a3)), (4, (0, a4))] []) (fun s1 es1 => ?_) (fun k0 => Or.elim h2 (fun h2 => r_put hκ (t := 11) (k := 0) (r := 346) (ty := (.object "java/lang/Throwable")) tyX13 tyX13_ok nmX13 h2 rfl in_X13 (by decide) rfl q289 (Or.inl rfl) rfl rfl rfl trivial (Or.inl (by decide)) dJ4_init_3_6 k0) (fun h2 => r_put hκ (t := 13) (k := 0) (r := 346) (ty := (.object "java/lang/Throwable")) tyX15 tyX15_ok nmX15 h2 rfl in_X15 (by decide) rfl q289 (Or.inl rfl) rfl rfl rfl trivial (Or.inl (by decide)) dJ4_init_3_6 k0))
  replace h := bst_i h s1 es1
  refine r_aload_n hκ 0 rfl rfl dJ4_init_3_9 ?_
  refine r_getsR hκ (j := 4) (by decide +kernel) q242 dJ4_init_3_10 ?_
  obtain ⟨h3, h⟩ := bck_i h
  refine r_seq (A := ∀ st', st' = bw s1 350 a0 0 (bg s1 1 (-(2 + 4)) 0) → bJ κ st' 16 [(0, (2, a0)), (1, (2, a1)), (2, (2, a2)), (3, (0, a3)), (4, (0, a4))] []) (fun s2 es2 => ?_) (fun k0 => Or.elim h3 (fun h3 => r_put hκ (t := 11) (k := 1) (r := 350) (ty := (.array (.object "java/lang/StackTraceElement"))) tyX13 tyX13_ok nmX13 h3 rfl in_X13 (by decide) rfl q290 (Or.inl rfl) rfl rfl rfl trivial (Or.inl (by decide)) dJ4_init_3_13 k0) (fun h3 => r_put hκ (t := 13) (k := 1) (r := 350) (ty := (.array (.object "java/lang/StackTraceElement"))) tyX15 tyX15_ok nmX15 h3 rfl in_X15 (by decide) rfl q290 (Or.inl rfl) rfl rfl rfl trivial (Or.inl (by decide)) dJ4_init_3_13 k0))
  replace h := bst_i h s2 es2
  refine r_aload_n hκ 0 rfl rfl dJ4_init_3_16 ?_
  refine r_getsR hκ (j := 5) (by decide +kernel) q244 dJ4_init_3_17 ?_
  obtain ⟨h4, h⟩ := bck_i h
  refine r_seq (A := ∀ st', st' = bw s2 354 a0 0 (bg s2 1 (-(2 + 5)) 0) → bJ κ st' 23 [(0, (2, a0)), (1, (2, a1)), (2, (2, a2)), (3, (0, a3)), (4, (0, a4))] []) (fun s3 es3 => ?_) (fun k0 => Or.elim h4 (fun h4 => r_put hκ (t := 11) (k := 2) (r := 354) (ty := (.object "java/util/List")) tyX13 tyX13_ok nmX13 h4 rfl in_X13 (by decide) rfl q291 (Or.inl rfl) rfl rfl rfl trivial (Or.inl (by decide)) dJ4_init_3_20 k0) (fun h4 => r_put hκ (t := 13) (k := 2) (r := 354) (ty := (.object "java/util/List")) tyX15 tyX15_ok nmX15 h4 rfl in_X15 (by decide) rfl q291 (Or.inl rfl) rfl rfl rfl trivial (Or.inl (by decide)) dJ4_init_3_20 k0))
  replace h := bst_i h s3 es3
  refine r_iload hκ 4 rfl dJ4_init_3_23 ?_
  refine r_if_eq hκ (tgt := 36) (by decide) dJ4_init_3_25 (fun h5 => ?_) (fun h5 => ?_)
  · replace h := (bte_i h).1 h5
    refine r_aload_n hκ 0 rfl rfl dJ4_init_3_36 ?_
    refine r_null hκ dJ4_init_3_37 ?_
    obtain ⟨h6, h⟩ := bck_i h
    refine r_seq (A := ∀ st', st' = bw s3 350 a0 0 (-1) → bJ κ st' 41 [(0, (2, a0)), (1, (2, a1)), (2, (2, a2)), (3, (0, a3)), (4, (0, a4))] []) (fun s4 es4 => ?_) (fun k0 => Or.elim h6 (fun h6 => r_put hκ (t := 11) (k := 1) (r := 350) (ty := (.array (.object "java/lang/StackTraceElement"))) tyX13 tyX13_ok nmX13 h6 rfl in_X13 (by decide) rfl q290 (Or.inl rfl) rfl rfl rfl trivial (Or.inl (by decide)) dJ4_init_3_38 k0) (fun h6 => r_put hκ (t := 13) (k := 1) (r := 350) (ty := (.array (.object "java/lang/StackTraceElement"))) tyX15 tyX15_ok nmX15 h6 rfl in_X15 (by decide) rfl q290 (Or.inl rfl) rfl rfl rfl trivial (Or.inl (by decide)) dJ4_init_3_38 k0))
    replace h := bst_i h s4 es4
    exact r_sub [0, 1, 2, 3] rfl (w_J4_init_3_r hκ hi hf 0 _ _ _ _ _ h)
  · replace h := (bte_i h).2 h5
    refine r_aload_n hκ 0 rfl rfl dJ4_init_3_28 ?_
    cases h
/-- java/lang/Exception.<init>(Ljava/lang/String;Ljava/lang/Throwable;ZZ)V -/
def F_J5_init_3 (s0 : bS) (a0 a1 a2 a3 a4 : Int) : Option (bS × Int) :=
  bcl (bte (bg s0 0 a0 0 = 12) (F_J4_init_3 s0 a0 a1 a2 a3 a4) (bte (bg s0 0 a0 0 = 14) (F_J4_init_3 s0 a0 a1 a2 a3 a4) (none))) fun s1 v1 =>
  some (s1, 0)
set_option maxHeartbeats 4000000 in
set_option maxRecDepth 100000 in
theorem w_J5_init_3 (Γ0 : bG) (l0 : Launch) {s0 st' : bS} {v a0 a1 a2 a3 a4 : Int} (h : F_J5_init_3 s0 a0 a1 a2 a3 a4 = some (st', v)) : bCt Γ0 l0 yJ5_init_3 cJ5_init_3 5 none 2 44 [(2, a0), (2, a1), (2, a2), (0, a3), (0, a4)] s0 st' none := by
  refine b_ent (own := RJ5) (by decide +kernel) rfl (Nat.le_of_ble_eq_true rfl) (L := [(0, (2, a0)), (1, (2, a1)), (2, (2, a2)), (3, (0, a3)), (4, (0, a4))]) rfl ?_
  intro κ hκ hi hf
  unfold F_J5_init_3 at h
  refine r_aload_n hκ 0 rfl rfl dJ5_init_3_0 ?_
  refine r_aload_n hκ 1 rfl rfl dJ5_init_3_1 ?_
  refine r_aload_n hκ 2 rfl rfl dJ5_init_3_2 ?_
  refine r_iload_n hκ 3 rfl rfl dJ5_init_3_3 ?_
  refine r_iload hκ 4 rfl dJ5_init_3_4 ?_
  obtain ⟨s1, v1, h1, h⟩ := bcl_i h
  refine r_seq (A := bJ κ s1 9 [(0, (2, a0)), (1, (2, a1)), (2, (2, a2)), (3, (0, a3)), (4, (0, a4))] []) ?_ (fun k0 => ?_)
  case refine_2 =>
    by_cases h2 : bg s0 0 a0 0 = 12
    · have hq0 := (bte_i h1).1 h2
      exact r_callI hκ (n' := 4) (index := 16) (w_J4_init_3 Γ0 l0 hq0) (lw_meth q685) q128 q683 q684 rfl (by decide +kernel) (t := 11) h2 rfl rfl (by decide) rfl (Nat.le_of_ble_eq_true rfl) dJ5_init_3_6 k0
    replace h1 := (bte_i h1).2 h2
    by_cases h3 : bg s0 0 a0 0 = 14
    · have hq0 := (bte_i h1).1 h3
      exact r_callI hκ (n' := 4) (index := 16) (w_J4_init_3 Γ0 l0 hq0) (lw_meth q685) q128 q683 q684 rfl (by decide +kernel) (t := 13) h3 rfl rfl (by decide) rfl (Nat.le_of_ble_eq_true rfl) dJ5_init_3_6 k0
    replace h1 := (bte_i h1).2 h3
    cases h1
  exact r_vretH hκ hf h dJ5_init_3_9
/-- java/lang/RuntimeException.<init>(Ljava/lang/String;Ljava/lang/Throwable;ZZ)V -/
def F_J6_init_3 (s0 : bS) (a0 a1 a2 a3 a4 : Int) : Option (bS × Int) :=
  bcl (bte (bg s0 0 a0 0 = 12) (F_J5_init_3 s0 a0 a1 a2 a3 a4) (bte (bg s0 0 a0 0 = 14) (F_J5_init_3 s0 a0 a1 a2 a3 a4) (none))) fun s1 v1 =>
  some (s1, 0)
set_option maxHeartbeats 4000000 in
set_option maxRecDepth 100000 in
theorem w_J6_init_3 (Γ0 : bG) (l0 : Launch) {s0 st' : bS} {v a0 a1 a2 a3 a4 : Int} (h : F_J6_init_3 s0 a0 a1 a2 a3 a4 = some (st', v)) : bCt Γ0 l0 yJ6_init_3 cJ6_init_3 5 none 3 68 [(2, a0), (2, a1), (2, a2), (0, a3), (0, a4)] s0 st' none := by
  refine b_ent (own := RJ6) (by decide +kernel) rfl (Nat.le_of_ble_eq_true rfl) (L := [(0, (2, a0)), (1, (2, a1)), (2, (2, a2)), (3, (0, a3)), (4, (0, a4))]) rfl ?_
  intro κ hκ hi hf
  unfold F_J6_init_3 at h
  refine r_aload_n hκ 0 rfl rfl dJ6_init_3_0 ?_
  refine r_aload_n hκ 1 rfl rfl dJ6_init_3_1 ?_
  refine r_aload_n hκ 2 rfl rfl dJ6_init_3_2 ?_
  refine r_iload_n hκ 3 rfl rfl dJ6_init_3_3 ?_
  refine r_iload hκ 4 rfl dJ6_init_3_4 ?_
  obtain ⟨s1, v1, h1, h⟩ := bcl_i h
  refine r_seq (A := bJ κ s1 9 [(0, (2, a0)), (1, (2, a1)), (2, (2, a2)), (3, (0, a3)), (4, (0, a4))] []) ?_ (fun k0 => ?_)
  case refine_2 =>
    by_cases h2 : bg s0 0 a0 0 = 12
    · have hq0 := (bte_i h1).1 h2
      exact r_callI hκ (n' := 4) (index := 16) (w_J5_init_3 Γ0 l0 hq0) (lw_meth q682) q129 q680 q681 rfl (by decide +kernel) (t := 11) h2 rfl rfl (by decide) rfl (Nat.le_of_ble_eq_true rfl) dJ6_init_3_6 k0
    replace h1 := (bte_i h1).2 h2
    by_cases h3 : bg s0 0 a0 0 = 14
    · have hq0 := (bte_i h1).1 h3
      exact r_callI hκ (n' := 4) (index := 16) (w_J5_init_3 Γ0 l0 hq0) (lw_meth q682) q129 q680 q681 rfl (by decide +kernel) (t := 13) h3 rfl rfl (by decide) rfl (Nat.le_of_ble_eq_true rfl) dJ6_init_3_6 k0
    replace h1 := (bte_i h1).2 h3
    cases h1
  exact r_vretH hκ hf h dJ6_init_3_9
/-- EditsMeet$Refused.<init>(I)V -/
def F_X13_init (s0 : bS) (a0 a1 : Int) : Option (bS × Int) :=
  bck (bg s0 0 a0 0 = 12) <|
  bcl (F_J6_init_3 s0 a0 (-1) (-1) 0 0) fun s1 v1 =>
  bck ((bg s1 0 a0 0 = 12)) <|
  bst (bw s1 368 a0 0 a1) fun s2 =>
  some (s2, 0)
set_option maxHeartbeats 4000000 in
set_option maxRecDepth 100000 in
theorem w_X13_init (Γ0 : bG) (l0 : Launch) {s0 st' : bS} {v a0 a1 : Int} (h : F_X13_init s0 a0 a1 = some (st', v)) : bCt Γ0 l0 yX13_init cX13_init 2 none 4 92 [(2, a0), (0, a1)] s0 st' none := by
  refine b_ent (own := RX13) (by decide +kernel) rfl (Nat.le_of_ble_eq_true rfl) (L := [(0, (2, a0)), (1, (0, a1))]) rfl ?_
  intro κ hκ hi hf
  unfold F_X13_init at h
  refine r_aload_n hκ 0 rfl rfl dX13_init_0 ?_
  refine r_null hκ dX13_init_1 ?_
  refine r_null hκ dX13_init_2 ?_
  refine r_iconst hκ dX13_init_3 ?_
  refine r_iconst hκ dX13_init_4 ?_
  obtain ⟨h1, h⟩ := bck_i h
  obtain ⟨s1, v1, h2, h⟩ := bcl_i h
  refine r_callI hκ (n' := 4) (index := 1) (w_J6_init_3 Γ0 l0 h2) (lw_meth q679) q130 q677 q678 rfl (by decide +kernel) (t := 11) h1 rfl rfl (by decide) rfl (Nat.le_of_ble_eq_true rfl) dX13_init_5 ?_
  refine r_aload_n hκ 0 rfl rfl dX13_init_8 ?_
  refine r_iload_n hκ 1 rfl rfl dX13_init_9 ?_
  obtain ⟨h3, h⟩ := bck_i h
  refine r_putF hκ (hi.init rfl) (t := 11) (k := 6) (r := 368) (ty := .int) tyX13 tyX13_ok nmX13 h3 rfl in_X13 (by decide) rfl q686 rfl rfl rfl rfl rfl trivial (Or.inl (by decide)) dX13_init_10 (fun s2 es2 => ?_)
  replace h := bst_i h s2 es2
  exact r_vretH hκ hf h dX13_init_13
/-- EditsMeet$Fault.<init>(I)V -/
def F_X15_init (s0 : bS) (a0 a1 : Int) : Option (bS × Int) :=
  bcl (bte (bg s0 0 a0 0 = 12) (F_J5_init_3 s0 a0 (-1) (-1) 0 0) (bte (bg s0 0 a0 0 = 14) (F_J5_init_3 s0 a0 (-1) (-1) 0 0) (none))) fun s1 v1 =>
  bck ((bg s1 0 a0 0 = 14)) <|
  bst (bw s1 380 a0 0 a1) fun s2 =>
  some (s2, 0)
set_option maxHeartbeats 4000000 in
set_option maxRecDepth 100000 in
theorem w_X15_init (Γ0 : bG) (l0 : Launch) {s0 st' : bS} {v a0 a1 : Int} (h : F_X15_init s0 a0 a1 = some (st', v)) : bCt Γ0 l0 yX15_init cX15_init 2 none 3 68 [(2, a0), (0, a1)] s0 st' none := by
  refine b_ent (own := RX15) (by decide +kernel) rfl (Nat.le_of_ble_eq_true rfl) (L := [(0, (2, a0)), (1, (0, a1))]) rfl ?_
  intro κ hκ hi hf
  unfold F_X15_init at h
  refine r_aload_n hκ 0 rfl rfl dX15_init_0 ?_
  refine r_null hκ dX15_init_1 ?_
  refine r_null hκ dX15_init_2 ?_
  refine r_iconst hκ dX15_init_3 ?_
  refine r_iconst hκ dX15_init_4 ?_
  obtain ⟨s1, v1, h1, h⟩ := bcl_i h
  refine r_seq (A := bJ κ s1 8 [(0, (2, a0)), (1, (0, a1))] []) ?_ (fun k0 => ?_)
  case refine_2 =>
    by_cases h2 : bg s0 0 a0 0 = 12
    · have hq0 := (bte_i h1).1 h2
      exact r_callI hκ (n' := 4) (index := 1) (w_J5_init_3 Γ0 l0 hq0) (lw_meth q682) q129 q1267 q681 rfl (by decide +kernel) (t := 11) h2 rfl rfl (by decide) rfl (Nat.le_of_ble_eq_true rfl) dX15_init_5 k0
    replace h1 := (bte_i h1).2 h2
    by_cases h3 : bg s0 0 a0 0 = 14
    · have hq0 := (bte_i h1).1 h3
      exact r_callI hκ (n' := 4) (index := 1) (w_J5_init_3 Γ0 l0 hq0) (lw_meth q682) q129 q1267 q681 rfl (by decide +kernel) (t := 13) h3 rfl rfl (by decide) rfl (Nat.le_of_ble_eq_true rfl) dX15_init_5 k0
    replace h1 := (bte_i h1).2 h3
    cases h1
  refine r_aload_n hκ 0 rfl rfl dX15_init_8 ?_
  refine r_iload_n hκ 1 rfl rfl dX15_init_9 ?_
  obtain ⟨h4, h⟩ := bck_i h
  refine r_putF hκ (hi.init rfl) (t := 13) (k := 6) (r := 380) (ty := .int) tyX15 tyX15_ok nmX15 h4 rfl in_X15 (by decide) rfl q1268 rfl rfl rfl rfl rfl trivial (Or.inl (by decide)) dX15_init_10 (fun s2 es2 => ?_)
  replace h := bst_i h s2 es2
  exact r_vretH hκ hf h dX15_init_13
/-- EditsMeet$Sheet.<init>()V -/
def F_X11_init (s0 : bS) (a0 : Int) : Option (bS × Int) :=
  bck ((0 : Int) ≤ a0) <|
  some (s0, 0)
set_option maxHeartbeats 4000000 in
set_option maxRecDepth 100000 in
theorem w_X11_init (Γ0 : bG) (l0 : Launch) {s0 st' : bS} {v a0 : Int} (h : F_X11_init s0 a0 = some (st', v)) : bCt Γ0 l0 yX11_init cX11_init 1 none 1 20 [(2, a0)] s0 st' none := by
  refine b_ent (own := RX11) (by decide +kernel) rfl (Nat.le_of_ble_eq_true rfl) (L := [(0, (2, a0))]) rfl ?_
  intro κ hκ hi hf
  unfold F_X11_init at h
  refine r_aload_n hκ 0 rfl rfl dX11_init_0 ?_
  obtain ⟨h1, h⟩ := bck_i h
  refine r_oinit hκ h1 q568 q183 q184 (by decide) (Nat.le_of_ble_eq_true rfl) dX11_init_1 ?_
  exact r_vretH hκ hf h dX11_init_4
/-- EditsMeet.<init>()V -/
def F_X0_init_r (b : Nat) (x0 x1 : Int) (s0 : bS) : Option (bS × Int) :=
  match b with
  | 0 =>
    bte (i32 8 ≤ i32 x1)
    (some (s0, 0))
    (bck (bg s0 0 x0 0 = 1) <|
    bck (bc s0 + 1 ≤ bCM ∧ bk s0 + 1 ≤ bKM) <|
    bst (bnw s0 10 0 1) fun s15 =>
    bck (bg s15 0 (bnx s0 : Int) 0 = 10) <|
    bcl (F_X11_init s15 (bnx s0 : Int)) fun s16 v3 =>
    bck ((bg s16 0 (bg s0 50 x0 0) 0 = 1009 ∧ (0 : Int) ≤ x1 ∧ x1 < bg s16 4 (bg s0 50 x0 0) 0) ∧ ((bnx s0 : Int) < 0 ∨ bg s16 0 (bnx s0 : Int) 0 = 10)) <|
    bst (bw s16 10 (bg s0 50 x0 0) x1 (bnx s0 : Int)) fun s17 =>
    F_X0_init_r 0 x0 (x1 + 1) s17)
  | _ => none
partial_fixpoint
def F_X0_init (s0 : bS) (a0 : Int) : Option (bS × Int) :=
  bck ((0 : Int) ≤ a0) <|
  bck (bc s0 + 1 ≤ bCM ∧ bk s0 + 5 ≤ bKM) <|
  bst (bnw s0 2 0 5) fun s1 =>
  bck (bg s1 0 (bnx s0 : Int) 0 = 2) <|
  bcl (F_X1_init s1 (bnx s0 : Int)) fun s2 v1 =>
  bck ((bg s2 0 a0 0 = 1)) <|
  bst (bw s2 34 a0 0 (bnx s0 : Int)) fun s3 =>
  bck (bc s3 + 1 ≤ bCM ∧ bk s3 + 5 ≤ bKM) <|
  bst (bnw s3 2 0 5) fun s4 =>
  bck (bg s4 0 (bnx s3 : Int) 0 = 2) <|
  bcl (F_X1_init s4 (bnx s3 : Int)) fun s5 v2 =>
  bck ((bg s5 0 a0 0 = 1)) <|
  bst (bw s5 38 a0 0 (bnx s3 : Int)) fun s6 =>
  bck (((0 : Int) ≤ 12 ∧ (12 : Int) ≤ 67108864) ∧ bc s6 + 1 ≤ bCM ∧ bk s6 + (12 : Int).toNat ≤ bKM) <|
  bst (bnw s6 1008 12 (12 : Int).toNat) fun s7 =>
  bck ((bg s7 0 a0 0 = 1)) <|
  bst (bw s7 46 a0 0 (bnx s6 : Int)) fun s8 =>
  bck (((0 : Int) ≤ 8 ∧ (8 : Int) ≤ 67108864) ∧ bc s8 + 1 ≤ bCM ∧ bk s8 + (8 : Int).toNat ≤ bKM) <|
  bst (bnw s8 1009 8 (8 : Int).toNat) fun s9 =>
  bck ((bg s9 0 a0 0 = 1)) <|
  bst (bw s9 50 a0 0 (bnx s8 : Int)) fun s10 =>
  bck (((0 : Int) ≤ 250 ∧ (250 : Int) ≤ 67108864) ∧ bc s10 + 1 ≤ bCM ∧ bk s10 + (250 : Int).toNat ≤ bKM) <|
  bst (bnw s10 1003 250 (250 : Int).toNat) fun s11 =>
  bck ((bg s11 0 a0 0 = 1)) <|
  bst (bw s11 54 a0 0 (bnx s10 : Int)) fun s12 =>
  bck (((0 : Int) ≤ 7 ∧ (7 : Int) ≤ 67108864) ∧ bc s12 + 1 ≤ bCM ∧ bk s12 + (7 : Int).toNat ≤ bKM) <|
  bst (bnw s12 1003 7 (7 : Int).toNat) fun s13 =>
  bck ((bg s13 0 a0 0 = 1)) <|
  bst (bw s13 62 a0 0 (bnx s12 : Int)) fun s14 =>
  F_X0_init_r 0 a0 0 s14
set_option maxHeartbeats 4000000 in
set_option maxRecDepth 100000 in
set_option synthInstance.maxHeartbeats 4000000 in
theorem w_X0_init_r {Γ0 : bG} {l0 : Launch} {κ : bK} {st' : bS} {v : Int} (hκ : bOk κ Γ0 l0 cX0_init RX0 2 8 162) (hi : bIn κ yX0_init) (hf : bFin κ none st' none) (b : Nat) (x0 x1 : Int) (s0 : bS) (h : F_X0_init_r b x0 x1 s0 = some (st', v)) : match (generalizing := false) b with | 0 => bJ κ s0 63 [(0, (2, x0)), (1, (0, x1))] [] | _ => True := by
  refine F_X0_init_r.partial_correctness x0 (fun b x1 s0 r => r = (st', v) → match (generalizing := false) b with | 0 => bJ κ s0 63 [(0, (2, x0)), (1, (0, x1))] [] | _ => True) ?_ b x1 s0 _ h rfl
  intro f' ih b x1 s0 r h hr
  subst hr
  match b, h with
  | 0, h =>
      refine r_iload_n hκ 1 rfl rfl dX0_init_63 ?_
      refine r_bipush hκ (by decide) dX0_init_64 ?_
      refine r_icmp_ge hκ (tgt := 88) (by decide) dX0_init_66 (fun h22 => ?_) (fun h22 => ?_)
      · replace h := (bte_i h).1 h22
        exact r_vretH hκ hf h dX0_init_88
      · replace h := (bte_i h).2 h22
        refine r_aload_n hκ 0 rfl rfl dX0_init_69 ?_
        obtain ⟨h23, h⟩ := bck_i h
        refine r_get hκ (t := 0) (k := 4) (r := 50) h23 rfl in_X0 (by decide) rfl q577 (Or.inl rfl) dX0_init_70 ?_
        refine r_iload_n hκ 1 rfl rfl dX0_init_73 ?_
        obtain ⟨h24, h⟩ := bck_i h
        refine r_new hκ (t := 9) tyX11 tyX11_ok dfX11 rfl in_X11 q562 q564 q145 h24 dX0_init_74 (fun s15 es15 => ?_)
        replace h := bst_i h s15 es15
        refine r_dup hκ (bd_cat2k _) dX0_init_77 ?_
        obtain ⟨h25, h⟩ := bck_i h
        obtain ⟨s16, v3, h26, h⟩ := bcl_i h
        refine r_callIN hκ (n' := 0) (host := "EditsMeet") (index := 44) (w_X11_init Γ0 l0 h26) (lw_meth q567) (by decide +kernel) q145 (by decide +kernel) q566 rfl (t := 9) h25 rfl rfl (by decide) rfl (Nat.le_of_ble_eq_true rfl) dX0_init_78 ?_
        obtain ⟨⟨⟨h27, h28⟩, h29⟩, h⟩ := bck_i h
        refine r_aast hκ (t := 9) rfl (by decide) (Or.inl (by decide)) h27 h28 (Or.elim h29 (fun h29 => Or.inl h29) (fun h29 => Or.inr ⟨9, _, h29, rfl, Or.inl rfl⟩)) dX0_init_81 (fun s17 es17 => ?_)
        replace h := bst_i h s17 es17
        refine r_iinc hκ (L2 := [(1, (0, (x1 + 1))), (0, (2, x0))]) 1 rfl (by decide) rfl dX0_init_82 ?_
        refine r_goto hκ (tgt := 63) (by decide) dX0_init_85 ?_
        exact r_sub [1, 0] rfl (ih 0 _ _ _ h rfl)
  | b + 1, h => trivial
set_option maxHeartbeats 4000000 in
set_option maxRecDepth 100000 in
theorem w_X0_init (Γ0 : bG) (l0 : Launch) {s0 st' : bS} {v a0 : Int} (h : F_X0_init s0 a0 = some (st', v)) : bCt Γ0 l0 yX0_init cX0_init 2 none 8 162 [(2, a0)] s0 st' none := by
  refine b_ent (own := RX0) (by decide +kernel) rfl (Nat.le_of_ble_eq_true rfl) (L := [(0, (2, a0))]) rfl ?_
  intro κ hκ hi hf
  unfold F_X0_init at h
  refine r_aload_n hκ 0 rfl rfl dX0_init_0 ?_
  obtain ⟨h1, h⟩ := bck_i h
  refine r_oinit hκ h1 q182 q183 q184 (by decide) (Nat.le_of_ble_eq_true rfl) dX0_init_1 ?_
  refine r_aload_n hκ 0 rfl rfl dX0_init_4 ?_
  obtain ⟨h2, h⟩ := bck_i h
  refine r_new hκ (t := 1) tyX1 tyX1_ok dfX1 rfl in_X1 q185 q186 q122 h2 dX0_init_5 (fun s1 es1 => ?_)
  replace h := bst_i h s1 es1
  refine r_dup hκ (bd_cat2k _) dX0_init_8 ?_
  obtain ⟨h3, h⟩ := bck_i h
  obtain ⟨s2, v1, h4, h⟩ := bcl_i h
  refine r_callI hκ (n' := 0) (index := 15) (w_X1_init Γ0 l0 h4) (lw_meth q189) q122 q187 q188 rfl (by decide +kernel) (t := 1) h3 rfl rfl (by decide) rfl (Nat.le_of_ble_eq_true rfl) dX0_init_9 ?_
  obtain ⟨h5, h⟩ := bck_i h
  refine r_putF hκ (hi.init rfl) (t := 0) (k := 0) (r := 34) (ty := (.object "EditsMeet$World")) tyX0 tyX0_ok nmX0 h5 rfl in_X0 (by decide) rfl q573 rfl rfl rfl rfl rfl trivial (Or.inl (by decide)) dX0_init_12 (fun s3 es3 => ?_)
  replace h := bst_i h s3 es3
  refine r_aload_n hκ 0 rfl rfl dX0_init_15 ?_
  obtain ⟨h6, h⟩ := bck_i h
  refine r_new hκ (t := 1) tyX1 tyX1_ok dfX1 rfl in_X1 q185 q186 q122 h6 dX0_init_16 (fun s4 es4 => ?_)
  replace h := bst_i h s4 es4
  refine r_dup hκ (bd_cat2k _) dX0_init_19 ?_
  obtain ⟨h7, h⟩ := bck_i h
  obtain ⟨s5, v2, h8, h⟩ := bcl_i h
  refine r_callI hκ (n' := 0) (index := 15) (w_X1_init Γ0 l0 h8) (lw_meth q189) q122 q187 q188 rfl (by decide +kernel) (t := 1) h7 rfl rfl (by decide) rfl (Nat.le_of_ble_eq_true rfl) dX0_init_20 ?_
  obtain ⟨h9, h⟩ := bck_i h
  refine r_putF hκ (hi.init rfl) (t := 0) (k := 1) (r := 38) (ty := (.object "EditsMeet$World")) tyX0 tyX0_ok nmX0 h9 rfl in_X0 (by decide) rfl q574 rfl rfl rfl rfl rfl trivial (Or.inl (by decide)) dX0_init_23 (fun s6 es6 => ?_)
  replace h := bst_i h s6 es6
  refine r_aload_n hκ 0 rfl rfl dX0_init_26 ?_
  refine r_bipush hκ (by decide) dX0_init_27 ?_
  obtain ⟨⟨h10, h11⟩, h⟩ := bck_i h
  refine r_anew hκ (t := 8) q560 (by decide +kernel) rfl (by decide) h10 h11 dX0_init_29 (fun s7 es7 => ?_)
  replace h := bst_i h s7 es7
  obtain ⟨h12, h⟩ := bck_i h
  refine r_putF hκ (hi.init rfl) (t := 0) (k := 3) (r := 46) (ty := (.array (.object "EditsMeet$Edit"))) tyX0 tyX0_ok nmX0 h12 rfl in_X0 (by decide) rfl q576 rfl rfl rfl rfl rfl trivial (Or.inl (by decide)) dX0_init_32 (fun s8 es8 => ?_)
  replace h := bst_i h s8 es8
  refine r_aload_n hκ 0 rfl rfl dX0_init_35 ?_
  refine r_bipush hκ (by decide) dX0_init_36 ?_
  obtain ⟨⟨h13, h14⟩, h⟩ := bck_i h
  refine r_anew hκ (t := 9) q562 (by decide +kernel) rfl (by decide) h13 h14 dX0_init_38 (fun s9 es9 => ?_)
  replace h := bst_i h s9 es9
  obtain ⟨h15, h⟩ := bck_i h
  refine r_putF hκ (hi.init rfl) (t := 0) (k := 4) (r := 50) (ty := (.array (.object "EditsMeet$Sheet"))) tyX0 tyX0_ok nmX0 h15 rfl in_X0 (by decide) rfl q577 rfl rfl rfl rfl rfl trivial (Or.inl (by decide)) dX0_init_41 (fun s10 es10 => ?_)
  replace h := bst_i h s10 es10
  refine r_aload_n hκ 0 rfl rfl dX0_init_44 ?_
  refine r_sipush hκ (by decide) dX0_init_45 ?_
  obtain ⟨⟨h16, h17⟩, h⟩ := bck_i h
  refine r_new_int hκ q472 h16 h17 dX0_init_48 (fun s11 es11 => ?_)
  replace h := bst_i h s11 es11
  obtain ⟨h18, h⟩ := bck_i h
  refine r_putF hκ (hi.init rfl) (t := 0) (k := 5) (r := 54) (ty := (.array .int)) tyX0 tyX0_ok nmX0 h18 rfl in_X0 (by decide) rfl q579 rfl rfl rfl rfl rfl trivial (Or.inl (by decide)) dX0_init_50 (fun s12 es12 => ?_)
  replace h := bst_i h s12 es12
  refine r_aload_n hκ 0 rfl rfl dX0_init_53 ?_
  refine r_bipush hκ (by decide) dX0_init_54 ?_
  obtain ⟨⟨h19, h20⟩, h⟩ := bck_i h
  refine r_new_int hκ q472 h19 h20 dX0_init_56 (fun s13 es13 => ?_)
  replace h := bst_i h s13 es13
  obtain ⟨h21, h⟩ := bck_i h
  refine r_putF hκ (hi.init rfl) (t := 0) (k := 7) (r := 62) (ty := (.array .int)) tyX0 tyX0_ok nmX0 h21 rfl in_X0 (by decide) rfl q582 rfl rfl rfl rfl rfl trivial (Or.inl (by decide)) dX0_init_58 (fun s14 es14 => ?_)
  replace h := bst_i h s14 es14
  refine r_iconst hκ dX0_init_61 ?_
  refine r_istore_n hκ (L2 := [(1, (0, 0)), (0, (2, a0))]) (by decide) rfl rfl dX0_init_62 ?_
  exact r_sub [1, 0] rfl (w_X0_init_r hκ hi hf 0 _ _ _ h)
/-- EditsMeet.isShelf(I)Z -/
def F_X0_isShelf (s0 : bS) (a0 : Int) : Option (bS × Int) :=
  bcl (F_X0_isIn s0 a0 0 7) fun s1 v1 =>
  bck (v1 = 0 ∨ v1 = 1) <|
  some (s1, v1)
set_option maxHeartbeats 4000000 in
set_option maxRecDepth 100000 in
theorem w_X0_isShelf (Γ0 : bG) (l0 : Launch) {s0 st' : bS} {v a0 : Int} (h : F_X0_isShelf s0 a0 = some (st', v)) : bCt Γ0 l0 yX0_isShelf cX0_isShelf 1 (some .boolean) 1 22 [(0, a0)] s0 st' (some (0, v)) := by
  refine b_ent (own := RX0) (by decide +kernel) rfl (Nat.le_of_ble_eq_true rfl) (L := [(0, (0, a0))]) rfl ?_
  intro κ hκ hi hf
  unfold F_X0_isShelf at h
  refine r_iload_n hκ 0 rfl rfl dX0_isShelf_0 ?_
  refine r_iconst hκ dX0_isShelf_1 ?_
  refine r_bipush hκ (by decide) dX0_isShelf_2 ?_
  obtain ⟨s1, v1, h1, h⟩ := bcl_i h
  refine r_callS hκ (n' := 3) (index := 45) (w_X0_isIn Γ0 l0 h1) (lw_S q624 q625 q121 q626) (by decide +kernel) rfl (by decide) rfl (Nat.le_of_ble_eq_true rfl) dX0_isShelf_4 ?_
  obtain ⟨h2, h⟩ := bck_i h
  exact r_iretH hκ hf h (nar_bool h2) dX0_isShelf_7
/-- EditsMeet.no(I)I -/
def F_X0_no (s0 : bS) (a0 a1 : Int) : Option (bS × Int) :=
  bck (bg s0 0 a0 0 = 1) <|
  bck (bg s0 0 (bg s0 62 a0 0) 0 = 1003 ∧ (0 : Int) ≤ (0 - a1) ∧ (0 - a1) < bg s0 4 (bg s0 62 a0 0) 0) <|
  bck (bg s0 0 (bg s0 62 a0 0) 0 = 1003 ∧ (0 : Int) ≤ (0 - a1) ∧ (0 - a1) < bg s0 4 (bg s0 62 a0 0) 0) <|
  bst (bw s0 20 (bg s0 62 a0 0) (0 - a1) ((bg s0 20 (bg s0 62 a0 0) (0 - a1)) + 1)) fun s1 =>
  some (s1, a1)
set_option maxHeartbeats 4000000 in
set_option maxRecDepth 100000 in
theorem w_X0_no (Γ0 : bG) (l0 : Launch) {s0 st' : bS} {v a0 a1 : Int} (h : F_X0_no s0 a0 a1 = some (st', v)) : bCt Γ0 l0 yX0_no cX0_no 2 (some .int) 0 0 [(2, a0), (0, a1)] s0 st' (some (0, v)) := by
  refine b_ent (own := RX0) (by decide +kernel) rfl (Nat.le_of_ble_eq_true rfl) (L := [(0, (2, a0)), (1, (0, a1))]) rfl ?_
  intro κ hκ hi hf
  unfold F_X0_no at h
  refine r_aload_n hκ 0 rfl rfl dX0_no_0 ?_
  obtain ⟨h1, h⟩ := bck_i h
  refine r_get hκ (t := 0) (k := 7) (r := 62) h1 rfl in_X0 (by decide) rfl q582 (Or.inl rfl) dX0_no_1 ?_
  refine r_iconst hκ dX0_no_4 ?_
  refine r_iload_n hκ 1 rfl rfl dX0_no_5 ?_
  refine r_isub hκ dX0_no_6 ?_
  refine r_dup2 hκ (bd_cat0k _) (bd_cat2k _) dX0_no_7 ?_
  obtain ⟨⟨h2, h3⟩, h⟩ := bck_i h
  refine r_iald hκ h2 h3 dX0_no_8 ?_
  refine r_iconst hκ dX0_no_9 ?_
  refine r_iadd hκ dX0_no_10 ?_
  obtain ⟨⟨h4, h5⟩, h⟩ := bck_i h
  refine r_iast hκ h4 h5 dX0_no_11 (fun s1 es1 => ?_)
  replace h := bst_i h s1 es1
  refine r_iload_n hκ 1 rfl rfl dX0_no_12 ?_
  exact r_iretH hκ hf h (nar_int _) dX0_no_13
/-- EditsMeet.rowOf(II)Ljava/lang/Object; -/
def F_X0_rowOf (s0 : bS) (a0 a1 : Int) : Option (bS × Int) :=
  bte (b_t a0 = 0) (bck (((0 : Int) ≤ a1 ∧ (a1 : Int) ≤ 67108864) ∧ bc s0 + 1 ≤ bCM ∧ bk s0 + (a1 : Int).toNat ≤ bKM) <|
  bst (bnw s0 1000 a1 (a1 : Int).toNat) fun s1 =>
  some (s1, (bnx s0 : Int))) (bte (b_t a0 = 1) (bck (((0 : Int) ≤ a1 ∧ (a1 : Int) ≤ 67108864) ∧ bc s0 + 1 ≤ bCM ∧ bk s0 + (a1 : Int).toNat ≤ bKM) <|
  bst (bnw s0 1002 a1 (a1 : Int).toNat) fun s2 =>
  some (s2, (bnx s0 : Int))) (bte (b_t a0 = 2) (bck (((0 : Int) ≤ a1 ∧ (a1 : Int) ≤ 67108864) ∧ bc s0 + 1 ≤ bCM ∧ bk s0 + (a1 : Int).toNat ≤ bKM) <|
  bst (bnw s0 1003 a1 (a1 : Int).toNat) fun s3 =>
  some (s3, (bnx s0 : Int))) (bte (b_t a0 = 3) (bck (((0 : Int) ≤ a1 ∧ (a1 : Int) ≤ 67108864) ∧ bc s0 + 1 ≤ bCM ∧ bk s0 + (a1 : Int).toNat ≤ bKM) <|
  bst (bnw s0 1005 a1 (a1 : Int).toNat) fun s4 =>
  some (s4, (bnx s0 : Int))) (bck (((0 : Int) ≤ a1 ∧ (a1 : Int) ≤ 67108864) ∧ bc s0 + 1 ≤ bCM ∧ bk s0 + (a1 : Int).toNat ≤ bKM) <|
  bst (bnw s0 1001 a1 (a1 : Int).toNat) fun s5 =>
  some (s5, (bnx s0 : Int))))))
set_option maxHeartbeats 4000000 in
set_option maxRecDepth 100000 in
theorem w_X0_rowOf (Γ0 : bG) (l0 : Launch) {s0 st' : bS} {v a0 a1 : Int} (h : F_X0_rowOf s0 a0 a1 = some (st', v)) : bCt Γ0 l0 yX0_rowOf cX0_rowOf 2 (some (.object "java/lang/Object")) 0 0 [(0, a0), (0, a1)] s0 st' (some (2, v)) := by
  refine b_ent (own := RX0) (by decide +kernel) rfl (Nat.le_of_ble_eq_true rfl) (L := [(0, (0, a0)), (1, (0, a1))]) rfl ?_
  intro κ hκ hi hf
  unfold F_X0_rowOf at h
  refine r_iload_n hκ 0 rfl rfl dX0_rowOf_0 ?_
  by_cases h1 : b_t a0 = 0
  · replace h := (bte_i h).1 h1
    refine r_tswIn hκ (kk := 0) (tgt := 32) h1 (by decide) (by decide) rfl (by decide) dX0_rowOf_1 ?_
    refine r_iload_n hκ 1 rfl rfl dX0_rowOf_32 ?_
    obtain ⟨⟨h2, h3⟩, h⟩ := bck_i h
    refine r_new_byte hκ q300 h2 h3 dX0_rowOf_33 (fun s1 es1 => ?_)
    replace h := bst_i h s1 es1
    exact r_aretH hκ hf h rt_o dX0_rowOf_35
  replace h := (bte_i h).2 h1
  by_cases h4 : b_t a0 = 1
  · replace h := (bte_i h).1 h4
    refine r_tswIn hκ (kk := 1) (tgt := 36) h4 (by decide) (by decide) rfl (by decide) dX0_rowOf_1 ?_
    refine r_iload_n hκ 1 rfl rfl dX0_rowOf_36 ?_
    obtain ⟨⟨h5, h6⟩, h⟩ := bck_i h
    refine r_new_short hκ q634 h5 h6 dX0_rowOf_37 (fun s2 es2 => ?_)
    replace h := bst_i h s2 es2
    exact r_aretH hκ hf h rt_o dX0_rowOf_39
  replace h := (bte_i h).2 h4
  by_cases h7 : b_t a0 = 2
  · replace h := (bte_i h).1 h7
    refine r_tswIn hκ (kk := 2) (tgt := 40) h7 (by decide) (by decide) rfl (by decide) dX0_rowOf_1 ?_
    refine r_iload_n hκ 1 rfl rfl dX0_rowOf_40 ?_
    obtain ⟨⟨h8, h9⟩, h⟩ := bck_i h
    refine r_new_int hκ q472 h8 h9 dX0_rowOf_41 (fun s3 es3 => ?_)
    replace h := bst_i h s3 es3
    exact r_aretH hκ hf h rt_o dX0_rowOf_43
  replace h := (bte_i h).2 h7
  by_cases h10 : b_t a0 = 3
  · replace h := (bte_i h).1 h10
    refine r_tswIn hκ (kk := 3) (tgt := 44) h10 (by decide) (by decide) rfl (by decide) dX0_rowOf_1 ?_
    refine r_iload_n hκ 1 rfl rfl dX0_rowOf_44 ?_
    obtain ⟨⟨h11, h12⟩, h⟩ := bck_i h
    refine r_new_long hκ q635 h11 h12 dX0_rowOf_45 (fun s4 es4 => ?_)
    replace h := bst_i h s4 es4
    exact r_aretH hκ hf h rt_o dX0_rowOf_47
  replace h := (bte_i h).2 h10
  refine r_tswOut hκ (tgt := 48) (by omega) (by decide) dX0_rowOf_1 ?_
  refine r_iload_n hκ 1 rfl rfl dX0_rowOf_48 ?_
  obtain ⟨⟨h13, h14⟩, h⟩ := bck_i h
  refine r_new_boolean hκ q636 h13 h14 dX0_rowOf_49 (fun s5 es5 => ?_)
  replace h := bst_i h s5 es5
  exact r_aretH hκ hf h rt_o dX0_rowOf_51
/-- EditsMeet.row(III)I -/
def F_X0_row_r (b : Nat) (x0 : Int) (s0 : bS) : Option (bS × Int × Int) :=
  match b with
  | 0 =>
    bck (bg s0 0 x0 0 = 1) <|
    bcl (F_X0_no s0 x0 (-2)) fun s4 v3 =>
    some (s4, v3, -1)
  | _ => none
def F_X0_row (s0 : bS) (a0 a1 a2 a3 : Int) : Option (bS × Int × Int) :=
  bcl (F_X0_isShelf s0 a1) fun s1 v1 =>
  bte (i32 v1 = 0)
  (F_X0_row_r 0 a0 s1)
  (bte (i32 a2 < 0)
  (F_X0_row_r 0 a0 s1)
  (bte (i32 4 < i32 a2)
  (F_X0_row_r 0 a0 s1)
  (bte (i32 a3 ≤ i32 40)
  (bck (bg s1 0 a0 0 = 1) <|
  bck (bg s1 0 (bg s1 50 a0 0) 0 = 1009 ∧ (0 : Int) ≤ a1 ∧ a1 < bg s1 4 (bg s1 50 a0 0) 0) <|
  bcl (F_X0_rowOf s1 a2 a3) fun s2 v2 =>
  bck ((bg s2 0 (bg s1 10 (bg s1 50 a0 0) a1) 0 = 10)) <|
  bst (bw s2 210 (bg s1 10 (bg s1 50 a0 0) a1) 0 v2) fun s3 =>
  some (s3, 1, -1))
  (F_X0_row_r 0 a0 s1))))
set_option maxHeartbeats 4000000 in
set_option maxRecDepth 100000 in
set_option synthInstance.maxHeartbeats 4000000 in
theorem w_X0_row_r {Γ0 : bG} {l0 : Launch} {κ : bK} {st' : bS} {v xx : Int} (hκ : bOk κ Γ0 l0 cX0_row RX0 5 2 42) (hi : bIn κ yX0_row) (ht : xTab κ [(29, 43, 46, 106)]) (hf : xFin κ (some .int) (some 0) (bEq st' v xx)) (b : Nat) (x0 : Int) (s0 : bS) (h : F_X0_row_r b x0 s0 = some (st', v, xx)) : match (generalizing := false) b with | 0 => bJ κ s0 22 [(0, (2, x0))] [] | _ => True := by
  unfold F_X0_row_r at h
  match b, h with
  | 0, h =>
      refine r_aload_n hκ 0 rfl rfl dX0_row_22 ?_
      refine r_bipush hκ (by decide) dX0_row_23 ?_
      obtain ⟨h11, h⟩ := bck_i h
      obtain ⟨s4, v3, h12, h⟩ := bcl_i h
      refine r_callV hκ (n' := 1) (index := 79) (w_X0_no Γ0 l0 h12) (lw_V q627 q629 qs2 q121 q630) (by decide +kernel) (t := 0) h11 rfl rfl (by decide) rfl (Nat.le_of_ble_eq_true rfl) dX0_row_25 ?_
      exact x_ret hκ hf (x_P h) (fun κ hκ hf => r_iret hκ hf (nar_int _) dX0_row_28)
  | b + 1, h => trivial
set_option maxHeartbeats 4000000 in
set_option maxRecDepth 100000 in
theorem w_X0_row (Γ0 : bG) (l0 : Launch) {s0 st' : bS} {v xx a0 a1 a2 a3 : Int} (h : F_X0_row s0 a0 a1 a2 a3 = some (st', v, xx)) : bCx Γ0 l0 yX0_row (wsW_ yX0_row cX0_row 5 (some .int) [(29, 43, 46, 106)]) 2 42 (some 0) [(2, a0), (0, a1), (0, a2), (0, a3)] s0 (bEq st' v xx) := by
  refine xb_entW (own := RX0) (by decide +kernel) rfl (Nat.le_of_ble_eq_true rfl) (L := [(0, (2, a0)), (1, (0, a1)), (2, (0, a2)), (3, (0, a3))]) rfl ?_
  intro κ hκ hi ht hf
  unfold F_X0_row at h
  refine r_iload_n hκ 1 rfl rfl dX0_row_0 ?_
  obtain ⟨s1, v1, h1, h⟩ := bcl_i h
  refine r_callS hκ (n' := 1) (index := 95) (w_X0_isShelf Γ0 l0 h1) (lw_S q621 q622 q121 q623) (by decide +kernel) rfl (by decide) rfl (Nat.le_of_ble_eq_true rfl) dX0_row_1 ?_
  refine r_if_eq hκ (tgt := 22) (by decide) dX0_row_4 (fun h2 => ?_) (fun h2 => ?_)
  · replace h := (bte_i h).1 h2
    exact r_sub [0] rfl (w_X0_row_r hκ hi ht hf 0 _ _ h)
  · replace h := (bte_i h).2 h2
    refine r_iload_n hκ 2 rfl rfl dX0_row_7 ?_
    refine r_if_lt hκ (tgt := 22) (by decide) dX0_row_8 (fun h3 => ?_) (fun h3 => ?_)
    · replace h := (bte_i h).1 h3
      exact r_sub [0] rfl (w_X0_row_r hκ hi ht hf 0 _ _ h)
    · replace h := (bte_i h).2 h3
      refine r_iload_n hκ 2 rfl rfl dX0_row_11 ?_
      refine r_iconst hκ dX0_row_12 ?_
      refine r_icmp_gt hκ (tgt := 22) (by decide) dX0_row_13 (fun h4 => ?_) (fun h4 => ?_)
      · replace h := (bte_i h).1 h4
        exact r_sub [0] rfl (w_X0_row_r hκ hi ht hf 0 _ _ h)
      · replace h := (bte_i h).2 h4
        refine r_iload_n hκ 3 rfl rfl dX0_row_16 ?_
        refine r_bipush hκ (by decide) dX0_row_17 ?_
        refine r_icmp_le hκ (tgt := 29) (by decide) dX0_row_19 (fun h5 => ?_) (fun h5 => ?_)
        · replace h := (bte_i h).1 h5
          refine r_aload_n hκ 0 rfl rfl dX0_row_29 ?_
          obtain ⟨h6, h⟩ := bck_i h
          refine r_get hκ (t := 0) (k := 4) (r := 50) h6 rfl in_X0 (by decide) rfl q577 (Or.inl rfl) dX0_row_30 ?_
          refine r_iload_n hκ 1 rfl rfl dX0_row_33 ?_
          obtain ⟨⟨h7, h8⟩, h⟩ := bck_i h
          refine r_aald hκ (t := 9) (by decide) h7 h8 dX0_row_34 ?_
          refine r_iload_n hκ 2 rfl rfl dX0_row_35 ?_
          refine r_iload_n hκ 3 rfl rfl dX0_row_36 ?_
          obtain ⟨s2, v2, h9, h⟩ := bcl_i h
          refine r_callS hκ (n' := 2) (index := 98) (w_X0_rowOf Γ0 l0 h9) (lw_S q631 q632 q121 q633) (by decide +kernel) rfl (by decide) rfl (Nat.le_of_ble_eq_true rfl) dX0_row_37 ?_
          obtain ⟨h10, h⟩ := bck_i h
          refine r_put hκ (t := 9) (k := 0) (r := 210) (ty := (.object "java/lang/Object")) tyX11 tyX11_ok nmX11 h10 rfl in_X11 (by decide) rfl q569 (Or.inl rfl) rfl rfl rfl trivial (Or.inl (by decide)) dX0_row_40 (fun s3 es3 => ?_)
          replace h := bst_i h s3 es3
          refine r_goto hκ (tgt := 55) (by decide) dX0_row_43 ?_
          refine r_iconst hκ dX0_row_55 ?_
          exact x_ret hκ hf (x_P h) (fun κ hκ hf => r_iret hκ hf (nar_int _) dX0_row_56)
        · replace h := (bte_i h).2 h5
          exact r_sub [0] rfl (w_X0_row_r hκ hi ht hf 0 _ _ h)
/-- EditsMeet.rowIn(I)Ljava/lang/Object; -/
def F_X0_rowIn (s0 : bS) (a0 a1 : Int) : Option (bS × Int × Int) :=
  bck (bg s0 0 a0 0 = 1) <|
  bck (bg s0 0 (bg s0 50 a0 0) 0 = 1009 ∧ (0 : Int) ≤ a1 ∧ a1 < bg s0 4 (bg s0 50 a0 0) 0) <|
  bck (bg s0 0 (bg s0 10 (bg s0 50 a0 0) a1) 0 = 10) <|
  bte (bg s0 0 (bg s0 210 (bg s0 10 (bg s0 50 a0 0) a1) 0) 0 = 6 ∨ bg s0 0 (bg s0 210 (bg s0 10 (bg s0 50 a0 0) a1) 0) 0 = 15 ∨ bg s0 0 (bg s0 210 (bg s0 10 (bg s0 50 a0 0) a1) 0) 0 = 16 ∨ bg s0 0 (bg s0 210 (bg s0 10 (bg s0 50 a0 0) a1) 0) 0 = 17) (bck (bc s0 + 1 ≤ bCM ∧ bk s0 + 7 ≤ bKM) <|
  bst (bnw s0 12 0 7) fun s1 =>
  bck (bg s1 0 (bnx s0 : Int) 0 = 12) <|
  bcl (F_X13_init s1 (bnx s0 : Int) (-3)) fun s2 v1 =>
  bck (bg s2 0 (bnx s0 : Int) 0 = 12) <|
  some (s2, (bnx s0 : Int), 0)) (bck ((bg s0 210 (bg s0 10 (bg s0 50 a0 0) a1) 0) < 0 ∨ False) <| bte ((bg s0 210 (bg s0 10 (bg s0 50 a0 0) a1) 0) < 0)
  (bck (bc s0 + 1 ≤ bCM ∧ bk s0 + 7 ≤ bKM) <|
  bst (bnw s0 12 0 7) fun s3 =>
  bck (bg s3 0 (bnx s0 : Int) 0 = 12) <|
  bcl (F_X13_init s3 (bnx s0 : Int) (-4)) fun s4 v2 =>
  bck (bg s4 0 (bnx s0 : Int) 0 = 12) <|
  some (s4, (bnx s0 : Int), 0))
  (some (s0, (bg s0 210 (bg s0 10 (bg s0 50 a0 0) a1) 0), -1)))
set_option maxHeartbeats 4000000 in
set_option maxRecDepth 100000 in
theorem w_X0_rowIn (Γ0 : bG) (l0 : Launch) {s0 st' : bS} {v xx a0 a1 : Int} (h : F_X0_rowIn s0 a0 a1 = some (st', v, xx)) : bCx Γ0 l0 yX0_rowIn (ws_ yX0_rowIn cX0_rowIn 3 (some (.object "java/lang/Object"))) 5 113 (some 2) [(2, a0), (0, a1)] s0 (bEq st' v xx) := by
  refine xb_ent (own := RX0) (by decide +kernel) rfl (Nat.le_of_ble_eq_true rfl) (L := [(0, (2, a0)), (1, (0, a1))]) rfl ?_
  intro κ hκ hi ht hf
  unfold F_X0_rowIn at h
  refine r_aload_n hκ 0 rfl rfl dX0_rowIn_0 ?_
  obtain ⟨h1, h⟩ := bck_i h
  refine r_get hκ (t := 0) (k := 4) (r := 50) h1 rfl in_X0 (by decide) rfl q577 (Or.inl rfl) dX0_rowIn_1 ?_
  refine r_iload_n hκ 1 rfl rfl dX0_rowIn_4 ?_
  obtain ⟨⟨h2, h3⟩, h⟩ := bck_i h
  refine r_aald hκ (t := 9) (by decide) h2 h3 dX0_rowIn_5 ?_
  obtain ⟨h4, h⟩ := bck_i h
  refine r_get hκ (t := 9) (k := 0) (r := 210) h4 rfl in_X11 (by decide) rfl q569 (Or.inl rfl) dX0_rowIn_6 ?_
  refine r_astore_n hκ (L2 := [(2, (2, (bg s0 210 (bg s0 10 (bg s0 50 a0 0) a1) 0))), (0, (2, a0)), (1, (0, a1))]) (by decide) rfl rfl dX0_rowIn_9 ?_
  refine r_aload_n hκ 0 rfl rfl dX0_rowIn_10 ?_
  by_cases h5 : bg s0 0 (bg s0 210 (bg s0 10 (bg s0 50 a0 0) a1) 0) 0 = 6 ∨ bg s0 0 (bg s0 210 (bg s0 10 (bg s0 50 a0 0) a1) 0) 0 = 15 ∨ bg s0 0 (bg s0 210 (bg s0 10 (bg s0 50 a0 0) a1) 0) 0 = 16 ∨ bg s0 0 (bg s0 210 (bg s0 10 (bg s0 50 a0 0) a1) 0) 0 = 17
  · replace h := (bte_i h).1 h5
    refine r_instGY hκ q665 (Or.elim h5 (fun h5 => ⟨6, _, h5, by decide, rfl, Or.inr (by decide +kernel)⟩) (fun h5 => Or.elim h5 (fun h5 => ⟨15, _, h5, by decide, rfl, Or.inr (by decide +kernel)⟩) (fun h5 => Or.elim h5 (fun h5 => ⟨16, _, h5, by decide, rfl, Or.inr (by decide +kernel)⟩) (fun h5 => ⟨17, _, h5, by decide, rfl, Or.inr (by decide +kernel)⟩)))) dX0_rowIn_11 ?_
    refine r_if_eq hκ (tgt := 27) (by decide) dX0_rowIn_14 (fun hc => absurd hc (by decide)) (fun _ => ?_)
    obtain ⟨h7, h⟩ := bck_i h
    refine r_new hκ (t := 11) tyX13 tyX13_ok dfX13 rfl in_X13 q641 q666 q149 h7 dX0_rowIn_17 (fun s1 es1 => ?_)
    replace h := bst_i h s1 es1
    refine r_dup hκ (bd_cat2k _) dX0_rowIn_20 ?_
    refine r_bipush hκ (by decide) dX0_rowIn_21 ?_
    obtain ⟨h8, h⟩ := bck_i h
    obtain ⟨s2, v1, h9, h⟩ := bcl_i h
    refine r_callI hκ (n' := 1) (index := 55) (w_X13_init Γ0 l0 h9) (lw_meth q676) q149 q674 q675 rfl (by decide +kernel) (t := 11) h8 rfl rfl (by decide) rfl (Nat.le_of_ble_eq_true rfl) dX0_rowIn_23 ?_
    obtain ⟨h10, h⟩ := bck_i h
    refine r_athrow hκ (t := 11) (jn := 0) h10 rfl rfl dX0_rowIn_26 ?_
    exact r_xout hκ ht hf (by decide) (x_P h)
  · replace h := (bte_i h).2 h5
    obtain ⟨h6, h⟩ := bck_i h
    refine r_instGN hκ q665 (Or.elim h6 (fun h6 => Or.inl h6) (fun h6 => h6.elim)) dX0_rowIn_11 ?_
    refine r_if_eq hκ (tgt := 27) (by decide) dX0_rowIn_14 (fun _ => ?_) (fun hc => absurd hc (by decide))
    refine r_aload_n hκ 0 rfl rfl dX0_rowIn_27 ?_
    refine r_ifnonnull hκ (tgt := 41) (by decide) dX0_rowIn_28 (fun h11 => ?_) (fun h11 => ?_)
    · replace h := (bte_i h).2 h11
      refine r_aload_n hκ 0 rfl rfl dX0_rowIn_41 ?_
      exact x_ret hκ hf (x_P h) (fun κ hκ hf => r_aret hκ hf rt_o dX0_rowIn_42)
    · replace h := (bte_i h).1 h11
      obtain ⟨h12, h⟩ := bck_i h
      refine r_new hκ (t := 11) tyX13 tyX13_ok dfX13 rfl in_X13 q641 q666 q149 h12 dX0_rowIn_31 (fun s3 es3 => ?_)
      replace h := bst_i h s3 es3
      refine r_dup hκ (bd_cat2k _) dX0_rowIn_34 ?_
      refine r_bipush hκ (by decide) dX0_rowIn_35 ?_
      obtain ⟨h13, h⟩ := bck_i h
      obtain ⟨s4, v2, h14, h⟩ := bcl_i h
      refine r_callI hκ (n' := 1) (index := 55) (w_X13_init Γ0 l0 h14) (lw_meth q676) q149 q674 q675 rfl (by decide +kernel) (t := 11) h13 rfl rfl (by decide) rfl (Nat.le_of_ble_eq_true rfl) dX0_rowIn_37 ?_
      obtain ⟨h15, h⟩ := bck_i h
      refine r_athrow hκ (t := 11) (jn := 0) h15 rfl rfl dX0_rowIn_40 ?_
      exact r_xout hκ ht hf (by decide) (x_P h)
/-- EditsMeet.sortOf(Ljava/lang/Object;)I -/
def F_X0_sortOf (s0 : bS) (a0 : Int) : Option (bS × Int) :=
  bte (bg s0 0 a0 0 = 1000) (some (s0, 0)) (bck (a0 < 0 ∨ bg s0 0 a0 0 = 1001 ∨ bg s0 0 a0 0 = 1002 ∨ bg s0 0 a0 0 = 1003 ∨ bg s0 0 a0 0 = 1005) <| bte (bg s0 0 a0 0 = 1002) (some (s0, 1)) (bck (a0 < 0 ∨ bg s0 0 a0 0 = 1000 ∨ bg s0 0 a0 0 = 1001 ∨ bg s0 0 a0 0 = 1003 ∨ bg s0 0 a0 0 = 1005) <| bte (bg s0 0 a0 0 = 1003) (some (s0, 2)) (bck (a0 < 0 ∨ bg s0 0 a0 0 = 1000 ∨ bg s0 0 a0 0 = 1001 ∨ bg s0 0 a0 0 = 1002 ∨ bg s0 0 a0 0 = 1005) <| bte (bg s0 0 a0 0 = 1005) (some (s0, 3)) (bck (a0 < 0 ∨ bg s0 0 a0 0 = 1000 ∨ bg s0 0 a0 0 = 1001 ∨ bg s0 0 a0 0 = 1002 ∨ bg s0 0 a0 0 = 1003) <| some (s0, 4)))))
set_option maxHeartbeats 4000000 in
set_option maxRecDepth 100000 in
theorem w_X0_sortOf (Γ0 : bG) (l0 : Launch) {s0 st' : bS} {v a0 : Int} (h : F_X0_sortOf s0 a0 = some (st', v)) : bCt Γ0 l0 yX0_sortOf cX0_sortOf 1 (some .int) 0 0 [(2, a0)] s0 st' (some (0, v)) := by
  refine b_ent (own := RX0) (by decide +kernel) rfl (Nat.le_of_ble_eq_true rfl) (L := [(0, (2, a0))]) rfl ?_
  intro κ hκ hi hf
  unfold F_X0_sortOf at h
  refine r_aload_n hκ 0 rfl rfl dX0_sortOf_0 ?_
  by_cases h1 : bg s0 0 a0 0 = 1000
  · replace h := (bte_i h).1 h1
    refine r_instGY hκ q698 (⟨1000, _, h1, by decide, rfl, Or.inl (by decide +kernel)⟩) dX0_sortOf_1 ?_
    refine r_if_eq hκ (tgt := 9) (by decide) dX0_sortOf_4 (fun hc => absurd hc (by decide)) (fun _ => ?_)
    refine r_iconst hκ dX0_sortOf_7 ?_
    exact r_iretH hκ hf h (nar_int _) dX0_sortOf_8
  · replace h := (bte_i h).2 h1
    obtain ⟨h2, h⟩ := bck_i h
    refine r_instGN hκ q698 (Or.elim h2 (fun h2 => Or.inl h2) (fun h2 => Or.elim h2 (fun h2 => Or.inr ⟨1001, _, h2, by decide, rfl, by decide +kernel⟩) (fun h2 => Or.elim h2 (fun h2 => Or.inr ⟨1002, _, h2, by decide, rfl, by decide +kernel⟩) (fun h2 => Or.elim h2 (fun h2 => Or.inr ⟨1003, _, h2, by decide, rfl, by decide +kernel⟩) (fun h2 => Or.inr ⟨1005, _, h2, by decide, rfl, by decide +kernel⟩))))) dX0_sortOf_1 ?_
    refine r_if_eq hκ (tgt := 9) (by decide) dX0_sortOf_4 (fun _ => ?_) (fun hc => absurd hc (by decide))
    refine r_aload_n hκ 0 rfl rfl dX0_sortOf_9 ?_
    by_cases h3 : bg s0 0 a0 0 = 1002
    · replace h := (bte_i h).1 h3
      refine r_instGY hκ q699 (⟨1002, _, h3, by decide, rfl, Or.inl (by decide +kernel)⟩) dX0_sortOf_10 ?_
      refine r_if_eq hκ (tgt := 18) (by decide) dX0_sortOf_13 (fun hc => absurd hc (by decide)) (fun _ => ?_)
      refine r_iconst hκ dX0_sortOf_16 ?_
      exact r_iretH hκ hf h (nar_int _) dX0_sortOf_17
    · replace h := (bte_i h).2 h3
      obtain ⟨h4, h⟩ := bck_i h
      refine r_instGN hκ q699 (Or.elim h4 (fun h4 => Or.inl h4) (fun h4 => Or.elim h4 (fun h4 => Or.inr ⟨1000, _, h4, by decide, rfl, by decide +kernel⟩) (fun h4 => Or.elim h4 (fun h4 => Or.inr ⟨1001, _, h4, by decide, rfl, by decide +kernel⟩) (fun h4 => Or.elim h4 (fun h4 => Or.inr ⟨1003, _, h4, by decide, rfl, by decide +kernel⟩) (fun h4 => Or.inr ⟨1005, _, h4, by decide, rfl, by decide +kernel⟩))))) dX0_sortOf_10 ?_
      refine r_if_eq hκ (tgt := 18) (by decide) dX0_sortOf_13 (fun _ => ?_) (fun hc => absurd hc (by decide))
      refine r_aload_n hκ 0 rfl rfl dX0_sortOf_18 ?_
      by_cases h5 : bg s0 0 a0 0 = 1003
      · replace h := (bte_i h).1 h5
        refine r_instGY hκ q700 (⟨1003, _, h5, by decide, rfl, Or.inl (by decide +kernel)⟩) dX0_sortOf_19 ?_
        refine r_if_eq hκ (tgt := 27) (by decide) dX0_sortOf_22 (fun hc => absurd hc (by decide)) (fun _ => ?_)
        refine r_iconst hκ dX0_sortOf_25 ?_
        exact r_iretH hκ hf h (nar_int _) dX0_sortOf_26
      · replace h := (bte_i h).2 h5
        obtain ⟨h6, h⟩ := bck_i h
        refine r_instGN hκ q700 (Or.elim h6 (fun h6 => Or.inl h6) (fun h6 => Or.elim h6 (fun h6 => Or.inr ⟨1000, _, h6, by decide, rfl, by decide +kernel⟩) (fun h6 => Or.elim h6 (fun h6 => Or.inr ⟨1001, _, h6, by decide, rfl, by decide +kernel⟩) (fun h6 => Or.elim h6 (fun h6 => Or.inr ⟨1002, _, h6, by decide, rfl, by decide +kernel⟩) (fun h6 => Or.inr ⟨1005, _, h6, by decide, rfl, by decide +kernel⟩))))) dX0_sortOf_19 ?_
        refine r_if_eq hκ (tgt := 27) (by decide) dX0_sortOf_22 (fun _ => ?_) (fun hc => absurd hc (by decide))
        refine r_aload_n hκ 0 rfl rfl dX0_sortOf_27 ?_
        by_cases h7 : bg s0 0 a0 0 = 1005
        · replace h := (bte_i h).1 h7
          refine r_instGY hκ q701 (⟨1005, _, h7, by decide, rfl, Or.inl (by decide +kernel)⟩) dX0_sortOf_28 ?_
          refine r_if_eq hκ (tgt := 38) (by decide) dX0_sortOf_31 (fun hc => absurd hc (by decide)) (fun _ => ?_)
          refine r_iconst hκ dX0_sortOf_34 ?_
          refine r_goto hκ (tgt := 39) (by decide) dX0_sortOf_35 ?_
          exact r_iretH hκ hf h (nar_int _) dX0_sortOf_39
        · replace h := (bte_i h).2 h7
          obtain ⟨h8, h⟩ := bck_i h
          refine r_instGN hκ q701 (Or.elim h8 (fun h8 => Or.inl h8) (fun h8 => Or.elim h8 (fun h8 => Or.inr ⟨1000, _, h8, by decide, rfl, by decide +kernel⟩) (fun h8 => Or.elim h8 (fun h8 => Or.inr ⟨1001, _, h8, by decide, rfl, by decide +kernel⟩) (fun h8 => Or.elim h8 (fun h8 => Or.inr ⟨1002, _, h8, by decide, rfl, by decide +kernel⟩) (fun h8 => Or.inr ⟨1003, _, h8, by decide, rfl, by decide +kernel⟩))))) dX0_sortOf_28 ?_
          refine r_if_eq hκ (tgt := 38) (by decide) dX0_sortOf_31 (fun _ => ?_) (fun hc => absurd hc (by decide))
          refine r_iconst hκ dX0_sortOf_38 ?_
          exact r_iretH hκ hf h (nar_int _) dX0_sortOf_39
/-- EditsMeet.puts(Ljava/lang/Object;IJ)V -/
def F_X0_puts (s0 : bS) (a0 a1 a2 : Int) : Option (bS × Int) :=
  bcl (F_X0_sortOf s0 a0) fun s1 v1 =>
  bte (b_t v1 = 0) (bck (a0 < 0 ∨ bg s1 0 a0 0 = 1000) <|
  bck ((bg s1 0 a0 0 = 1000 ∧ (0 : Int) ≤ a1 ∧ a1 < bg s1 4 a0 0) ∧ bg s1 1 (-1) 0 ≤ a0) <|
  bst (bw s1 8 a0 a1 (b_i2b (b_i2b (b_l2i a2)))) fun s2 =>
  some (s2, 0)) (bte (b_t v1 = 1) (bck (a0 < 0 ∨ bg s1 0 a0 0 = 1002) <|
  bck (bg s1 0 a0 0 = 1002 ∧ (0 : Int) ≤ a1 ∧ a1 < bg s1 4 a0 0) <|
  bst (bw s1 16 a0 a1 (b_i2s (b_i2s (b_l2i a2)))) fun s3 =>
  some (s3, 0)) (bte (b_t v1 = 2) (bck (a0 < 0 ∨ bg s1 0 a0 0 = 1003) <|
  bck (bg s1 0 a0 0 = 1003 ∧ (0 : Int) ≤ a1 ∧ a1 < bg s1 4 a0 0) <|
  bst (bw s1 20 a0 a1 (b_l2i a2)) fun s4 =>
  some (s4, 0)) (bte (b_t v1 = 3) (bck (a0 < 0 ∨ bg s1 0 a0 0 = 1005) <|
  bck (bg s1 0 a0 0 = 1005 ∧ (0 : Int) ≤ a1 ∧ a1 < bg s1 4 a0 0) <|
  bst (bw s1 9 a0 a1 a2) fun s5 =>
  some (s5, 0)) (bck (a0 < 0 ∨ bg s1 0 a0 0 = 1001) <|
  bte (i32 (b_lcmp a2 0) = 0)
  (bck (bg s1 0 a0 0 = 1001 ∧ (0 : Int) ≤ a1 ∧ a1 < bg s1 4 a0 0) <|
  bst (bw s1 12 a0 a1 (b_nz 0)) fun s6 =>
  some (s6, 0))
  (bck (bg s1 0 a0 0 = 1001 ∧ (0 : Int) ≤ a1 ∧ a1 < bg s1 4 a0 0) <|
  bst (bw s1 12 a0 a1 (b_nz 1)) fun s7 =>
  some (s7, 0))))))
set_option maxHeartbeats 4000000 in
set_option maxRecDepth 100000 in
theorem w_X0_puts (Γ0 : bG) (l0 : Launch) {s0 st' : bS} {v a0 a1 a2 : Int} (h : F_X0_puts s0 a0 a1 a2 = some (st', v)) : bCt Γ0 l0 yX0_puts cX0_puts 4 none 1 20 [(2, a0), (0, a1), (1, a2)] s0 st' none := by
  refine b_ent (own := RX0) (by decide +kernel) rfl (Nat.le_of_ble_eq_true rfl) (L := [(0, (2, a0)), (1, (0, a1)), (2, (1, a2))]) rfl ?_
  intro κ hκ hi hf
  unfold F_X0_puts at h
  refine r_aload_n hκ 0 rfl rfl dX0_puts_0 ?_
  obtain ⟨s1, v1, h1, h⟩ := bcl_i h
  refine r_callS hκ (n' := 1) (index := 89) (w_X0_sortOf Γ0 l0 h1) (lw_S q695 q696 q121 q697) (by decide +kernel) rfl (by decide) rfl (Nat.le_of_ble_eq_true rfl) dX0_puts_1 ?_
  by_cases h2 : b_t v1 = 0
  · replace h := (bte_i h).1 h2
    refine r_tswIn hκ (kk := 0) (tgt := 36) h2 (by decide) (by decide) rfl (by decide) dX0_puts_4 ?_
    refine r_aload_n hκ 0 rfl rfl dX0_puts_36 ?_
    obtain ⟨h3, h⟩ := bck_i h
    refine r_castG hκ q698 (Or.elim h3 (fun h3 => Or.inl h3) (fun h3 => Or.inr ⟨1000, _, h3, by decide, rfl, Or.inl (by decide +kernel)⟩)) dX0_puts_37 ?_
    refine r_iload_n hκ 1 rfl rfl dX0_puts_40 ?_
    refine r_lload_n hκ 2 rfl rfl dX0_puts_41 ?_
    refine r_l2i hκ dX0_puts_42 ?_
    refine r_i2b hκ dX0_puts_43 ?_
    obtain ⟨⟨⟨h4, h5⟩, h6⟩, h⟩ := bck_i h
    refine r_bast hκ h4 h5 h6 dX0_puts_44 (fun s2 es2 => ?_)
    replace h := bst_i h s2 es2
    refine r_goto hκ (tgt := 98) (by decide) dX0_puts_45 ?_
    exact r_vretH hκ hf h dX0_puts_98
  replace h := (bte_i h).2 h2
  by_cases h7 : b_t v1 = 1
  · replace h := (bte_i h).1 h7
    refine r_tswIn hκ (kk := 1) (tgt := 48) h7 (by decide) (by decide) rfl (by decide) dX0_puts_4 ?_
    refine r_aload_n hκ 0 rfl rfl dX0_puts_48 ?_
    obtain ⟨h8, h⟩ := bck_i h
    refine r_castG hκ q699 (Or.elim h8 (fun h8 => Or.inl h8) (fun h8 => Or.inr ⟨1002, _, h8, by decide, rfl, Or.inl (by decide +kernel)⟩)) dX0_puts_49 ?_
    refine r_iload_n hκ 1 rfl rfl dX0_puts_52 ?_
    refine r_lload_n hκ 2 rfl rfl dX0_puts_53 ?_
    refine r_l2i hκ dX0_puts_54 ?_
    refine r_i2s hκ dX0_puts_55 ?_
    obtain ⟨⟨h9, h10⟩, h⟩ := bck_i h
    refine r_sast hκ h9 h10 dX0_puts_56 (fun s3 es3 => ?_)
    replace h := bst_i h s3 es3
    refine r_goto hκ (tgt := 98) (by decide) dX0_puts_57 ?_
    exact r_vretH hκ hf h dX0_puts_98
  replace h := (bte_i h).2 h7
  by_cases h11 : b_t v1 = 2
  · replace h := (bte_i h).1 h11
    refine r_tswIn hκ (kk := 2) (tgt := 60) h11 (by decide) (by decide) rfl (by decide) dX0_puts_4 ?_
    refine r_aload_n hκ 0 rfl rfl dX0_puts_60 ?_
    obtain ⟨h12, h⟩ := bck_i h
    refine r_castG hκ q700 (Or.elim h12 (fun h12 => Or.inl h12) (fun h12 => Or.inr ⟨1003, _, h12, by decide, rfl, Or.inl (by decide +kernel)⟩)) dX0_puts_61 ?_
    refine r_iload_n hκ 1 rfl rfl dX0_puts_64 ?_
    refine r_lload_n hκ 2 rfl rfl dX0_puts_65 ?_
    refine r_l2i hκ dX0_puts_66 ?_
    obtain ⟨⟨h13, h14⟩, h⟩ := bck_i h
    refine r_iast hκ h13 h14 dX0_puts_67 (fun s4 es4 => ?_)
    replace h := bst_i h s4 es4
    refine r_goto hκ (tgt := 98) (by decide) dX0_puts_68 ?_
    exact r_vretH hκ hf h dX0_puts_98
  replace h := (bte_i h).2 h11
  by_cases h15 : b_t v1 = 3
  · replace h := (bte_i h).1 h15
    refine r_tswIn hκ (kk := 3) (tgt := 71) h15 (by decide) (by decide) rfl (by decide) dX0_puts_4 ?_
    refine r_aload_n hκ 0 rfl rfl dX0_puts_71 ?_
    obtain ⟨h16, h⟩ := bck_i h
    refine r_castG hκ q701 (Or.elim h16 (fun h16 => Or.inl h16) (fun h16 => Or.inr ⟨1005, _, h16, by decide, rfl, Or.inl (by decide +kernel)⟩)) dX0_puts_72 ?_
    refine r_iload_n hκ 1 rfl rfl dX0_puts_75 ?_
    refine r_lload_n hκ 2 rfl rfl dX0_puts_76 ?_
    obtain ⟨⟨h17, h18⟩, h⟩ := bck_i h
    refine r_last hκ h17 h18 dX0_puts_77 (fun s5 es5 => ?_)
    replace h := bst_i h s5 es5
    refine r_goto hκ (tgt := 98) (by decide) dX0_puts_78 ?_
    exact r_vretH hκ hf h dX0_puts_98
  replace h := (bte_i h).2 h15
  refine r_tswOut hκ (tgt := 81) (by omega) (by decide) dX0_puts_4 ?_
  refine r_aload_n hκ 0 rfl rfl dX0_puts_81 ?_
  obtain ⟨h19, h⟩ := bck_i h
  refine r_castG hκ q702 (Or.elim h19 (fun h19 => Or.inl h19) (fun h19 => Or.inr ⟨1001, _, h19, by decide, rfl, Or.inl (by decide +kernel)⟩)) dX0_puts_82 ?_
  refine r_iload_n hκ 1 rfl rfl dX0_puts_85 ?_
  refine r_lload_n hκ 2 rfl rfl dX0_puts_86 ?_
  refine r_lconst hκ (x := 0) (by decide) dX0_puts_87 ?_
  refine r_lcmp hκ dX0_puts_88 ?_
  refine r_if_eq hκ (tgt := 96) (by decide) dX0_puts_89 (fun h20 => ?_) (fun h20 => ?_)
  · replace h := (bte_i h).1 h20
    refine r_iconst hκ dX0_puts_96 ?_
    obtain ⟨⟨h21, h22⟩, h⟩ := bck_i h
    refine r_zast hκ h21 h22 dX0_puts_97 (fun s6 es6 => ?_)
    replace h := bst_i h s6 es6
    exact r_vretH hκ hf h dX0_puts_98
  · replace h := (bte_i h).2 h20
    refine r_iconst hκ dX0_puts_92 ?_
    refine r_goto hκ (tgt := 97) (by decide) dX0_puts_93 ?_
    obtain ⟨⟨h23, h24⟩, h⟩ := bck_i h
    refine r_zast hκ h23 h24 dX0_puts_97 (fun s7 es7 => ?_)
    replace h := bst_i h s7 es7
    exact r_vretH hκ hf h dX0_puts_98
/-- EditsMeet.set(IIJ)I -/
def F_X0_set_r (b : Nat) (x0 x1 : Int) (s0 : bS) : Option (bS × Int × Int) :=
  match b with
  | 0 =>
    bck (bg s0 0 x1 0 = 12) <|
    bck (bg s0 0 x0 0 = 1) <|
    bcl (F_X0_no s0 x0 (bg s0 368 x1 0)) fun s5 v6 =>
    some (s5, v6, -1)
  | _ => none
def F_X0_set (s0 : bS) (a0 a1 a2 a3 : Int) : Option (bS × Int × Int) :=
  bcl (F_X0_isShelf s0 a1) fun s1 v1 =>
  bte (i32 v1 = 0)
  (bck (bg s1 0 a0 0 = 1) <|
  bcl (F_X0_no s1 a0 (-2)) fun s4 v5 =>
  some (s4, v5, -1))
  (bck (bg s1 0 a0 0 = 1) <|
  bclx (F_X0_rowIn s1 a0 a1) fun s2 v2 v3 =>
  bte (v3 = -1)
  (bcl (F_X0_puts s2 v2 a2 a3) fun s3 v4 =>
  some (s3, 1, -1))
  (bte (v3 = 0) (F_X0_set_r 0 a0 v2 s2) (none)))
set_option maxHeartbeats 4000000 in
set_option maxRecDepth 100000 in
set_option synthInstance.maxHeartbeats 4000000 in
theorem w_X0_set_r {Γ0 : bG} {l0 : Launch} {κ : bK} {st' : bS} {v xx : Int} (hκ : bOk κ Γ0 l0 cX0_set RX0 6 6 135) (hi : bIn κ yX0_set) (ht : xTab κ [(14, 25, 26, 53), (14, 25, 38, 118)]) (hf : xFin κ (some .int) (some 0) (bEq st' v xx)) (b : Nat) (x0 x1 : Int) (s0 : bS) (h : F_X0_set_r b x0 x1 s0 = some (st', v, xx)) : match (generalizing := false) b with | 0 => bJ κ s0 26 [(0, (2, x0))] [(2, x1)] | _ => True := by
  unfold F_X0_set_r at h
  match b, h with
  | 0, h =>
      refine r_astore hκ (L2 := [(5, (2, x1)), (0, (2, x0))]) (by decide) rfl dX0_set_26 ?_
      refine r_aload_n hκ 1 rfl rfl dX0_set_28 ?_
      refine r_aload hκ 0 rfl dX0_set_29 ?_
      obtain ⟨h10, h⟩ := bck_i h
      refine r_get hκ (t := 11) (k := 6) (r := 368) h10 rfl in_X13 (by decide) rfl q687 (Or.inl rfl) dX0_set_31 ?_
      obtain ⟨h11, h⟩ := bck_i h
      obtain ⟨s5, v6, h12, h⟩ := bcl_i h
      refine r_callV hκ (n' := 1) (index := 79) (w_X0_no Γ0 l0 h12) (lw_V q627 q629 qs2 q121 q630) (by decide +kernel) (t := 0) h11 rfl rfl (by decide) rfl (Nat.le_of_ble_eq_true rfl) dX0_set_34 ?_
      exact x_ret hκ hf (x_P h) (fun κ hκ hf => r_iret hκ hf (nar_int _) dX0_set_37)
  | b + 1, h => trivial
set_option maxHeartbeats 4000000 in
set_option maxRecDepth 100000 in
theorem w_X0_set (Γ0 : bG) (l0 : Launch) {s0 st' : bS} {v xx a0 a1 a2 a3 : Int} (h : F_X0_set s0 a0 a1 a2 a3 = some (st', v, xx)) : bCx Γ0 l0 yX0_set (wsW_ yX0_set cX0_set 6 (some .int) [(14, 25, 26, 53), (14, 25, 38, 118)]) 6 135 (some 0) [(2, a0), (0, a1), (0, a2), (1, a3)] s0 (bEq st' v xx) := by
  refine xb_entW (own := RX0) (by decide +kernel) rfl (Nat.le_of_ble_eq_true rfl) (L := [(0, (2, a0)), (1, (0, a1)), (2, (0, a2)), (3, (1, a3))]) rfl ?_
  intro κ hκ hi ht hf
  unfold F_X0_set at h
  refine r_iload_n hκ 1 rfl rfl dX0_set_0 ?_
  obtain ⟨s1, v1, h1, h⟩ := bcl_i h
  refine r_callS hκ (n' := 1) (index := 95) (w_X0_isShelf Γ0 l0 h1) (lw_S q621 q622 q121 q623) (by decide +kernel) rfl (by decide) rfl (Nat.le_of_ble_eq_true rfl) dX0_set_1 ?_
  refine r_if_ne hκ (tgt := 14) (by decide) dX0_set_4 (fun h2 => ?_) (fun h2 => ?_)
  · replace h := (bte_i h).2 h2
    refine r_aload_n hκ 0 rfl rfl dX0_set_14 ?_
    refine r_iload_n hκ 1 rfl rfl dX0_set_15 ?_
    obtain ⟨h4, h⟩ := bck_i h
    obtain ⟨s2, v2, v3, h3, h⟩ := bclx_i h
    refine r_seq (A := (v3 = -1 → bJ κ s2 19 [(0, (2, a0)), (1, (0, a1)), (2, (0, a2)), (3, (1, a3))] [(2, v2)]) ∧ (¬ v3 = -1 → bT κ s2 16 [(0, (2, a0)), (1, (0, a1)), (2, (0, a2)), (3, (1, a3))] v2 v3)) ⟨fun h5 => ?_, fun h5 => ?_⟩ (fun k0 => r_xcallV hκ (n' := 1) (index := 110) (w_X0_rowIn Γ0 l0 h3) (lw_V q661 q663 qs3 q121 q664) (by decide +kernel) (t := 0) h4 rfl rfl (by decide) rfl (Nat.le_of_ble_eq_true rfl) dX0_set_16 (r_xj1 k0.1) (r_xj2 k0.2))
    · replace h := (bte_i h).1 h5
      refine r_iload_n hκ 2 rfl rfl dX0_set_19 ?_
      refine r_lload_n hκ 3 rfl rfl dX0_set_20 ?_
      obtain ⟨s3, v4, h6, h⟩ := bcl_i h
      refine r_callS hκ (n' := 3) (index := 114) (w_X0_puts Γ0 l0 h6) (lw_S q692 q693 q121 q694) (by decide +kernel) rfl (by decide) rfl (Nat.le_of_ble_eq_true rfl) dX0_set_21 ?_
      refine r_iconst hκ dX0_set_24 ?_
      exact x_ret hκ hf (x_P h) (fun κ hκ hf => r_iret hκ hf (nar_int _) dX0_set_25)
    · replace h := (bte_i h).2 h5
      by_cases h7 : v3 = 0
      · replace h := (bte_i h).1 h7
        refine r_xcatchE hκ ht (jn := 0) (ih := 0) (E := "EditsMeet$Refused") (name := "EditsMeet$Refused") h7 rfl rfl (fun z hz => nomatch hz) (by decide) (by decide) q641 (by decide +kernel) ?_
        exact r_sub [0] rfl (w_X0_set_r hκ hi ht hf 0 _ _ _ h)
      replace h := (bte_i h).2 h7
      cases h
  · replace h := (bte_i h).1 h2
    refine r_aload_n hκ 0 rfl rfl dX0_set_7 ?_
    refine r_bipush hκ (by decide) dX0_set_8 ?_
    obtain ⟨h8, h⟩ := bck_i h
    obtain ⟨s4, v5, h9, h⟩ := bcl_i h
    refine r_callV hκ (n' := 1) (index := 79) (w_X0_no Γ0 l0 h9) (lw_V q627 q629 qs2 q121 q630) (by decide +kernel) (t := 0) h8 rfl rfl (by decide) rfl (Nat.le_of_ble_eq_true rfl) dX0_set_10 ?_
    exact x_ret hκ hf (x_P h) (fun κ hκ hf => r_iret hκ hf (nar_int _) dX0_set_13)
/-- EditsMeet.copy(IIIII)I -/
def F_X0_copy_r (b : Nat) (x0 : Int) (s0 : bS) : Option (bS × Int × Int) :=
  match b with
  | 0 =>
    bck (bg s0 0 x0 0 = 1) <|
    bcl (F_X0_no s0 x0 (-2)) fun s4 v3 =>
    some (s4, v3, -1)
  | 1 =>
    bck (bg s0 0 x0 0 = 1) <|
    bcl (F_X0_no s0 x0 (-3)) fun s5 v4 =>
    some (s5, v4, -1)
  | _ => none
def F_X0_copy (s0 : bS) (a0 a1 a2 a3 a4 a5 : Int) : Option (bS × Int × Int) :=
  bcl (F_X0_isShelf s0 a1) fun s1 v1 =>
  bte (i32 v1 = 0)
  (F_X0_copy_r 0 a0 s1)
  (bcl (F_X0_isShelf s1 a2) fun s2 v2 =>
  bte (i32 v2 = 0)
  (F_X0_copy_r 0 a0 s2)
  (bck (bg s2 0 a0 0 = 1) <|
  bck (bg s2 0 (bg s2 50 a0 0) 0 = 1009 ∧ (0 : Int) ≤ a1 ∧ a1 < bg s2 4 (bg s2 50 a0 0) 0) <|
  bck (bg s2 0 (bg s2 10 (bg s2 50 a0 0) a1) 0 = 10) <|
  bck (bg s2 0 a0 0 = 1) <|
  bck (bg s2 0 (bg s2 50 a0 0) 0 = 1009 ∧ (0 : Int) ≤ a2 ∧ a2 < bg s2 4 (bg s2 50 a0 0) 0) <|
  bck (bg s2 0 (bg s2 10 (bg s2 50 a0 0) a2) 0 = 10) <|
  bte (bg s2 0 (bg s2 210 (bg s2 10 (bg s2 50 a0 0) a1) 0) 0 = 6 ∨ bg s2 0 (bg s2 210 (bg s2 10 (bg s2 50 a0 0) a1) 0) 0 = 15 ∨ bg s2 0 (bg s2 210 (bg s2 10 (bg s2 50 a0 0) a1) 0) 0 = 16 ∨ bg s2 0 (bg s2 210 (bg s2 10 (bg s2 50 a0 0) a1) 0) 0 = 17) (F_X0_copy_r 1 a0 s2) (bck ((bg s2 210 (bg s2 10 (bg s2 50 a0 0) a1) 0) < 0 ∨ False) <| bte (bg s2 0 (bg s2 210 (bg s2 10 (bg s2 50 a0 0) a2) 0) 0 = 6 ∨ bg s2 0 (bg s2 210 (bg s2 10 (bg s2 50 a0 0) a2) 0) 0 = 15 ∨ bg s2 0 (bg s2 210 (bg s2 10 (bg s2 50 a0 0) a2) 0) 0 = 16 ∨ bg s2 0 (bg s2 210 (bg s2 10 (bg s2 50 a0 0) a2) 0) 0 = 17) (F_X0_copy_r 1 a0 s2) (bck ((bg s2 210 (bg s2 10 (bg s2 50 a0 0) a2) 0) < 0 ∨ False) <| bck ((bg s2 0 (bg s2 210 (bg s2 10 (bg s2 50 a0 0) a1) 0) 0 = 1000 ∧ bg s2 0 (bg s2 210 (bg s2 10 (bg s2 50 a0 0) a2) 0) 0 = 1000) ∧ ((0 : Int) ≤ a3 ∧ (0 : Int) ≤ a4 ∧ (0 : Int) ≤ a5) ∧ (a3 + a5 ≤ bg s2 4 (bg s2 210 (bg s2 10 (bg s2 50 a0 0) a1) 0) 0 ∧ a4 + a5 ≤ bg s2 4 (bg s2 210 (bg s2 10 (bg s2 50 a0 0) a2) 0) 0) ∧ bg s2 1 (-1) 0 ≤ (bg s2 210 (bg s2 10 (bg s2 50 a0 0) a2) 0)) <|
  bst (bcp s2 8 (bg s2 210 (bg s2 10 (bg s2 50 a0 0) a1) 0) a3 (bg s2 210 (bg s2 10 (bg s2 50 a0 0) a2) 0) a4 a5) fun s3 =>
  some (s3, a5, -1)))))
set_option maxHeartbeats 4000000 in
set_option maxRecDepth 100000 in
set_option synthInstance.maxHeartbeats 4000000 in
theorem w_X0_copy_r {Γ0 : bG} {l0 : Launch} {κ : bK} {st' : bS} {v xx : Int} (hκ : bOk κ Γ0 l0 cX0_copy RX0 9 2 42) (hi : bIn κ yX0_copy) (ht : xTab κ [(66, 80, 81, 126), (66, 80, 90, 128), (66, 80, 99, 130)]) (hf : xFin κ (some .int) (some 0) (bEq st' v xx)) (b : Nat) (x0 : Int) (s0 : bS) (h : F_X0_copy_r b x0 s0 = some (st', v, xx)) : match (generalizing := false) b with | 0 => bJ κ s0 14 [(0, (2, x0))] [] | 1 => bJ κ s0 59 [(0, (2, x0))] [] | _ => True := by
  unfold F_X0_copy_r at h
  match b, h with
  | 0, h =>
      refine r_aload_n hκ 0 rfl rfl dX0_copy_14 ?_
      refine r_bipush hκ (by decide) dX0_copy_15 ?_
      obtain ⟨h26, h⟩ := bck_i h
      obtain ⟨s4, v3, h27, h⟩ := bcl_i h
      refine r_callV hκ (n' := 1) (index := 79) (w_X0_no Γ0 l0 h27) (lw_V q627 q629 qs2 q121 q630) (by decide +kernel) (t := 0) h26 rfl rfl (by decide) rfl (Nat.le_of_ble_eq_true rfl) dX0_copy_17 ?_
      exact x_ret hκ hf (x_P h) (fun κ hκ hf => r_iret hκ hf (nar_int _) dX0_copy_20)
  | 1, h =>
      refine r_aload_n hκ 0 rfl rfl dX0_copy_59 ?_
      refine r_bipush hκ (by decide) dX0_copy_60 ?_
      obtain ⟨h28, h⟩ := bck_i h
      obtain ⟨s5, v4, h29, h⟩ := bcl_i h
      refine r_callV hκ (n' := 1) (index := 79) (w_X0_no Γ0 l0 h29) (lw_V q627 q629 qs2 q121 q630) (by decide +kernel) (t := 0) h28 rfl rfl (by decide) rfl (Nat.le_of_ble_eq_true rfl) dX0_copy_62 ?_
      exact x_ret hκ hf (x_P h) (fun κ hκ hf => r_iret hκ hf (nar_int _) dX0_copy_65)
  | b + 2, h => trivial
set_option maxHeartbeats 4000000 in
set_option maxRecDepth 100000 in
theorem w_X0_copy (Γ0 : bG) (l0 : Launch) {s0 st' : bS} {v xx a0 a1 a2 a3 a4 a5 : Int} (h : F_X0_copy s0 a0 a1 a2 a3 a4 a5 = some (st', v, xx)) : bCx Γ0 l0 yX0_copy (wsW_ yX0_copy cX0_copy 9 (some .int) [(66, 80, 81, 126), (66, 80, 90, 128), (66, 80, 99, 130)]) 2 42 (some 0) [(2, a0), (0, a1), (0, a2), (0, a3), (0, a4), (0, a5)] s0 (bEq st' v xx) := by
  refine xb_entW (own := RX0) (by decide +kernel) rfl (Nat.le_of_ble_eq_true rfl) (L := [(0, (2, a0)), (1, (0, a1)), (2, (0, a2)), (3, (0, a3)), (4, (0, a4)), (5, (0, a5))]) rfl ?_
  intro κ hκ hi ht hf
  unfold F_X0_copy at h
  refine r_iload_n hκ 1 rfl rfl dX0_copy_0 ?_
  obtain ⟨s1, v1, h1, h⟩ := bcl_i h
  refine r_callS hκ (n' := 1) (index := 95) (w_X0_isShelf Γ0 l0 h1) (lw_S q621 q622 q121 q623) (by decide +kernel) rfl (by decide) rfl (Nat.le_of_ble_eq_true rfl) dX0_copy_1 ?_
  refine r_if_eq hκ (tgt := 14) (by decide) dX0_copy_4 (fun h2 => ?_) (fun h2 => ?_)
  · replace h := (bte_i h).1 h2
    exact r_sub [0] rfl (w_X0_copy_r hκ hi ht hf 0 _ _ h)
  · replace h := (bte_i h).2 h2
    refine r_iload_n hκ 2 rfl rfl dX0_copy_7 ?_
    obtain ⟨s2, v2, h3, h⟩ := bcl_i h
    refine r_callS hκ (n' := 1) (index := 95) (w_X0_isShelf Γ0 l0 h3) (lw_S q621 q622 q121 q623) (by decide +kernel) rfl (by decide) rfl (Nat.le_of_ble_eq_true rfl) dX0_copy_8 ?_
    refine r_if_ne hκ (tgt := 21) (by decide) dX0_copy_11 (fun h4 => ?_) (fun h4 => ?_)
    · replace h := (bte_i h).2 h4
      refine r_aload_n hκ 0 rfl rfl dX0_copy_21 ?_
      obtain ⟨h5, h⟩ := bck_i h
      refine r_get hκ (t := 0) (k := 4) (r := 50) h5 rfl in_X0 (by decide) rfl q577 (Or.inl rfl) dX0_copy_22 ?_
      refine r_iload_n hκ 1 rfl rfl dX0_copy_25 ?_
      obtain ⟨⟨h6, h7⟩, h⟩ := bck_i h
      refine r_aald hκ (t := 9) (by decide) h6 h7 dX0_copy_26 ?_
      obtain ⟨h8, h⟩ := bck_i h
      refine r_get hκ (t := 9) (k := 0) (r := 210) h8 rfl in_X11 (by decide) rfl q569 (Or.inl rfl) dX0_copy_27 ?_
      refine r_astore hκ (L2 := [(6, (2, (bg s2 210 (bg s2 10 (bg s2 50 a0 0) a1) 0))), (0, (2, a0)), (1, (0, a1)), (2, (0, a2)), (3, (0, a3)), (4, (0, a4)), (5, (0, a5))]) (by decide) rfl dX0_copy_30 ?_
      refine r_aload_n hκ 1 rfl rfl dX0_copy_32 ?_
      obtain ⟨h9, h⟩ := bck_i h
      refine r_get hκ (t := 0) (k := 4) (r := 50) h9 rfl in_X0 (by decide) rfl q577 (Or.inl rfl) dX0_copy_33 ?_
      refine r_iload_n hκ 3 rfl rfl dX0_copy_36 ?_
      obtain ⟨⟨h10, h11⟩, h⟩ := bck_i h
      refine r_aald hκ (t := 9) (by decide) h10 h11 dX0_copy_37 ?_
      obtain ⟨h12, h⟩ := bck_i h
      refine r_get hκ (t := 9) (k := 0) (r := 210) h12 rfl in_X11 (by decide) rfl q569 (Or.inl rfl) dX0_copy_38 ?_
      refine r_astore hκ (L2 := [(7, (2, (bg s2 210 (bg s2 10 (bg s2 50 a0 0) a2) 0))), (6, (2, (bg s2 210 (bg s2 10 (bg s2 50 a0 0) a1) 0))), (0, (2, a0)), (1, (0, a1)), (2, (0, a2)), (3, (0, a3)), (4, (0, a4)), (5, (0, a5))]) (by decide) rfl dX0_copy_41 ?_
      refine r_aload hκ 1 rfl dX0_copy_43 ?_
      by_cases h13 : bg s2 0 (bg s2 210 (bg s2 10 (bg s2 50 a0 0) a1) 0) 0 = 6 ∨ bg s2 0 (bg s2 210 (bg s2 10 (bg s2 50 a0 0) a1) 0) 0 = 15 ∨ bg s2 0 (bg s2 210 (bg s2 10 (bg s2 50 a0 0) a1) 0) 0 = 16 ∨ bg s2 0 (bg s2 210 (bg s2 10 (bg s2 50 a0 0) a1) 0) 0 = 17
      · replace h := (bte_i h).1 h13
        refine r_instGY hκ q665 (Or.elim h13 (fun h13 => ⟨6, _, h13, by decide, rfl, Or.inr (by decide +kernel)⟩) (fun h13 => Or.elim h13 (fun h13 => ⟨15, _, h13, by decide, rfl, Or.inr (by decide +kernel)⟩) (fun h13 => Or.elim h13 (fun h13 => ⟨16, _, h13, by decide, rfl, Or.inr (by decide +kernel)⟩) (fun h13 => ⟨17, _, h13, by decide, rfl, Or.inr (by decide +kernel)⟩)))) dX0_copy_45 ?_
        refine r_if_ne hκ (tgt := 59) (by decide) dX0_copy_48 (fun _ => ?_) (fun hc => absurd hc (by decide))
        exact r_sub [2] rfl (w_X0_copy_r hκ hi ht hf 1 _ _ h)
      · replace h := (bte_i h).2 h13
        obtain ⟨h14, h⟩ := bck_i h
        refine r_instGN hκ q665 (Or.elim h14 (fun h14 => Or.inl h14) (fun h14 => h14.elim)) dX0_copy_45 ?_
        refine r_if_ne hκ (tgt := 59) (by decide) dX0_copy_48 (fun hc => absurd hc (by decide)) (fun _ => ?_)
        refine r_aload hκ 0 rfl dX0_copy_51 ?_
        by_cases h15 : bg s2 0 (bg s2 210 (bg s2 10 (bg s2 50 a0 0) a2) 0) 0 = 6 ∨ bg s2 0 (bg s2 210 (bg s2 10 (bg s2 50 a0 0) a2) 0) 0 = 15 ∨ bg s2 0 (bg s2 210 (bg s2 10 (bg s2 50 a0 0) a2) 0) 0 = 16 ∨ bg s2 0 (bg s2 210 (bg s2 10 (bg s2 50 a0 0) a2) 0) 0 = 17
        · replace h := (bte_i h).1 h15
          refine r_instGY hκ q665 (Or.elim h15 (fun h15 => ⟨6, _, h15, by decide, rfl, Or.inr (by decide +kernel)⟩) (fun h15 => Or.elim h15 (fun h15 => ⟨15, _, h15, by decide, rfl, Or.inr (by decide +kernel)⟩) (fun h15 => Or.elim h15 (fun h15 => ⟨16, _, h15, by decide, rfl, Or.inr (by decide +kernel)⟩) (fun h15 => ⟨17, _, h15, by decide, rfl, Or.inr (by decide +kernel)⟩)))) dX0_copy_53 ?_
          refine r_if_eq hκ (tgt := 66) (by decide) dX0_copy_56 (fun hc => absurd hc (by decide)) (fun _ => ?_)
          exact r_sub [2] rfl (w_X0_copy_r hκ hi ht hf 1 _ _ h)
        · replace h := (bte_i h).2 h15
          obtain ⟨h16, h⟩ := bck_i h
          refine r_instGN hκ q665 (Or.elim h16 (fun h16 => Or.inl h16) (fun h16 => h16.elim)) dX0_copy_53 ?_
          refine r_if_eq hκ (tgt := 66) (by decide) dX0_copy_56 (fun _ => ?_) (fun hc => absurd hc (by decide))
          refine r_aload hκ 1 rfl dX0_copy_66 ?_
          refine r_iload_n hκ 5 rfl rfl dX0_copy_68 ?_
          refine r_aload hκ 0 rfl dX0_copy_69 ?_
          refine r_iload hκ 6 rfl dX0_copy_71 ?_
          refine r_iload hκ 7 rfl dX0_copy_73 ?_
          obtain ⟨⟨⟨h17, h18⟩, ⟨h19, h20, h21⟩, ⟨h22, h23⟩, h24⟩, h⟩ := bck_i h
          refine r_acopy hκ (t := 0) (er := 8) h17 h18 (Or.inl (by decide)) rfl h19 h20 h21 h22 h23 h24 (fun h9 => absurd h9 (by decide)) q741 q743 q742 q152 (by decide) (Nat.le_of_ble_eq_true rfl) dX0_copy_75 (fun s3 es3 => ?_)
          replace h := bst_i h s3 es3
          refine r_iload hκ 7 rfl dX0_copy_78 ?_
          exact x_ret hκ hf (x_P h) (fun κ hκ hf => r_iret hκ hf (nar_int _) dX0_copy_80)
    · replace h := (bte_i h).1 h4
      exact r_sub [0] rfl (w_X0_copy_r hκ hi ht hf 0 _ _ h)
/-- EditsMeet.elementOf(Ljava/lang/Object;I)J -/
def F_X0_elementOf (s0 : bS) (a0 a1 : Int) : Option (bS × Int) :=
  bcl (F_X0_sortOf s0 a0) fun s1 v1 =>
  bte (b_t v1 = 0) (bck (a0 < 0 ∨ bg s1 0 a0 0 = 1000) <|
  bck (bg s1 0 a0 0 = 1000 ∧ (0 : Int) ≤ a1 ∧ a1 < bg s1 4 a0 0) <|
  some (s1, (b_i2l (bg s1 8 a0 a1)))) (bte (b_t v1 = 1) (bck (a0 < 0 ∨ bg s1 0 a0 0 = 1002) <|
  bck (bg s1 0 a0 0 = 1002 ∧ (0 : Int) ≤ a1 ∧ a1 < bg s1 4 a0 0) <|
  some (s1, (b_i2l (bg s1 16 a0 a1)))) (bte (b_t v1 = 2) (bck (a0 < 0 ∨ bg s1 0 a0 0 = 1003) <|
  bck (bg s1 0 a0 0 = 1003 ∧ (0 : Int) ≤ a1 ∧ a1 < bg s1 4 a0 0) <|
  some (s1, (b_i2l (bg s1 20 a0 a1)))) (bte (b_t v1 = 3) (bck (a0 < 0 ∨ bg s1 0 a0 0 = 1005) <|
  bck (bg s1 0 a0 0 = 1005 ∧ (0 : Int) ≤ a1 ∧ a1 < bg s1 4 a0 0) <|
  some (s1, (bg s1 9 a0 a1))) (bck (a0 < 0 ∨ bg s1 0 a0 0 = 1001) <|
  bck (bg s1 0 a0 0 = 1001 ∧ (0 : Int) ≤ a1 ∧ a1 < bg s1 4 a0 0) <|
  bte (i32 (bg s1 12 a0 a1) = 0)
  (some (s1, 0))
  (some (s1, 1))))))
set_option maxHeartbeats 4000000 in
set_option maxRecDepth 100000 in
theorem w_X0_elementOf (Γ0 : bG) (l0 : Launch) {s0 st' : bS} {v a0 a1 : Int} (h : F_X0_elementOf s0 a0 a1 = some (st', v)) : bCt Γ0 l0 yX0_elementOf cX0_elementOf 2 (some .long) 1 20 [(2, a0), (0, a1)] s0 st' (some (1, v)) := by
  refine b_ent (own := RX0) (by decide +kernel) rfl (Nat.le_of_ble_eq_true rfl) (L := [(0, (2, a0)), (1, (0, a1))]) rfl ?_
  intro κ hκ hi hf
  unfold F_X0_elementOf at h
  refine r_aload_n hκ 0 rfl rfl dX0_elementOf_0 ?_
  obtain ⟨s1, v1, h1, h⟩ := bcl_i h
  refine r_callS hκ (n' := 1) (index := 89) (w_X0_sortOf Γ0 l0 h1) (lw_S q695 q696 q121 q697) (by decide +kernel) rfl (by decide) rfl (Nat.le_of_ble_eq_true rfl) dX0_elementOf_1 ?_
  by_cases h2 : b_t v1 = 0
  · replace h := (bte_i h).1 h2
    refine r_tswIn hκ (kk := 0) (tgt := 36) h2 (by decide) (by decide) rfl (by decide) dX0_elementOf_4 ?_
    refine r_aload_n hκ 0 rfl rfl dX0_elementOf_36 ?_
    obtain ⟨h3, h⟩ := bck_i h
    refine r_castG hκ q698 (Or.elim h3 (fun h3 => Or.inl h3) (fun h3 => Or.inr ⟨1000, _, h3, by decide, rfl, Or.inl (by decide +kernel)⟩)) dX0_elementOf_37 ?_
    refine r_iload_n hκ 1 rfl rfl dX0_elementOf_40 ?_
    obtain ⟨⟨h4, h5⟩, h⟩ := bck_i h
    refine r_bald hκ h4 h5 dX0_elementOf_41 ?_
    refine r_i2l hκ dX0_elementOf_42 ?_
    exact r_lretH hκ hf h dX0_elementOf_43
  replace h := (bte_i h).2 h2
  by_cases h6 : b_t v1 = 1
  · replace h := (bte_i h).1 h6
    refine r_tswIn hκ (kk := 1) (tgt := 44) h6 (by decide) (by decide) rfl (by decide) dX0_elementOf_4 ?_
    refine r_aload_n hκ 0 rfl rfl dX0_elementOf_44 ?_
    obtain ⟨h7, h⟩ := bck_i h
    refine r_castG hκ q699 (Or.elim h7 (fun h7 => Or.inl h7) (fun h7 => Or.inr ⟨1002, _, h7, by decide, rfl, Or.inl (by decide +kernel)⟩)) dX0_elementOf_45 ?_
    refine r_iload_n hκ 1 rfl rfl dX0_elementOf_48 ?_
    obtain ⟨⟨h8, h9⟩, h⟩ := bck_i h
    refine r_sald hκ h8 h9 dX0_elementOf_49 ?_
    refine r_i2l hκ dX0_elementOf_50 ?_
    exact r_lretH hκ hf h dX0_elementOf_51
  replace h := (bte_i h).2 h6
  by_cases h10 : b_t v1 = 2
  · replace h := (bte_i h).1 h10
    refine r_tswIn hκ (kk := 2) (tgt := 52) h10 (by decide) (by decide) rfl (by decide) dX0_elementOf_4 ?_
    refine r_aload_n hκ 0 rfl rfl dX0_elementOf_52 ?_
    obtain ⟨h11, h⟩ := bck_i h
    refine r_castG hκ q700 (Or.elim h11 (fun h11 => Or.inl h11) (fun h11 => Or.inr ⟨1003, _, h11, by decide, rfl, Or.inl (by decide +kernel)⟩)) dX0_elementOf_53 ?_
    refine r_iload_n hκ 1 rfl rfl dX0_elementOf_56 ?_
    obtain ⟨⟨h12, h13⟩, h⟩ := bck_i h
    refine r_iald hκ h12 h13 dX0_elementOf_57 ?_
    refine r_i2l hκ dX0_elementOf_58 ?_
    exact r_lretH hκ hf h dX0_elementOf_59
  replace h := (bte_i h).2 h10
  by_cases h14 : b_t v1 = 3
  · replace h := (bte_i h).1 h14
    refine r_tswIn hκ (kk := 3) (tgt := 60) h14 (by decide) (by decide) rfl (by decide) dX0_elementOf_4 ?_
    refine r_aload_n hκ 0 rfl rfl dX0_elementOf_60 ?_
    obtain ⟨h15, h⟩ := bck_i h
    refine r_castG hκ q701 (Or.elim h15 (fun h15 => Or.inl h15) (fun h15 => Or.inr ⟨1005, _, h15, by decide, rfl, Or.inl (by decide +kernel)⟩)) dX0_elementOf_61 ?_
    refine r_iload_n hκ 1 rfl rfl dX0_elementOf_64 ?_
    obtain ⟨⟨h16, h17⟩, h⟩ := bck_i h
    refine r_lald hκ h16 h17 dX0_elementOf_65 ?_
    exact r_lretH hκ hf h dX0_elementOf_66
  replace h := (bte_i h).2 h14
  refine r_tswOut hκ (tgt := 67) (by omega) (by decide) dX0_elementOf_4 ?_
  refine r_aload_n hκ 0 rfl rfl dX0_elementOf_67 ?_
  obtain ⟨h18, h⟩ := bck_i h
  refine r_castG hκ q702 (Or.elim h18 (fun h18 => Or.inl h18) (fun h18 => Or.inr ⟨1001, _, h18, by decide, rfl, Or.inl (by decide +kernel)⟩)) dX0_elementOf_68 ?_
  refine r_iload_n hκ 1 rfl rfl dX0_elementOf_71 ?_
  obtain ⟨⟨h19, h20⟩, h⟩ := bck_i h
  refine r_zald hκ h19 h20 dX0_elementOf_72 ?_
  refine r_if_eq hκ (tgt := 80) (by decide) dX0_elementOf_73 (fun h21 => ?_) (fun h21 => ?_)
  · replace h := (bte_i h).1 h21
    refine r_lconst hκ (x := 0) (by decide) dX0_elementOf_80 ?_
    exact r_lretH hκ hf h dX0_elementOf_81
  · replace h := (bte_i h).2 h21
    refine r_lconst hκ (x := 1) (by decide) dX0_elementOf_76 ?_
    refine r_goto hκ (tgt := 81) (by decide) dX0_elementOf_77 ?_
    exact r_lretH hκ hf h dX0_elementOf_81
/-- EditsMeet.element(II)J -/
def F_X0_element (s0 : bS) (a0 a1 a2 : Int) : Option (bS × Int × Int) :=
  bcl (F_X0_isShelf s0 a1) fun s1 v1 =>
  bte (i32 v1 = 0)
  (some (s1, 0, -1))
  (bck (bg s1 0 a0 0 = 1) <|
  bclx (F_X0_rowIn s1 a0 a1) fun s2 v2 v3 =>
  bte (v3 = -1)
  (bcl (F_X0_elementOf s2 v2 a2) fun s3 v4 =>
  some (s3, v4, -1))
  (bte (v3 = 0) (some (s2, 0, -1)) (none)))
set_option maxHeartbeats 4000000 in
set_option maxRecDepth 100000 in
theorem w_X0_element (Γ0 : bG) (l0 : Launch) {s0 st' : bS} {v xx a0 a1 a2 : Int} (h : F_X0_element s0 a0 a1 a2 = some (st', v, xx)) : bCx Γ0 l0 yX0_element (wsW_ yX0_element cX0_element 4 (some .long) [(9, 18, 19, 53), (9, 18, 22, 118)]) 6 135 (some 1) [(2, a0), (0, a1), (0, a2)] s0 (bEq st' v xx) := by
  refine xb_entW (own := RX0) (by decide +kernel) rfl (Nat.le_of_ble_eq_true rfl) (L := [(0, (2, a0)), (1, (0, a1)), (2, (0, a2))]) rfl ?_
  intro κ hκ hi ht hf
  unfold F_X0_element at h
  refine r_iload_n hκ 1 rfl rfl dX0_element_0 ?_
  obtain ⟨s1, v1, h1, h⟩ := bcl_i h
  refine r_callS hκ (n' := 1) (index := 95) (w_X0_isShelf Γ0 l0 h1) (lw_S q621 q622 q121 q623) (by decide +kernel) rfl (by decide) rfl (Nat.le_of_ble_eq_true rfl) dX0_element_1 ?_
  refine r_if_ne hκ (tgt := 9) (by decide) dX0_element_4 (fun h2 => ?_) (fun h2 => ?_)
  · replace h := (bte_i h).2 h2
    refine r_aload_n hκ 0 rfl rfl dX0_element_9 ?_
    refine r_iload_n hκ 1 rfl rfl dX0_element_10 ?_
    obtain ⟨h4, h⟩ := bck_i h
    obtain ⟨s2, v2, v3, h3, h⟩ := bclx_i h
    refine r_seq (A := (v3 = -1 → bJ κ s2 14 [(0, (2, a0)), (1, (0, a1)), (2, (0, a2))] [(2, v2)]) ∧ (¬ v3 = -1 → bT κ s2 11 [(0, (2, a0)), (1, (0, a1)), (2, (0, a2))] v2 v3)) ⟨fun h5 => ?_, fun h5 => ?_⟩ (fun k0 => r_xcallV hκ (n' := 1) (index := 110) (w_X0_rowIn Γ0 l0 h3) (lw_V q661 q663 qs3 q121 q664) (by decide +kernel) (t := 0) h4 rfl rfl (by decide) rfl (Nat.le_of_ble_eq_true rfl) dX0_element_11 (r_xj1 k0.1) (r_xj2 k0.2))
    · replace h := (bte_i h).1 h5
      refine r_iload_n hκ 2 rfl rfl dX0_element_14 ?_
      obtain ⟨s3, v4, h6, h⟩ := bcl_i h
      refine r_callS hκ (n' := 2) (index := 132) (w_X0_elementOf Γ0 l0 h6) (lw_S q748 q749 q121 q750) (by decide +kernel) rfl (by decide) rfl (Nat.le_of_ble_eq_true rfl) dX0_element_15 ?_
      exact x_ret hκ hf (x_P h) (fun κ hκ hf => r_lret hκ hf dX0_element_18)
    · replace h := (bte_i h).2 h5
      by_cases h7 : v3 = 0
      · replace h := (bte_i h).1 h7
        refine r_xcatchE hκ ht (jn := 0) (ih := 0) (E := "EditsMeet$Refused") (name := "EditsMeet$Refused") h7 rfl rfl (fun z hz => nomatch hz) (by decide) (by decide) q641 (by decide +kernel) ?_
        refine r_astore_n hκ (L2 := [(3, (2, v2)), (0, (2, a0)), (1, (0, a1)), (2, (0, a2))]) (by decide) rfl rfl dX0_element_19 ?_
        refine r_lconst hκ (x := 0) (by decide) dX0_element_20 ?_
        exact x_ret hκ hf (x_P h) (fun κ hκ hf => r_lret hκ hf dX0_element_21)
      replace h := (bte_i h).2 h7
      cases h
  · replace h := (bte_i h).1 h2
    refine r_lconst hκ (x := 0) (by decide) dX0_element_7 ?_
    exact x_ret hκ hf (x_P h) (fun κ hκ hf => r_lret hκ hf dX0_element_8)
/-- EditsMeet.holds(I)I -/
def F_X0_holds (s0 : bS) (a0 a1 : Int) : Option (bS × Int) :=
  bcl (F_X0_isShelf s0 a1) fun s1 v1 =>
  bte (i32 v1 = 0)
  (some (s1, (-1)))
  (bck (bg s1 0 a0 0 = 1) <|
  bck (bg s1 0 (bg s1 50 a0 0) 0 = 1009 ∧ (0 : Int) ≤ a1 ∧ a1 < bg s1 4 (bg s1 50 a0 0) 0) <|
  bck (bg s1 0 (bg s1 10 (bg s1 50 a0 0) a1) 0 = 10) <|
  bte ((bg s1 210 (bg s1 10 (bg s1 50 a0 0) a1) 0) < 0)
  (some (s1, (-1)))
  (bck (bg s1 0 a0 0 = 1) <|
  bck (bg s1 0 (bg s1 50 a0 0) 0 = 1009 ∧ (0 : Int) ≤ a1 ∧ a1 < bg s1 4 (bg s1 50 a0 0) 0) <|
  bck (bg s1 0 (bg s1 10 (bg s1 50 a0 0) a1) 0 = 10) <|
  bte (bg s1 0 (bg s1 210 (bg s1 10 (bg s1 50 a0 0) a1) 0) 0 = 6 ∨ bg s1 0 (bg s1 210 (bg s1 10 (bg s1 50 a0 0) a1) 0) 0 = 15 ∨ bg s1 0 (bg s1 210 (bg s1 10 (bg s1 50 a0 0) a1) 0) 0 = 16 ∨ bg s1 0 (bg s1 210 (bg s1 10 (bg s1 50 a0 0) a1) 0) 0 = 17) (bck ((bg s1 210 (bg s1 10 (bg s1 50 a0 0) a1) 0) < 0 ∨ bg s1 0 (bg s1 210 (bg s1 10 (bg s1 50 a0 0) a1) 0) 0 = 6 ∨ bg s1 0 (bg s1 210 (bg s1 10 (bg s1 50 a0 0) a1) 0) 0 = 15 ∨ bg s1 0 (bg s1 210 (bg s1 10 (bg s1 50 a0 0) a1) 0) 0 = 16 ∨ bg s1 0 (bg s1 210 (bg s1 10 (bg s1 50 a0 0) a1) 0) 0 = 17) <|
  bcl (bte (bg s1 0 (bg s1 210 (bg s1 10 (bg s1 50 a0 0) a1) 0) 0 = 6) (F_X7_kind s1 (bg s1 210 (bg s1 10 (bg s1 50 a0 0) a1) 0)) (bte (bg s1 0 (bg s1 210 (bg s1 10 (bg s1 50 a0 0) a1) 0) 0 = 15) (F_X16_kind s1 (bg s1 210 (bg s1 10 (bg s1 50 a0 0) a1) 0)) (bte (bg s1 0 (bg s1 210 (bg s1 10 (bg s1 50 a0 0) a1) 0) 0 = 16) (F_X17_kind s1 (bg s1 210 (bg s1 10 (bg s1 50 a0 0) a1) 0)) (bte (bg s1 0 (bg s1 210 (bg s1 10 (bg s1 50 a0 0) a1) 0) 0 = 17) (F_X18_kind s1 (bg s1 210 (bg s1 10 (bg s1 50 a0 0) a1) 0)) (none))))) fun s2 v2 =>
  some (s2, (10 + v2))) (bck ((bg s1 210 (bg s1 10 (bg s1 50 a0 0) a1) 0) < 0 ∨ False) <| bcl (F_X0_sortOf s1 (bg s1 210 (bg s1 10 (bg s1 50 a0 0) a1) 0)) fun s3 v3 =>
  some (s3, v3))))
set_option maxHeartbeats 4000000 in
set_option maxRecDepth 100000 in
theorem w_X0_holds (Γ0 : bG) (l0 : Launch) {s0 st' : bS} {v a0 a1 : Int} (h : F_X0_holds s0 a0 a1 = some (st', v)) : bCt Γ0 l0 yX0_holds cX0_holds 3 (some .int) 2 42 [(2, a0), (0, a1)] s0 st' (some (0, v)) := by
  refine b_ent (own := RX0) (by decide +kernel) rfl (Nat.le_of_ble_eq_true rfl) (L := [(0, (2, a0)), (1, (0, a1))]) rfl ?_
  intro κ hκ hi hf
  unfold F_X0_holds at h
  refine r_iload_n hκ 1 rfl rfl dX0_holds_0 ?_
  obtain ⟨s1, v1, h1, h⟩ := bcl_i h
  refine r_callS hκ (n' := 1) (index := 95) (w_X0_isShelf Γ0 l0 h1) (lw_S q621 q622 q121 q623) (by decide +kernel) rfl (by decide) rfl (Nat.le_of_ble_eq_true rfl) dX0_holds_1 ?_
  refine r_if_eq hκ (tgt := 19) (by decide) dX0_holds_4 (fun h2 => ?_) (fun h2 => ?_)
  · replace h := (bte_i h).1 h2
    refine r_iconst hκ dX0_holds_19 ?_
    exact r_iretH hκ hf h (nar_int _) dX0_holds_20
  · replace h := (bte_i h).2 h2
    refine r_aload_n hκ 0 rfl rfl dX0_holds_7 ?_
    obtain ⟨h3, h⟩ := bck_i h
    refine r_get hκ (t := 0) (k := 4) (r := 50) h3 rfl in_X0 (by decide) rfl q577 (Or.inl rfl) dX0_holds_8 ?_
    refine r_iload_n hκ 1 rfl rfl dX0_holds_11 ?_
    obtain ⟨⟨h4, h5⟩, h⟩ := bck_i h
    refine r_aald hκ (t := 9) (by decide) h4 h5 dX0_holds_12 ?_
    obtain ⟨h6, h⟩ := bck_i h
    refine r_get hκ (t := 9) (k := 0) (r := 210) h6 rfl in_X11 (by decide) rfl q569 (Or.inl rfl) dX0_holds_13 ?_
    refine r_ifnonnull hκ (tgt := 21) (by decide) dX0_holds_16 (fun h7 => ?_) (fun h7 => ?_)
    · replace h := (bte_i h).2 h7
      refine r_aload_n hκ 0 rfl rfl dX0_holds_21 ?_
      obtain ⟨h8, h⟩ := bck_i h
      refine r_get hκ (t := 0) (k := 4) (r := 50) h8 rfl in_X0 (by decide) rfl q577 (Or.inl rfl) dX0_holds_22 ?_
      refine r_iload_n hκ 1 rfl rfl dX0_holds_25 ?_
      obtain ⟨⟨h9, h10⟩, h⟩ := bck_i h
      refine r_aald hκ (t := 9) (by decide) h9 h10 dX0_holds_26 ?_
      obtain ⟨h11, h⟩ := bck_i h
      refine r_get hκ (t := 9) (k := 0) (r := 210) h11 rfl in_X11 (by decide) rfl q569 (Or.inl rfl) dX0_holds_27 ?_
      refine r_astore_n hκ (L2 := [(2, (2, (bg s1 210 (bg s1 10 (bg s1 50 a0 0) a1) 0))), (0, (2, a0)), (1, (0, a1))]) (by decide) rfl rfl dX0_holds_30 ?_
      refine r_aload_n hκ 0 rfl rfl dX0_holds_31 ?_
      by_cases h12 : bg s1 0 (bg s1 210 (bg s1 10 (bg s1 50 a0 0) a1) 0) 0 = 6 ∨ bg s1 0 (bg s1 210 (bg s1 10 (bg s1 50 a0 0) a1) 0) 0 = 15 ∨ bg s1 0 (bg s1 210 (bg s1 10 (bg s1 50 a0 0) a1) 0) 0 = 16 ∨ bg s1 0 (bg s1 210 (bg s1 10 (bg s1 50 a0 0) a1) 0) 0 = 17
      · replace h := (bte_i h).1 h12
        refine r_instGY hκ q665 (Or.elim h12 (fun h12 => ⟨6, _, h12, by decide, rfl, Or.inr (by decide +kernel)⟩) (fun h12 => Or.elim h12 (fun h12 => ⟨15, _, h12, by decide, rfl, Or.inr (by decide +kernel)⟩) (fun h12 => Or.elim h12 (fun h12 => ⟨16, _, h12, by decide, rfl, Or.inr (by decide +kernel)⟩) (fun h12 => ⟨17, _, h12, by decide, rfl, Or.inr (by decide +kernel)⟩)))) dX0_holds_32 ?_
        refine r_if_eq hκ (tgt := 53) (by decide) dX0_holds_35 (fun hc => absurd hc (by decide)) (fun _ => ?_)
        refine r_bipush hκ (by decide) dX0_holds_38 ?_
        refine r_aload_n hκ 0 rfl rfl dX0_holds_40 ?_
        obtain ⟨h14, h⟩ := bck_i h
        refine r_cast hκ q665 (Or.elim h14 (fun h14 => Or.inl h14) (fun h14 => Or.elim h14 (fun h14 => Or.inr ⟨5, _, h14, rfl, Or.inr (by decide +kernel)⟩) (fun h14 => Or.elim h14 (fun h14 => Or.inr ⟨14, _, h14, rfl, Or.inr (by decide +kernel)⟩) (fun h14 => Or.elim h14 (fun h14 => Or.inr ⟨15, _, h14, rfl, Or.inr (by decide +kernel)⟩) (fun h14 => Or.inr ⟨16, _, h14, rfl, Or.inr (by decide +kernel)⟩))))) dX0_holds_41 ?_
        obtain ⟨s2, v2, h15, h⟩ := bcl_i h
        refine r_seq (A := bJ κ s2 49 [(2, (2, (bg s1 210 (bg s1 10 (bg s1 50 a0 0) a1) 0))), (0, (2, a0)), (1, (0, a1))] [(0, v2), (0, 10)]) ?_ (fun k0 => ?_)
        case refine_2 =>
          by_cases h16 : bg s1 0 (bg s1 210 (bg s1 10 (bg s1 50 a0 0) a1) 0) 0 = 6
          · have hq0 := (bte_i h15).1 h16
            exact r_callF hκ (n' := 0) (index := 136) (C := "EditsMeet$Keep") (w_X7_kind Γ0 l0 hq0) (lw_app (lw_l4 q756 q776 q778 q139) (lw_meth q780)) (by decide +kernel) (by decide +kernel) (t := 5) h16 rfl rfl (by decide) rfl (Nat.le_of_ble_eq_true rfl) dX0_holds_44 k0
          replace h15 := (bte_i h15).2 h16
          by_cases h17 : bg s1 0 (bg s1 210 (bg s1 10 (bg s1 50 a0 0) a1) 0) 0 = 15
          · have hq0 := (bte_i h15).1 h17
            exact r_callF hκ (n' := 0) (index := 136) (C := "EditsMeet$Delete") (w_X16_kind Γ0 l0 hq0) (lw_app (lw_l4 q756 q760 q762 q164) (lw_meth q764)) (by decide +kernel) (by decide +kernel) (t := 14) h17 rfl rfl (by decide) rfl (Nat.le_of_ble_eq_true rfl) dX0_holds_44 k0
          replace h15 := (bte_i h15).2 h17
          by_cases h18 : bg s1 0 (bg s1 210 (bg s1 10 (bg s1 50 a0 0) a1) 0) 0 = 16
          · have hq0 := (bte_i h15).1 h18
            exact r_callF hκ (n' := 0) (index := 136) (C := "EditsMeet$Insert") (w_X17_kind Γ0 l0 hq0) (lw_app (lw_l4 q756 q770 q772 q165) (lw_meth q774)) (by decide +kernel) (by decide +kernel) (t := 15) h18 rfl rfl (by decide) rfl (Nat.le_of_ble_eq_true rfl) dX0_holds_44 k0
          replace h15 := (bte_i h15).2 h18
          by_cases h19 : bg s1 0 (bg s1 210 (bg s1 10 (bg s1 50 a0 0) a1) 0) 0 = 17
          · have hq0 := (bte_i h15).1 h19
            exact r_callF hκ (n' := 0) (index := 136) (C := "EditsMeet$Mark") (w_X18_kind Γ0 l0 hq0) (lw_app (lw_l4 q756 q782 q784 q166) (lw_meth q786)) (by decide +kernel) (by decide +kernel) (t := 16) h19 rfl rfl (by decide) rfl (Nat.le_of_ble_eq_true rfl) dX0_holds_44 k0
          replace h15 := (bte_i h15).2 h19
          cases h15
        refine r_iadd hκ dX0_holds_49 ?_
        refine r_goto hκ (tgt := 57) (by decide) dX0_holds_50 ?_
        exact r_iretH hκ hf h (nar_int _) dX0_holds_57
      · replace h := (bte_i h).2 h12
        obtain ⟨h13, h⟩ := bck_i h
        refine r_instGN hκ q665 (Or.elim h13 (fun h13 => Or.inl h13) (fun h13 => h13.elim)) dX0_holds_32 ?_
        refine r_if_eq hκ (tgt := 53) (by decide) dX0_holds_35 (fun _ => ?_) (fun hc => absurd hc (by decide))
        refine r_aload_n hκ 0 rfl rfl dX0_holds_53 ?_
        obtain ⟨s3, v3, h20, h⟩ := bcl_i h
        refine r_callS hκ (n' := 1) (index := 89) (w_X0_sortOf Γ0 l0 h20) (lw_S q695 q696 q121 q697) (by decide +kernel) rfl (by decide) rfl (Nat.le_of_ble_eq_true rfl) dX0_holds_54 ?_
        exact r_iretH hκ hf h (nar_int _) dX0_holds_57
    · replace h := (bte_i h).1 h7
      refine r_iconst hκ dX0_holds_19 ?_
      exact r_iretH hκ hf h (nar_int _) dX0_holds_20
/-- EditsMeet.isEdit(I)Z -/
def F_X0_isEdit (s0 : bS) (a0 : Int) : Option (bS × Int) :=
  bcl (F_X0_isIn s0 a0 0 11) fun s1 v1 =>
  bck (v1 = 0 ∨ v1 = 1) <|
  some (s1, v1)
set_option maxHeartbeats 4000000 in
set_option maxRecDepth 100000 in
theorem w_X0_isEdit (Γ0 : bG) (l0 : Launch) {s0 st' : bS} {v a0 : Int} (h : F_X0_isEdit s0 a0 = some (st', v)) : bCt Γ0 l0 yX0_isEdit cX0_isEdit 1 (some .boolean) 1 22 [(0, a0)] s0 st' (some (0, v)) := by
  refine b_ent (own := RX0) (by decide +kernel) rfl (Nat.le_of_ble_eq_true rfl) (L := [(0, (0, a0))]) rfl ?_
  intro κ hκ hi hf
  unfold F_X0_isEdit at h
  refine r_iload_n hκ 0 rfl rfl dX0_isEdit_0 ?_
  refine r_iconst hκ dX0_isEdit_1 ?_
  refine r_bipush hκ (by decide) dX0_isEdit_2 ?_
  obtain ⟨s1, v1, h1, h⟩ := bcl_i h
  refine r_callS hκ (n' := 3) (index := 45) (w_X0_isIn Γ0 l0 h1) (lw_S q624 q625 q121 q626) (by decide +kernel) rfl (by decide) rfl (Nat.le_of_ble_eq_true rfl) dX0_isEdit_4 ?_
  obtain ⟨h2, h⟩ := bck_i h
  exact r_iretH hκ hf h (nar_bool h2) dX0_isEdit_7
/-- EditsMeet.may(ZI)V -/
def F_X0_may (s0 : bS) (a0 a1 : Int) : Option (bS × Int × Int) :=
  bte (i32 a0 = 0)
  (bck (bc s0 + 1 ≤ bCM ∧ bk s0 + 7 ≤ bKM) <|
  bst (bnw s0 12 0 7) fun s1 =>
  bck (bg s1 0 (bnx s0 : Int) 0 = 12) <|
  bcl (F_X13_init s1 (bnx s0 : Int) a1) fun s2 v1 =>
  bck (bg s2 0 (bnx s0 : Int) 0 = 12) <|
  some (s2, (bnx s0 : Int), 0))
  (some (s0, 0, -1))
set_option maxHeartbeats 4000000 in
set_option maxRecDepth 100000 in
theorem w_X0_may (Γ0 : bG) (l0 : Launch) {s0 st' : bS} {v xx a0 a1 : Int} (h : F_X0_may s0 a0 a1 = some (st', v, xx)) : bCx Γ0 l0 yX0_may (ws_ yX0_may cX0_may 2 none) 5 113 none [(0, a0), (0, a1)] s0 (bEq st' v xx) := by
  refine xb_ent (own := RX0) (by decide +kernel) rfl (Nat.le_of_ble_eq_true rfl) (L := [(0, (0, a0)), (1, (0, a1))]) rfl ?_
  intro κ hκ hi ht hf
  unfold F_X0_may at h
  refine r_iload_n hκ 0 rfl rfl dX0_may_0 ?_
  refine r_if_ne hκ (tgt := 13) (by decide) dX0_may_1 (fun h1 => ?_) (fun h1 => ?_)
  · replace h := (bte_i h).2 h1
    exact x_ret hκ hf (x_P h) (fun κ hκ hf => r_vret hκ hf dX0_may_13)
  · replace h := (bte_i h).1 h1
    obtain ⟨h2, h⟩ := bck_i h
    refine r_new hκ (t := 11) tyX13 tyX13_ok dfX13 rfl in_X13 q641 q666 q149 h2 dX0_may_4 (fun s1 es1 => ?_)
    replace h := bst_i h s1 es1
    refine r_dup hκ (bd_cat2k _) dX0_may_7 ?_
    refine r_iload_n hκ 1 rfl rfl dX0_may_8 ?_
    obtain ⟨h3, h⟩ := bck_i h
    obtain ⟨s2, v1, h4, h⟩ := bcl_i h
    refine r_callI hκ (n' := 1) (index := 55) (w_X13_init Γ0 l0 h4) (lw_meth q676) q149 q674 q675 rfl (by decide +kernel) (t := 11) h3 rfl rfl (by decide) rfl (Nat.le_of_ble_eq_true rfl) dX0_may_9 ?_
    obtain ⟨h5, h⟩ := bck_i h
    refine r_athrow hκ (t := 11) (jn := 0) h5 rfl rfl dX0_may_12 ?_
    exact r_xout hκ ht hf (by decide) (x_P h)
/-- EditsMeet.present(I)LEditsMeet$Edit; -/
def F_X0_present (s0 : bS) (a0 a1 : Int) : Option (bS × Int × Int) :=
  bck (bg s0 0 a0 0 = 1) <|
  bck (bg s0 0 (bg s0 46 a0 0) 0 = 1008 ∧ (0 : Int) ≤ a1 ∧ a1 < bg s0 4 (bg s0 46 a0 0) 0) <|
  bte ((bg s0 10 (bg s0 46 a0 0) a1) < 0)
  (bck (bc s0 + 1 ≤ bCM ∧ bk s0 + 7 ≤ bKM) <|
  bst (bnw s0 12 0 7) fun s1 =>
  bck (bg s1 0 (bnx s0 : Int) 0 = 12) <|
  bcl (F_X13_init s1 (bnx s0 : Int) (-4)) fun s2 v1 =>
  bck (bg s2 0 (bnx s0 : Int) 0 = 12) <|
  some (s2, (bnx s0 : Int), 0))
  (bck (bg s0 0 a0 0 = 1) <|
  bck (bg s0 0 (bg s0 46 a0 0) 0 = 1008 ∧ (0 : Int) ≤ a1 ∧ a1 < bg s0 4 (bg s0 46 a0 0) 0) <|
  some (s0, (bg s0 10 (bg s0 46 a0 0) a1), -1))
set_option maxHeartbeats 4000000 in
set_option maxRecDepth 100000 in
theorem w_X0_present (Γ0 : bG) (l0 : Launch) {s0 st' : bS} {v xx a0 a1 : Int} (h : F_X0_present s0 a0 a1 = some (st', v, xx)) : bCx Γ0 l0 yX0_present (ws_ yX0_present cX0_present 2 (some (.object "EditsMeet$Edit"))) 5 113 (some 2) [(2, a0), (0, a1)] s0 (bEq st' v xx) := by
  refine xb_ent (own := RX0) (by decide +kernel) rfl (Nat.le_of_ble_eq_true rfl) (L := [(0, (2, a0)), (1, (0, a1))]) rfl ?_
  intro κ hκ hi ht hf
  unfold F_X0_present at h
  refine r_aload_n hκ 0 rfl rfl dX0_present_0 ?_
  obtain ⟨h1, h⟩ := bck_i h
  refine r_get hκ (t := 0) (k := 3) (r := 46) h1 rfl in_X0 (by decide) rfl q576 (Or.inl rfl) dX0_present_1 ?_
  refine r_iload_n hκ 1 rfl rfl dX0_present_4 ?_
  obtain ⟨⟨h2, h3⟩, h⟩ := bck_i h
  refine r_aald hκ (t := 8) (by decide) h2 h3 dX0_present_5 ?_
  refine r_ifnonnull hκ (tgt := 19) (by decide) dX0_present_6 (fun h4 => ?_) (fun h4 => ?_)
  · replace h := (bte_i h).2 h4
    refine r_aload_n hκ 0 rfl rfl dX0_present_19 ?_
    obtain ⟨h5, h⟩ := bck_i h
    refine r_get hκ (t := 0) (k := 3) (r := 46) h5 rfl in_X0 (by decide) rfl q576 (Or.inl rfl) dX0_present_20 ?_
    refine r_iload_n hκ 1 rfl rfl dX0_present_23 ?_
    obtain ⟨⟨h6, h7⟩, h⟩ := bck_i h
    refine r_aald hκ (t := 8) (by decide) h6 h7 dX0_present_24 ?_
    exact x_ret hκ hf (x_P h) (fun κ hκ hf => r_aret hκ hf rt_o dX0_present_25)
  · replace h := (bte_i h).1 h4
    obtain ⟨h8, h⟩ := bck_i h
    refine r_new hκ (t := 11) tyX13 tyX13_ok dfX13 rfl in_X13 q641 q666 q149 h8 dX0_present_9 (fun s1 es1 => ?_)
    replace h := bst_i h s1 es1
    refine r_dup hκ (bd_cat2k _) dX0_present_12 ?_
    refine r_bipush hκ (by decide) dX0_present_13 ?_
    obtain ⟨h9, h⟩ := bck_i h
    obtain ⟨s2, v1, h10, h⟩ := bcl_i h
    refine r_callI hκ (n' := 1) (index := 55) (w_X13_init Γ0 l0 h10) (lw_meth q676) q149 q674 q675 rfl (by decide +kernel) (t := 11) h9 rfl rfl (by decide) rfl (Nat.le_of_ble_eq_true rfl) dX0_present_15 ?_
    obtain ⟨h11, h⟩ := bck_i h
    refine r_athrow hκ (t := 11) (jn := 0) h11 rfl rfl dX0_present_18 ?_
    exact r_xout hκ ht hf (by decide) (x_P h)
/-- EditsMeet.lambda$show$0(III)I -/
def F_X0_lambda_show_0_r (b : Nat) (x0 x1 x2 x3 x4 : Int) (s0 : bS) : Option (bS × Int × Int) :=
  match b with
  | 0 =>
    F_X0_lambda_show_0_r 2 x0 x1 x2 x3 1 s0
  | 1 =>
    F_X0_lambda_show_0_r 2 x0 x1 x2 x3 0 s0
  | 2 =>
    bclx (F_X0_may s0 x4 (-2)) fun s3 v3 v4 =>
    bte (v4 = -1)
    (bte (i32 x2 = i32 (-1))
    (F_X0_lambda_show_0_r 3 x0 x1 x2 x3 0 s3)
    (bck (bg s3 0 x0 0 = 1) <|
    bclx (F_X0_present s3 x0 x2) fun s4 v5 v6 =>
    bte (v6 = -1)
    (bck (bg s4 0 v5 0 = 7) <|
    bcl (F_X8_many s4 v5) fun s5 v7 =>
    bcl (F_X0_isIn s5 x3 0 (v7 - 1)) fun s6 v8 =>
    bclx (F_X0_may s6 v8 (-2)) fun s7 v9 v10 =>
    bte (v10 = -1)
    (F_X0_lambda_show_0_r 3 x0 x1 x2 x3 0 s7)
    (some (s7, v9, v10)))
    (some (s4, v5, v6))))
    (some (s3, v3, v4))
  | 3 =>
    bck (bg s0 0 x0 0 = 1) <|
    bck (bg s0 0 (bg s0 50 x0 0) 0 = 1009 ∧ (0 : Int) ≤ x1 ∧ x1 < bg s0 4 (bg s0 50 x0 0) 0) <|
    bte (i32 x2 = i32 (-1))
    (bck ((bg s0 0 (bg s0 10 (bg s0 50 x0 0) x1) 0 = 10)) <|
    bst (bw s0 210 (bg s0 10 (bg s0 50 x0 0) x1) 0 (-1)) fun s10 =>
    some (s10, 1, -1))
    (bck (bg s0 0 x0 0 = 1) <|
    bck (bg s0 0 (bg s0 46 x0 0) 0 = 1008 ∧ (0 : Int) ≤ x2 ∧ x2 < bg s0 4 (bg s0 46 x0 0) 0) <|
    bck (bg s0 0 (bg s0 10 (bg s0 46 x0 0) x2) 0 = 7) <|
    bcl (F_X8_get s0 (bg s0 10 (bg s0 46 x0 0) x2) x3) fun s8 v11 =>
    bck ((bg s8 0 (bg s0 10 (bg s0 50 x0 0) x1) 0 = 10)) <|
    bst (bw s8 210 (bg s0 10 (bg s0 50 x0 0) x1) 0 v11) fun s9 =>
    some (s9, 1, -1))
  | _ => none
partial_fixpoint
def F_X0_lambda_show_0 (s0 : bS) (a0 a1 a2 a3 : Int) : Option (bS × Int × Int) :=
  bcl (F_X0_isShelf s0 a1) fun s1 v1 =>
  bte (i32 v1 = 0)
  (F_X0_lambda_show_0_r 1 a0 a1 a2 a3 0 s1)
  (bte (i32 a2 = i32 (-1))
  (F_X0_lambda_show_0_r 0 a0 a1 a2 a3 0 s1)
  (bcl (F_X0_isEdit s1 a2) fun s2 v2 =>
  bte (i32 v2 = 0)
  (F_X0_lambda_show_0_r 1 a0 a1 a2 a3 0 s2)
  (F_X0_lambda_show_0_r 0 a0 a1 a2 a3 0 s2)))
set_option maxHeartbeats 4000000 in
set_option maxRecDepth 100000 in
set_option synthInstance.maxHeartbeats 4000000 in
theorem w_X0_lambda_show_0_r {Γ0 : bG} {l0 : Launch} {κ : bK} {st' : bS} {v xx : Int} (hκ : bOk κ Γ0 l0 cX0_lambda_show_0 RX0 4 6 134) (hi : bIn κ yX0_lambda_show_0) (ht : xTab κ []) (hf : xFin κ (some .int) (some 0) (bEq st' v xx)) (b : Nat) (x0 x1 x2 x3 x4 : Int) (s0 : bS) (h : F_X0_lambda_show_0_r b x0 x1 x2 x3 x4 s0 = some (st', v, xx)) : match (generalizing := false) b with | 0 => bJ κ s0 19 [(0, (2, x0)), (1, (0, x1)), (2, (0, x2)), (3, (0, x3))] [] | 1 => bJ κ s0 23 [(0, (2, x0)), (1, (0, x1)), (2, (0, x2)), (3, (0, x3))] [] | 2 => bJ κ s0 24 [(0, (2, x0)), (1, (0, x1)), (2, (0, x2)), (3, (0, x3))] [(0, x4)] | 3 => bJ κ s0 54 [(0, (2, x0)), (1, (0, x1)), (2, (0, x2)), (3, (0, x3))] [] | _ => True := by
  refine F_X0_lambda_show_0_r.partial_correctness x0 x1 x2 x3 (fun b x4 s0 r => r = (st', v, xx) → match (generalizing := false) b with | 0 => bJ κ s0 19 [(0, (2, x0)), (1, (0, x1)), (2, (0, x2)), (3, (0, x3))] [] | 1 => bJ κ s0 23 [(0, (2, x0)), (1, (0, x1)), (2, (0, x2)), (3, (0, x3))] [] | 2 => bJ κ s0 24 [(0, (2, x0)), (1, (0, x1)), (2, (0, x2)), (3, (0, x3))] [(0, x4)] | 3 => bJ κ s0 54 [(0, (2, x0)), (1, (0, x1)), (2, (0, x2)), (3, (0, x3))] [] | _ => True) ?_ b x4 s0 _ h rfl
  intro f' ih b x4 s0 r h hr
  subst hr
  match b, h with
  | 0, h =>
      refine r_iconst hκ dX0_lambda_show_0_19 ?_
      refine r_goto hκ (tgt := 24) (by decide) dX0_lambda_show_0_20 ?_
      exact r_sub [0, 1, 2, 3] rfl (ih 2 _ _ _ h rfl)
  | 1, h =>
      refine r_iconst hκ dX0_lambda_show_0_23 ?_
      exact r_sub [0, 1, 2, 3] rfl (ih 2 _ _ _ h rfl)
  | 2, h =>
      refine r_bipush hκ (by decide) dX0_lambda_show_0_24 ?_
      obtain ⟨s3, v3, v4, h6, h⟩ := bclx_i h
      refine r_seq (A := (v4 = -1 → bJ κ s3 29 [(0, (2, x0)), (1, (0, x1)), (2, (0, x2)), (3, (0, x3))] []) ∧ (¬ v4 = -1 → bT κ s3 26 [(0, (2, x0)), (1, (0, x1)), (2, (0, x2)), (3, (0, x3))] v3 v4)) ⟨fun h7 => ?_, fun h7 => ?_⟩ (fun k0 => r_xcallS hκ (n' := 2) (index := 196) (w_X0_may Γ0 l0 h6) (lw_S q799 q800 q121 q801) (by decide +kernel) rfl (by decide) rfl (Nat.le_of_ble_eq_true rfl) dX0_lambda_show_0_26 (r_xj1 k0.1) (r_xj2 k0.2))
      · replace h := (bte_i h).1 h7
        refine r_iload_n hκ 2 rfl rfl dX0_lambda_show_0_29 ?_
        refine r_iconst hκ dX0_lambda_show_0_30 ?_
        refine r_icmp_eq hκ (tgt := 54) (by decide) dX0_lambda_show_0_31 (fun h8 => ?_) (fun h8 => ?_)
        · replace h := (bte_i h).1 h8
          exact r_sub [0, 1, 2, 3] rfl (ih 3 _ _ _ h rfl)
        · replace h := (bte_i h).2 h8
          refine r_iload_n hκ 3 rfl rfl dX0_lambda_show_0_34 ?_
          refine r_iconst hκ dX0_lambda_show_0_35 ?_
          refine r_aload_n hκ 0 rfl rfl dX0_lambda_show_0_36 ?_
          refine r_iload_n hκ 2 rfl rfl dX0_lambda_show_0_37 ?_
          obtain ⟨h10, h⟩ := bck_i h
          obtain ⟨s4, v5, v6, h9, h⟩ := bclx_i h
          refine r_seq (A := (v6 = -1 → bJ κ s4 41 [(0, (2, x0)), (1, (0, x1)), (2, (0, x2)), (3, (0, x3))] [(2, v5), (0, 0), (0, x3)]) ∧ (¬ v6 = -1 → bT κ s4 38 [(0, (2, x0)), (1, (0, x1)), (2, (0, x2)), (3, (0, x3))] v5 v6)) ⟨fun h11 => ?_, fun h11 => ?_⟩ (fun k0 => r_xcallV hκ (n' := 1) (index := 58) (w_X0_present Γ0 l0 h9) (lw_V q802 q804 qs5 q121 q805) (by decide +kernel) (t := 0) h10 rfl rfl (by decide) rfl (Nat.le_of_ble_eq_true rfl) dX0_lambda_show_0_38 (r_xj1 k0.1) (r_xj2 k0.2))
          · replace h := (bte_i h).1 h11
            obtain ⟨h12, h⟩ := bck_i h
            obtain ⟨s5, v7, h13, h⟩ := bcl_i h
            refine r_callV hκ (n' := 0) (index := 179) (w_X8_many Γ0 l0 h13) (lw_V q806 q807 q808 q140 q809) (by decide +kernel) (t := 6) h12 rfl rfl (by decide) rfl (Nat.le_of_ble_eq_true rfl) dX0_lambda_show_0_41 ?_
            refine r_iconst hκ dX0_lambda_show_0_44 ?_
            refine r_isub hκ dX0_lambda_show_0_45 ?_
            obtain ⟨s6, v8, h14, h⟩ := bcl_i h
            refine r_callS hκ (n' := 3) (index := 45) (w_X0_isIn Γ0 l0 h14) (lw_S q624 q625 q121 q626) (by decide +kernel) rfl (by decide) rfl (Nat.le_of_ble_eq_true rfl) dX0_lambda_show_0_46 ?_
            refine r_bipush hκ (by decide) dX0_lambda_show_0_49 ?_
            obtain ⟨s7, v9, v10, h15, h⟩ := bclx_i h
            refine r_seq (A := (v10 = -1 → bJ κ s7 54 [(0, (2, x0)), (1, (0, x1)), (2, (0, x2)), (3, (0, x3))] []) ∧ (¬ v10 = -1 → bT κ s7 51 [(0, (2, x0)), (1, (0, x1)), (2, (0, x2)), (3, (0, x3))] v9 v10)) ⟨fun h16 => ?_, fun h16 => ?_⟩ (fun k0 => r_xcallS hκ (n' := 2) (index := 196) (w_X0_may Γ0 l0 h15) (lw_S q799 q800 q121 q801) (by decide +kernel) rfl (by decide) rfl (Nat.le_of_ble_eq_true rfl) dX0_lambda_show_0_51 (r_xj1 k0.1) (r_xj2 k0.2))
            · replace h := (bte_i h).1 h16
              exact r_sub [0, 1, 2, 3] rfl (ih 3 _ _ _ h rfl)
            · replace h := (bte_i h).2 h16
              exact r_xout hκ ht hf (by decide) (x_P h)
          · replace h := (bte_i h).2 h11
            exact r_xout hκ ht hf (by decide) (x_P h)
      · replace h := (bte_i h).2 h7
        exact r_xout hκ ht hf (by decide) (x_P h)
  | 3, h =>
      refine r_aload_n hκ 0 rfl rfl dX0_lambda_show_0_54 ?_
      obtain ⟨h17, h⟩ := bck_i h
      refine r_get hκ (t := 0) (k := 4) (r := 50) h17 rfl in_X0 (by decide) rfl q577 (Or.inl rfl) dX0_lambda_show_0_55 ?_
      refine r_iload_n hκ 1 rfl rfl dX0_lambda_show_0_58 ?_
      obtain ⟨⟨h18, h19⟩, h⟩ := bck_i h
      refine r_aald hκ (t := 9) (by decide) h18 h19 dX0_lambda_show_0_59 ?_
      refine r_iload_n hκ 2 rfl rfl dX0_lambda_show_0_60 ?_
      refine r_iconst hκ dX0_lambda_show_0_61 ?_
      refine r_icmp_ne hκ (tgt := 69) (by decide) dX0_lambda_show_0_62 (fun h20 => ?_) (fun h20 => ?_)
      · replace h := (bte_i h).2 h20
        refine r_aload_n hκ 0 rfl rfl dX0_lambda_show_0_69 ?_
        obtain ⟨h21, h⟩ := bck_i h
        refine r_get hκ (t := 0) (k := 3) (r := 46) h21 rfl in_X0 (by decide) rfl q576 (Or.inl rfl) dX0_lambda_show_0_70 ?_
        refine r_iload_n hκ 2 rfl rfl dX0_lambda_show_0_73 ?_
        obtain ⟨⟨h22, h23⟩, h⟩ := bck_i h
        refine r_aald hκ (t := 8) (by decide) h22 h23 dX0_lambda_show_0_74 ?_
        refine r_iload_n hκ 3 rfl rfl dX0_lambda_show_0_75 ?_
        obtain ⟨h24, h⟩ := bck_i h
        obtain ⟨s8, v11, h25, h⟩ := bcl_i h
        refine r_callV hκ (n' := 1) (index := 492) (w_X8_get Γ0 l0 h25) (lw_V q814 q815 q816 q140 q817) (by decide +kernel) (t := 6) h24 rfl rfl (by decide) rfl (Nat.le_of_ble_eq_true rfl) dX0_lambda_show_0_76 ?_
        obtain ⟨h26, h⟩ := bck_i h
        refine r_put hκ (t := 9) (k := 0) (r := 210) (ty := (.object "java/lang/Object")) tyX11 tyX11_ok nmX11 h26 rfl in_X11 (by decide) rfl q569 (Or.inl rfl) rfl rfl rfl trivial (Or.inl (by decide)) dX0_lambda_show_0_79 (fun s9 es9 => ?_)
        replace h := bst_i h s9 es9
        refine r_iconst hκ dX0_lambda_show_0_82 ?_
        exact x_ret hκ hf (x_P h) (fun κ hκ hf => r_iret hκ hf (nar_int _) dX0_lambda_show_0_83)
      · replace h := (bte_i h).1 h20
        refine r_null hκ dX0_lambda_show_0_65 ?_
        refine r_goto hκ (tgt := 79) (by decide) dX0_lambda_show_0_66 ?_
        obtain ⟨h27, h⟩ := bck_i h
        refine r_put hκ (t := 9) (k := 0) (r := 210) (ty := (.object "java/lang/Object")) tyX11 tyX11_ok nmX11 h27 rfl in_X11 (by decide) rfl q569 (Or.inl rfl) rfl rfl rfl trivial (Or.inl (by decide)) dX0_lambda_show_0_79 (fun s10 es10 => ?_)
        replace h := bst_i h s10 es10
        refine r_iconst hκ dX0_lambda_show_0_82 ?_
        exact x_ret hκ hf (x_P h) (fun κ hκ hf => r_iret hκ hf (nar_int _) dX0_lambda_show_0_83)
  | b + 4, h => trivial
set_option maxHeartbeats 4000000 in
set_option maxRecDepth 100000 in
theorem w_X0_lambda_show_0 (Γ0 : bG) (l0 : Launch) {s0 st' : bS} {v xx a0 a1 a2 a3 : Int} (h : F_X0_lambda_show_0 s0 a0 a1 a2 a3 = some (st', v, xx)) : bCx Γ0 l0 yX0_lambda_show_0 (ws_ yX0_lambda_show_0 cX0_lambda_show_0 4 (some .int)) 6 134 (some 0) [(2, a0), (0, a1), (0, a2), (0, a3)] s0 (bEq st' v xx) := by
  refine xb_ent (own := RX0) (by decide +kernel) rfl (Nat.le_of_ble_eq_true rfl) (L := [(0, (2, a0)), (1, (0, a1)), (2, (0, a2)), (3, (0, a3))]) rfl ?_
  intro κ hκ hi ht hf
  unfold F_X0_lambda_show_0 at h
  refine r_iload_n hκ 1 rfl rfl dX0_lambda_show_0_0 ?_
  obtain ⟨s1, v1, h1, h⟩ := bcl_i h
  refine r_callS hκ (n' := 1) (index := 95) (w_X0_isShelf Γ0 l0 h1) (lw_S q621 q622 q121 q623) (by decide +kernel) rfl (by decide) rfl (Nat.le_of_ble_eq_true rfl) dX0_lambda_show_0_1 ?_
  refine r_if_eq hκ (tgt := 23) (by decide) dX0_lambda_show_0_4 (fun h2 => ?_) (fun h2 => ?_)
  · replace h := (bte_i h).1 h2
    exact r_sub [0, 1, 2, 3] rfl (w_X0_lambda_show_0_r hκ hi ht hf 1 _ _ _ _ _ _ h)
  · replace h := (bte_i h).2 h2
    refine r_iload_n hκ 2 rfl rfl dX0_lambda_show_0_7 ?_
    refine r_iconst hκ dX0_lambda_show_0_8 ?_
    refine r_icmp_eq hκ (tgt := 19) (by decide) dX0_lambda_show_0_9 (fun h3 => ?_) (fun h3 => ?_)
    · replace h := (bte_i h).1 h3
      exact r_sub [0, 1, 2, 3] rfl (w_X0_lambda_show_0_r hκ hi ht hf 0 _ _ _ _ _ _ h)
    · replace h := (bte_i h).2 h3
      refine r_iload_n hκ 2 rfl rfl dX0_lambda_show_0_12 ?_
      obtain ⟨s2, v2, h4, h⟩ := bcl_i h
      refine r_callS hκ (n' := 1) (index := 49) (w_X0_isEdit Γ0 l0 h4) (lw_S q796 q797 q121 q798) (by decide +kernel) rfl (by decide) rfl (Nat.le_of_ble_eq_true rfl) dX0_lambda_show_0_13 ?_
      refine r_if_eq hκ (tgt := 23) (by decide) dX0_lambda_show_0_16 (fun h5 => ?_) (fun h5 => ?_)
      · replace h := (bte_i h).1 h5
        exact r_sub [0, 1, 2, 3] rfl (w_X0_lambda_show_0_r hκ hi ht hf 1 _ _ _ _ _ _ h)
      · replace h := (bte_i h).2 h5
        exact r_sub [0, 1, 2, 3] rfl (w_X0_lambda_show_0_r hκ hi ht hf 0 _ _ _ _ _ _ h)
/-- EditsMeet.edit(ZI)LEditsMeet$Edit; -/
def F_X0_edit_2_r (b : Nat) (s0 : bS) : Option (bS × Int × Int) :=
  match b with
  | 0 =>
    bck (bc s0 + 1 ≤ bCM ∧ bk s0 + 7 ≤ bKM) <|
    bst (bnw s0 12 0 7) fun s3 =>
    bck (bg s3 0 (bnx s0 : Int) 0 = 12) <|
    bcl (F_X13_init s3 (bnx s0 : Int) (-2)) fun s4 v4 =>
    bck (bg s4 0 (bnx s0 : Int) 0 = 12) <|
    some (s4, (bnx s0 : Int), 0)
  | _ => none
def F_X0_edit_2 (s0 : bS) (a0 a1 a2 : Int) : Option (bS × Int × Int) :=
  bte (i32 a1 = 0)
  (F_X0_edit_2_r 0  s0)
  (bcl (F_X0_isEdit s0 a2) fun s1 v1 =>
  bte (i32 v1 = 0)
  (F_X0_edit_2_r 0  s1)
  (bck (bg s1 0 a0 0 = 1) <|
  bclx (F_X0_present s1 a0 a2) fun s2 v2 v3 =>
  bte (v3 = -1)
  (some (s2, v2, -1))
  (some (s2, v2, v3))))
set_option maxHeartbeats 4000000 in
set_option maxRecDepth 100000 in
set_option synthInstance.maxHeartbeats 4000000 in
theorem w_X0_edit_2_r {Γ0 : bG} {l0 : Launch} {κ : bK} {st' : bS} {v xx : Int} (hκ : bOk κ Γ0 l0 cX0_edit_2 RX0 3 6 134) (hi : bIn κ yX0_edit_2) (ht : xTab κ []) (hf : xFin κ (some (.object "EditsMeet$Edit")) (some 2) (bEq st' v xx)) (b : Nat) (s0 : bS) (h : F_X0_edit_2_r b s0 = some (st', v, xx)) : match (generalizing := false) b with | 0 => bJ κ s0 11 [] [] | _ => True := by
  unfold F_X0_edit_2_r at h
  match b, h with
  | 0, h =>
      obtain ⟨h7, h⟩ := bck_i h
      refine r_new hκ (t := 11) tyX13 tyX13_ok dfX13 rfl in_X13 q641 q666 q149 h7 dX0_edit_2_11 (fun s3 es3 => ?_)
      replace h := bst_i h s3 es3
      refine r_dup hκ (bd_cat2k _) dX0_edit_2_14 ?_
      refine r_bipush hκ (by decide) dX0_edit_2_15 ?_
      obtain ⟨h8, h⟩ := bck_i h
      obtain ⟨s4, v4, h9, h⟩ := bcl_i h
      refine r_callI hκ (n' := 1) (index := 55) (w_X13_init Γ0 l0 h9) (lw_meth q676) q149 q674 q675 rfl (by decide +kernel) (t := 11) h8 rfl rfl (by decide) rfl (Nat.le_of_ble_eq_true rfl) dX0_edit_2_17 ?_
      obtain ⟨h10, h⟩ := bck_i h
      refine r_athrow hκ (t := 11) (jn := 0) h10 rfl rfl dX0_edit_2_20 ?_
      exact r_xout hκ ht hf (by decide) (x_P h)
  | b + 1, h => trivial
set_option maxHeartbeats 4000000 in
set_option maxRecDepth 100000 in
theorem w_X0_edit_2 (Γ0 : bG) (l0 : Launch) {s0 st' : bS} {v xx a0 a1 a2 : Int} (h : F_X0_edit_2 s0 a0 a1 a2 = some (st', v, xx)) : bCx Γ0 l0 yX0_edit_2 (ws_ yX0_edit_2 cX0_edit_2 3 (some (.object "EditsMeet$Edit"))) 6 134 (some 2) [(2, a0), (0, a1), (0, a2)] s0 (bEq st' v xx) := by
  refine xb_ent (own := RX0) (by decide +kernel) rfl (Nat.le_of_ble_eq_true rfl) (L := [(0, (2, a0)), (1, (0, a1)), (2, (0, a2))]) rfl ?_
  intro κ hκ hi ht hf
  unfold F_X0_edit_2 at h
  refine r_iload_n hκ 1 rfl rfl dX0_edit_2_0 ?_
  refine r_if_eq hκ (tgt := 11) (by decide) dX0_edit_2_1 (fun h1 => ?_) (fun h1 => ?_)
  · replace h := (bte_i h).1 h1
    exact r_sub [] rfl (w_X0_edit_2_r hκ hi ht hf 0  _ h)
  · replace h := (bte_i h).2 h1
    refine r_iload_n hκ 2 rfl rfl dX0_edit_2_4 ?_
    obtain ⟨s1, v1, h2, h⟩ := bcl_i h
    refine r_callS hκ (n' := 1) (index := 49) (w_X0_isEdit Γ0 l0 h2) (lw_S q796 q797 q121 q798) (by decide +kernel) rfl (by decide) rfl (Nat.le_of_ble_eq_true rfl) dX0_edit_2_5 ?_
    refine r_if_ne hκ (tgt := 21) (by decide) dX0_edit_2_8 (fun h3 => ?_) (fun h3 => ?_)
    · replace h := (bte_i h).2 h3
      refine r_aload_n hκ 0 rfl rfl dX0_edit_2_21 ?_
      refine r_iload_n hκ 2 rfl rfl dX0_edit_2_22 ?_
      obtain ⟨h5, h⟩ := bck_i h
      obtain ⟨s2, v2, v3, h4, h⟩ := bclx_i h
      refine r_seq (A := (v3 = -1 → bJ κ s2 26 [(0, (2, a0)), (1, (0, a1)), (2, (0, a2))] [(2, v2)]) ∧ (¬ v3 = -1 → bT κ s2 23 [(0, (2, a0)), (1, (0, a1)), (2, (0, a2))] v2 v3)) ⟨fun h6 => ?_, fun h6 => ?_⟩ (fun k0 => r_xcallV hκ (n' := 1) (index := 58) (w_X0_present Γ0 l0 h4) (lw_V q802 q804 qs5 q121 q805) (by decide +kernel) (t := 0) h5 rfl rfl (by decide) rfl (Nat.le_of_ble_eq_true rfl) dX0_edit_2_23 (r_xj1 k0.1) (r_xj2 k0.2))
      · replace h := (bte_i h).1 h6
        exact x_ret hκ hf (x_P h) (fun κ hκ hf => r_aret hκ hf rt_o dX0_edit_2_26)
      · replace h := (bte_i h).2 h6
        exact r_xout hκ ht hf (by decide) (x_P h)
    · replace h := (bte_i h).1 h3
      exact r_sub [] rfl (w_X0_edit_2_r hκ hi ht hf 0  _ h)
/-- EditsMeet.lettersOf(LEditsMeet$Part;Z)I -/
def F_X0_lettersOf (s0 : bS) (a0 a1 : Int) : Option (bS × Int) :=
  bte (i32 a1 = 0)
  (some (s0, 0))
  (bcl (bte (bg s0 0 a0 0 = 6) (F_X6_n s0 a0) (bte (bg s0 0 a0 0 = 15) (F_X6_n s0 a0) (bte (bg s0 0 a0 0 = 16) (F_X17_n s0 a0) (bte (bg s0 0 a0 0 = 17) (F_X6_n s0 a0) (none))))) fun s1 v1 =>
  some (s1, v1))
set_option maxHeartbeats 4000000 in
set_option maxRecDepth 100000 in
theorem w_X0_lettersOf (Γ0 : bG) (l0 : Launch) {s0 st' : bS} {v a0 a1 : Int} (h : F_X0_lettersOf s0 a0 a1 = some (st', v)) : bCt Γ0 l0 yX0_lettersOf cX0_lettersOf 2 (some .int) 3 60 [(2, a0), (0, a1)] s0 st' (some (0, v)) := by
  refine b_ent (own := RX0) (by decide +kernel) rfl (Nat.le_of_ble_eq_true rfl) (L := [(0, (2, a0)), (1, (0, a1))]) rfl ?_
  intro κ hκ hi hf
  unfold F_X0_lettersOf at h
  refine r_iload_n hκ 1 rfl rfl dX0_lettersOf_0 ?_
  refine r_if_eq hκ (tgt := 13) (by decide) dX0_lettersOf_1 (fun h1 => ?_) (fun h1 => ?_)
  · replace h := (bte_i h).1 h1
    refine r_iconst hκ dX0_lettersOf_13 ?_
    exact r_iretH hκ hf h (nar_int _) dX0_lettersOf_14
  · replace h := (bte_i h).2 h1
    refine r_aload_n hκ 0 rfl rfl dX0_lettersOf_4 ?_
    obtain ⟨s1, v1, h2, h⟩ := bcl_i h
    refine r_seq (A := bJ κ s1 10 [(0, (2, a0)), (1, (0, a1))] [(0, v1)]) ?_ (fun k0 => ?_)
    case refine_2 =>
      by_cases h3 : bg s0 0 a0 0 = 6
      · have hq0 := (bte_i h2).1 h3
        exact r_callF hκ (n' := 0) (index := 145) (C := "EditsMeet$Keep") (w_X6_n Γ0 l0 hq0) (lw_app (lw_l4 q860 q882 q865 q138) (lw_meth q867)) (by decide +kernel) (by decide +kernel) (t := 5) h3 rfl rfl (by decide) rfl (Nat.le_of_ble_eq_true rfl) dX0_lettersOf_5 k0
      replace h2 := (bte_i h2).2 h3
      by_cases h4 : bg s0 0 a0 0 = 15
      · have hq0 := (bte_i h2).1 h4
        exact r_callF hκ (n' := 0) (index := 145) (C := "EditsMeet$Delete") (w_X6_n Γ0 l0 hq0) (lw_app (lw_l4 q860 q863 q865 q138) (lw_meth q867)) (by decide +kernel) (by decide +kernel) (t := 14) h4 rfl rfl (by decide) rfl (Nat.le_of_ble_eq_true rfl) dX0_lettersOf_5 k0
      replace h2 := (bte_i h2).2 h4
      by_cases h5 : bg s0 0 a0 0 = 16
      · have hq0 := (bte_i h2).1 h5
        exact r_callF hκ (n' := 0) (index := 145) (C := "EditsMeet$Insert") (w_X17_n Γ0 l0 hq0) (lw_app (lw_l4 q860 q868 q870 q165) (lw_meth q872)) (by decide +kernel) (by decide +kernel) (t := 15) h5 rfl rfl (by decide) rfl (Nat.le_of_ble_eq_true rfl) dX0_lettersOf_5 k0
      replace h2 := (bte_i h2).2 h5
      by_cases h6 : bg s0 0 a0 0 = 17
      · have hq0 := (bte_i h2).1 h6
        exact r_callF hκ (n' := 0) (index := 145) (C := "EditsMeet$Mark") (w_X6_n Γ0 l0 hq0) (lw_app (lw_l4 q860 q884 q865 q138) (lw_meth q867)) (by decide +kernel) (by decide +kernel) (t := 16) h6 rfl rfl (by decide) rfl (Nat.le_of_ble_eq_true rfl) dX0_lettersOf_5 k0
      replace h2 := (bte_i h2).2 h6
      cases h2
    refine r_goto hκ (tgt := 14) (by decide) dX0_lettersOf_10 ?_
    exact r_iretH hκ hf h (nar_int _) dX0_lettersOf_14
/-- EditsMeet.lambda$of$2(LEditsMeet$Part;)I -/
def F_X0_lambda_of_2 (s0 : bS) (a0 : Int) : Option (bS × Int × Int) :=
  bcl (bte (bg s0 0 a0 0 = 6) (F_X5_inserts s0 a0) (bte (bg s0 0 a0 0 = 15) (F_X5_inserts s0 a0) (bte (bg s0 0 a0 0 = 16) (F_X5_inserts s0 a0) (bte (bg s0 0 a0 0 = 17) (F_X5_inserts s0 a0) (none))))) fun s1 v1 =>
  bcl (F_X0_lettersOf s1 a0 v1) fun s2 v2 =>
  some (s2, v2, -1)
set_option maxHeartbeats 4000000 in
set_option maxRecDepth 100000 in
theorem w_X0_lambda_of_2 (Γ0 : bG) (l0 : Launch) {s0 st' : bS} {v xx a0 : Int} (h : F_X0_lambda_of_2 s0 a0 = some (st', v, xx)) : bCx Γ0 l0 yX0_lambda_of_2 (ws_ yX0_lambda_of_2 cX0_lambda_of_2 1 (some .int)) 4 81 (some 0) [(2, a0)] s0 (bEq st' v xx) := by
  refine xb_ent (own := RX0) (by decide +kernel) rfl (Nat.le_of_ble_eq_true rfl) (L := [(0, (2, a0))]) rfl ?_
  intro κ hκ hi ht hf
  unfold F_X0_lambda_of_2 at h
  refine r_aload_n hκ 0 rfl rfl dX0_lambda_of_2_0 ?_
  refine r_aload_n hκ 0 rfl rfl dX0_lambda_of_2_1 ?_
  obtain ⟨s1, v1, h1, h⟩ := bcl_i h
  refine r_seq (A := bJ κ s1 7 [(0, (2, a0))] [(0, v1), (2, a0)]) ?_ (fun k0 => ?_)
  case refine_2 =>
    by_cases h2 : bg s0 0 a0 0 = 6
    · have hq0 := (bte_i h1).1 h2
      exact r_callFD hκ (n' := 0) (index := 533) (C := "EditsMeet$Keep") (w_X5_inserts Γ0 l0 hq0) (lw_meth q1607) q1601 q1605 q137 (by decide +kernel) (by decide +kernel) (t := 5) h2 rfl rfl (by decide) rfl (Nat.le_of_ble_eq_true rfl) dX0_lambda_of_2_2 k0
    replace h1 := (bte_i h1).2 h2
    by_cases h3 : bg s0 0 a0 0 = 15
    · have hq0 := (bte_i h1).1 h3
      exact r_callFD hκ (n' := 0) (index := 533) (C := "EditsMeet$Delete") (w_X5_inserts Γ0 l0 hq0) (lw_meth q1607) q1601 q1605 q137 (by decide +kernel) (by decide +kernel) (t := 14) h3 rfl rfl (by decide) rfl (Nat.le_of_ble_eq_true rfl) dX0_lambda_of_2_2 k0
    replace h1 := (bte_i h1).2 h3
    by_cases h4 : bg s0 0 a0 0 = 16
    · have hq0 := (bte_i h1).1 h4
      exact r_callFD hκ (n' := 0) (index := 533) (C := "EditsMeet$Insert") (w_X5_inserts Γ0 l0 hq0) (lw_meth q1607) q1601 q1605 q137 (by decide +kernel) (by decide +kernel) (t := 15) h4 rfl rfl (by decide) rfl (Nat.le_of_ble_eq_true rfl) dX0_lambda_of_2_2 k0
    replace h1 := (bte_i h1).2 h4
    by_cases h5 : bg s0 0 a0 0 = 17
    · have hq0 := (bte_i h1).1 h5
      exact r_callFD hκ (n' := 0) (index := 533) (C := "EditsMeet$Mark") (w_X5_inserts Γ0 l0 hq0) (lw_meth q1607) q1601 q1605 q137 (by decide +kernel) (by decide +kernel) (t := 16) h5 rfl rfl (by decide) rfl (Nat.le_of_ble_eq_true rfl) dX0_lambda_of_2_2 k0
    replace h1 := (bte_i h1).2 h5
    cases h1
  obtain ⟨s2, v2, h6, h⟩ := bcl_i h
  refine r_callS hκ (n' := 2) (index := 540) (w_X0_lettersOf Γ0 l0 h6) (lw_S q1613 q1614 q121 q1615) (by decide +kernel) rfl (by decide) rfl (Nat.le_of_ble_eq_true rfl) dX0_lambda_of_2_7 ?_
  exact x_ret hκ hf (x_P h) (fun κ hκ hf => r_iret hκ hf (nar_int _) dX0_lambda_of_2_10)
/-- EditsMeet.lambda$of$3(LEditsMeet$Part;)I -/
def F_X0_lambda_of_3 (s0 : bS) (a0 : Int) : Option (bS × Int × Int) :=
  bcl (bte (bg s0 0 a0 0 = 6) (F_X5_deletes s0 a0) (bte (bg s0 0 a0 0 = 15) (F_X5_deletes s0 a0) (bte (bg s0 0 a0 0 = 16) (F_X5_deletes s0 a0) (bte (bg s0 0 a0 0 = 17) (F_X5_deletes s0 a0) (none))))) fun s1 v1 =>
  bcl (F_X0_lettersOf s1 a0 v1) fun s2 v2 =>
  some (s2, v2, -1)
set_option maxHeartbeats 4000000 in
set_option maxRecDepth 100000 in
theorem w_X0_lambda_of_3 (Γ0 : bG) (l0 : Launch) {s0 st' : bS} {v xx a0 : Int} (h : F_X0_lambda_of_3 s0 a0 = some (st', v, xx)) : bCx Γ0 l0 yX0_lambda_of_3 (ws_ yX0_lambda_of_3 cX0_lambda_of_3 1 (some .int)) 5 100 (some 0) [(2, a0)] s0 (bEq st' v xx) := by
  refine xb_ent (own := RX0) (by decide +kernel) rfl (Nat.le_of_ble_eq_true rfl) (L := [(0, (2, a0))]) rfl ?_
  intro κ hκ hi ht hf
  unfold F_X0_lambda_of_3 at h
  refine r_aload_n hκ 0 rfl rfl dX0_lambda_of_3_0 ?_
  refine r_aload_n hκ 0 rfl rfl dX0_lambda_of_3_1 ?_
  obtain ⟨s1, v1, h1, h⟩ := bcl_i h
  refine r_seq (A := bJ κ s1 7 [(0, (2, a0))] [(0, v1), (2, a0)]) ?_ (fun k0 => ?_)
  case refine_2 =>
    by_cases h2 : bg s0 0 a0 0 = 6
    · have hq0 := (bte_i h1).1 h2
      exact r_callFD hκ (n' := 0) (index := 544) (C := "EditsMeet$Keep") (w_X5_deletes Γ0 l0 hq0) (lw_meth q1496) q1620 q1494 q137 (by decide +kernel) (by decide +kernel) (t := 5) h2 rfl rfl (by decide) rfl (Nat.le_of_ble_eq_true rfl) dX0_lambda_of_3_2 k0
    replace h1 := (bte_i h1).2 h2
    by_cases h3 : bg s0 0 a0 0 = 15
    · have hq0 := (bte_i h1).1 h3
      exact r_callFD hκ (n' := 0) (index := 544) (C := "EditsMeet$Delete") (w_X5_deletes Γ0 l0 hq0) (lw_meth q1496) q1620 q1494 q137 (by decide +kernel) (by decide +kernel) (t := 14) h3 rfl rfl (by decide) rfl (Nat.le_of_ble_eq_true rfl) dX0_lambda_of_3_2 k0
    replace h1 := (bte_i h1).2 h3
    by_cases h4 : bg s0 0 a0 0 = 16
    · have hq0 := (bte_i h1).1 h4
      exact r_callFD hκ (n' := 0) (index := 544) (C := "EditsMeet$Insert") (w_X5_deletes Γ0 l0 hq0) (lw_meth q1496) q1620 q1494 q137 (by decide +kernel) (by decide +kernel) (t := 15) h4 rfl rfl (by decide) rfl (Nat.le_of_ble_eq_true rfl) dX0_lambda_of_3_2 k0
    replace h1 := (bte_i h1).2 h4
    by_cases h5 : bg s0 0 a0 0 = 17
    · have hq0 := (bte_i h1).1 h5
      exact r_callFD hκ (n' := 0) (index := 544) (C := "EditsMeet$Mark") (w_X5_deletes Γ0 l0 hq0) (lw_meth q1496) q1620 q1494 q137 (by decide +kernel) (by decide +kernel) (t := 16) h5 rfl rfl (by decide) rfl (Nat.le_of_ble_eq_true rfl) dX0_lambda_of_3_2 k0
    replace h1 := (bte_i h1).2 h5
    cases h1
  obtain ⟨s2, v2, h6, h⟩ := bcl_i h
  refine r_callS hκ (n' := 2) (index := 540) (w_X0_lettersOf Γ0 l0 h6) (lw_S q1613 q1614 q121 q1615) (by decide +kernel) rfl (by decide) rfl (Nat.le_of_ble_eq_true rfl) dX0_lambda_of_3_7 ?_
  exact x_ret hκ hf (x_P h) (fun κ hκ hf => r_iret hκ hf (nar_int _) dX0_lambda_of_3_10)
/-- EditsMeet.lambda$of$4(LEditsMeet$Part;)I -/
def F_X0_lambda_of_4 (s0 : bS) (a0 : Int) : Option (bS × Int × Int) :=
  bte (bg s0 0 a0 0 = 17) (bcl (F_X0_lettersOf s0 a0 1) fun s1 v1 =>
  some (s1, v1, -1)) (bck (a0 < 0 ∨ bg s0 0 a0 0 = 6 ∨ bg s0 0 a0 0 = 15 ∨ bg s0 0 a0 0 = 16) <| bcl (F_X0_lettersOf s0 a0 0) fun s2 v2 =>
  some (s2, v2, -1))
set_option maxHeartbeats 4000000 in
set_option maxRecDepth 100000 in
theorem w_X0_lambda_of_4 (Γ0 : bG) (l0 : Launch) {s0 st' : bS} {v xx a0 : Int} (h : F_X0_lambda_of_4 s0 a0 = some (st', v, xx)) : bCx Γ0 l0 yX0_lambda_of_4 (ws_ yX0_lambda_of_4 cX0_lambda_of_4 1 (some .int)) 4 81 (some 0) [(2, a0)] s0 (bEq st' v xx) := by
  refine xb_ent (own := RX0) (by decide +kernel) rfl (Nat.le_of_ble_eq_true rfl) (L := [(0, (2, a0))]) rfl ?_
  intro κ hκ hi ht hf
  unfold F_X0_lambda_of_4 at h
  refine r_aload_n hκ 0 rfl rfl dX0_lambda_of_4_0 ?_
  refine r_aload_n hκ 0 rfl rfl dX0_lambda_of_4_1 ?_
  by_cases h1 : bg s0 0 a0 0 = 17
  · replace h := (bte_i h).1 h1
    refine r_instGY hκ q972 (⟨17, _, h1, by decide, rfl, Or.inl (by decide +kernel)⟩) dX0_lambda_of_4_2 ?_
    obtain ⟨s1, v1, h3, h⟩ := bcl_i h
    refine r_callS hκ (n' := 2) (index := 540) (w_X0_lettersOf Γ0 l0 h3) (lw_S q1613 q1614 q121 q1615) (by decide +kernel) rfl (by decide) rfl (Nat.le_of_ble_eq_true rfl) dX0_lambda_of_4_5 ?_
    exact x_ret hκ hf (x_P h) (fun κ hκ hf => r_iret hκ hf (nar_int _) dX0_lambda_of_4_8)
  · replace h := (bte_i h).2 h1
    obtain ⟨h2, h⟩ := bck_i h
    refine r_instGN hκ q972 (Or.elim h2 (fun h2 => Or.inl h2) (fun h2 => Or.elim h2 (fun h2 => Or.inr ⟨6, _, h2, by decide, rfl, by decide +kernel⟩) (fun h2 => Or.elim h2 (fun h2 => Or.inr ⟨15, _, h2, by decide, rfl, by decide +kernel⟩) (fun h2 => Or.inr ⟨16, _, h2, by decide, rfl, by decide +kernel⟩)))) dX0_lambda_of_4_2 ?_
    obtain ⟨s2, v2, h4, h⟩ := bcl_i h
    refine r_callS hκ (n' := 2) (index := 540) (w_X0_lettersOf Γ0 l0 h4) (lw_S q1613 q1614 q121 q1615) (by decide +kernel) rfl (by decide) rfl (Nat.le_of_ble_eq_true rfl) dX0_lambda_of_4_5 ?_
    exact x_ret hκ hf (x_P h) (fun κ hκ hf => r_iret hκ hf (nar_int _) dX0_lambda_of_4_8)
/-- EditsMeet.lambda$fits$1(LEditsMeet$Part;)I -/
def F_X0_lambda_fits_1 (s0 : bS) (a0 : Int) : Option (bS × Int × Int) :=
  bcl (bte (bg s0 0 a0 0 = 6) (F_X5_inserts s0 a0) (bte (bg s0 0 a0 0 = 15) (F_X5_inserts s0 a0) (bte (bg s0 0 a0 0 = 16) (F_X5_inserts s0 a0) (bte (bg s0 0 a0 0 = 17) (F_X5_inserts s0 a0) (none))))) fun s1 v1 =>
  bcl (F_X0_lettersOf s1 a0 v1) fun s2 v2 =>
  some (s2, v2, -1)
set_option maxHeartbeats 4000000 in
set_option maxRecDepth 100000 in
theorem w_X0_lambda_fits_1 (Γ0 : bG) (l0 : Launch) {s0 st' : bS} {v xx a0 : Int} (h : F_X0_lambda_fits_1 s0 a0 = some (st', v, xx)) : bCx Γ0 l0 yX0_lambda_fits_1 (ws_ yX0_lambda_fits_1 cX0_lambda_fits_1 1 (some .int)) 4 81 (some 0) [(2, a0)] s0 (bEq st' v xx) := by
  refine xb_ent (own := RX0) (by decide +kernel) rfl (Nat.le_of_ble_eq_true rfl) (L := [(0, (2, a0))]) rfl ?_
  intro κ hκ hi ht hf
  unfold F_X0_lambda_fits_1 at h
  refine r_aload_n hκ 0 rfl rfl dX0_lambda_fits_1_0 ?_
  refine r_aload_n hκ 0 rfl rfl dX0_lambda_fits_1_1 ?_
  obtain ⟨s1, v1, h1, h⟩ := bcl_i h
  refine r_seq (A := bJ κ s1 7 [(0, (2, a0))] [(0, v1), (2, a0)]) ?_ (fun k0 => ?_)
  case refine_2 =>
    by_cases h2 : bg s0 0 a0 0 = 6
    · have hq0 := (bte_i h1).1 h2
      exact r_callFD hκ (n' := 0) (index := 533) (C := "EditsMeet$Keep") (w_X5_inserts Γ0 l0 hq0) (lw_meth q1607) q1601 q1605 q137 (by decide +kernel) (by decide +kernel) (t := 5) h2 rfl rfl (by decide) rfl (Nat.le_of_ble_eq_true rfl) dX0_lambda_fits_1_2 k0
    replace h1 := (bte_i h1).2 h2
    by_cases h3 : bg s0 0 a0 0 = 15
    · have hq0 := (bte_i h1).1 h3
      exact r_callFD hκ (n' := 0) (index := 533) (C := "EditsMeet$Delete") (w_X5_inserts Γ0 l0 hq0) (lw_meth q1607) q1601 q1605 q137 (by decide +kernel) (by decide +kernel) (t := 14) h3 rfl rfl (by decide) rfl (Nat.le_of_ble_eq_true rfl) dX0_lambda_fits_1_2 k0
    replace h1 := (bte_i h1).2 h3
    by_cases h4 : bg s0 0 a0 0 = 16
    · have hq0 := (bte_i h1).1 h4
      exact r_callFD hκ (n' := 0) (index := 533) (C := "EditsMeet$Insert") (w_X5_inserts Γ0 l0 hq0) (lw_meth q1607) q1601 q1605 q137 (by decide +kernel) (by decide +kernel) (t := 15) h4 rfl rfl (by decide) rfl (Nat.le_of_ble_eq_true rfl) dX0_lambda_fits_1_2 k0
    replace h1 := (bte_i h1).2 h4
    by_cases h5 : bg s0 0 a0 0 = 17
    · have hq0 := (bte_i h1).1 h5
      exact r_callFD hκ (n' := 0) (index := 533) (C := "EditsMeet$Mark") (w_X5_inserts Γ0 l0 hq0) (lw_meth q1607) q1601 q1605 q137 (by decide +kernel) (by decide +kernel) (t := 16) h5 rfl rfl (by decide) rfl (Nat.le_of_ble_eq_true rfl) dX0_lambda_fits_1_2 k0
    replace h1 := (bte_i h1).2 h5
    cases h1
  obtain ⟨s2, v2, h6, h⟩ := bcl_i h
  refine r_callS hκ (n' := 2) (index := 540) (w_X0_lettersOf Γ0 l0 h6) (lw_S q1613 q1614 q121 q1615) (by decide +kernel) rfl (by decide) rfl (Nat.le_of_ble_eq_true rfl) dX0_lambda_fits_1_7 ?_
  exact x_ret hκ hf (x_P h) (fun κ hκ hf => r_iret hκ hf (nar_int _) dX0_lambda_fits_1_10)
/-- EditsMeet$Edit.sum(LEditsMeet$Counted;)I -/
def F_X8_sum_r (b : Nat) (x0 x1 x2 x3 : Int) (s0 : bS) : Option (bS × Int) :=
  match b with
  | 0 =>
    bck (bg s0 0 x0 0 = 7) <|
    bck (bg s0 0 (bg s0 134 x0 0) 0 = 21) <|
    bcl (F_J10_size s0 (bg s0 134 x0 0)) fun s1 v1 =>
    bte (i32 v1 ≤ i32 x3)
    (some (s1, x2))
    (bck (bg s1 0 x0 0 = 7) <|
    bck (bg s1 0 (bg s1 134 x0 0) 0 = 21) <|
    bcl (F_J10_get s1 (bg s1 134 x0 0) x3) fun s2 v2 =>
    bck (v2 < 0 ∨ bg s2 0 v2 0 = 6 ∨ bg s2 0 v2 0 = 15 ∨ bg s2 0 v2 0 = 16 ∨ bg s2 0 v2 0 = 17) <|
    bclx (bte (bg s2 0 x1 0 = 502) (F_X8_lambda_from_0 s2 v2) (bte (bg s2 0 x1 0 = 503) (F_X8_lambda_to_1 s2 v2) (bte (bg s2 0 x1 0 = 504) (F_X0_lambda_of_2 s2 v2) (bte (bg s2 0 x1 0 = 505) (F_X0_lambda_of_3 s2 v2) (bte (bg s2 0 x1 0 = 506) (F_X0_lambda_of_4 s2 v2) (bte (bg s2 0 x1 0 = 511) (F_X0_lambda_fits_1 s2 v2) (none))))))) fun s3 v3 v4 =>
    bck (v4 = -1) <|
    F_X8_sum_r 0 x0 x1 (x2 + v3) (x3 + 1) s3)
  | _ => none
partial_fixpoint
def F_X8_sum (s0 : bS) (a0 a1 : Int) : Option (bS × Int) :=
  F_X8_sum_r 0 a0 a1 0 0 s0
set_option maxHeartbeats 4000000 in
set_option maxRecDepth 100000 in
set_option synthInstance.maxHeartbeats 4000000 in
theorem w_X8_sum_r {Γ0 : bG} {l0 : Launch} {κ : bK} {st' : bS} {v : Int} (hκ : bOk κ Γ0 l0 cX8_sum RX8 4 7 141) (hi : bIn κ yX8_sum) (hf : bFin κ (some .int) st' (some (0, v))) (b : Nat) (x0 x1 x2 x3 : Int) (s0 : bS) (h : F_X8_sum_r b x0 x1 x2 x3 s0 = some (st', v)) : match (generalizing := false) b with | 0 => bJ κ s0 4 [(0, (2, x0)), (1, (2, x1)), (2, (0, x2)), (3, (0, x3))] [] | _ => True := by
  refine F_X8_sum_r.partial_correctness x0 x1 (fun b x2 x3 s0 r => r = (st', v) → match (generalizing := false) b with | 0 => bJ κ s0 4 [(0, (2, x0)), (1, (2, x1)), (2, (0, x2)), (3, (0, x3))] [] | _ => True) ?_ b x2 x3 s0 _ h rfl
  intro f' ih b x2 x3 s0 r h hr
  subst hr
  match b, h with
  | 0, h =>
      refine r_iload_n hκ 3 rfl rfl dX8_sum_4 ?_
      refine r_aload_n hκ 0 rfl rfl dX8_sum_5 ?_
      obtain ⟨h1, h⟩ := bck_i h
      refine r_get hκ (t := 6) (k := 0) (r := 134) h1 rfl in_X8 (by decide) rfl q408 (Or.inl rfl) dX8_sum_6 ?_
      obtain ⟨h2, h⟩ := bck_i h
      obtain ⟨s1, v1, h3, h⟩ := bcl_i h
      refine r_callV hκ (n' := 0) (index := 73) (w_J10_size Γ0 l0 h3) (lw_V q810 q811 q812 q134 q813) (by decide +kernel) (t := 20) h2 rfl rfl (by decide) rfl (Nat.le_of_ble_eq_true rfl) dX8_sum_9 ?_
      refine r_icmp_ge hκ (tgt := 41) (by decide) dX8_sum_12 (fun h4 => ?_) (fun h4 => ?_)
      · replace h := (bte_i h).1 h4
        refine r_iload_n hκ 2 rfl rfl dX8_sum_41 ?_
        exact r_iretH hκ hf h (nar_int _) dX8_sum_42
      · replace h := (bte_i h).2 h4
        refine r_iload_n hκ 2 rfl rfl dX8_sum_15 ?_
        refine r_aload_n hκ 1 rfl rfl dX8_sum_16 ?_
        refine r_aload_n hκ 0 rfl rfl dX8_sum_17 ?_
        obtain ⟨h5, h⟩ := bck_i h
        refine r_get hκ (t := 6) (k := 0) (r := 134) h5 rfl in_X8 (by decide) rfl q408 (Or.inl rfl) dX8_sum_18 ?_
        refine r_iload_n hκ 3 rfl rfl dX8_sum_21 ?_
        obtain ⟨h6, h⟩ := bck_i h
        obtain ⟨s2, v2, h7, h⟩ := bcl_i h
        refine r_callV hκ (n' := 1) (index := 76) (w_J10_get Γ0 l0 h7) (lw_V q818 q819 q820 q134 q821) (by decide +kernel) (t := 20) h6 rfl rfl (by decide) rfl (Nat.le_of_ble_eq_true rfl) dX8_sum_22 ?_
        obtain ⟨h8, h⟩ := bck_i h
        refine r_cast hκ q832 (Or.elim h8 (fun h8 => Or.inl h8) (fun h8 => Or.elim h8 (fun h8 => Or.inr ⟨5, _, h8, rfl, Or.inr (by decide +kernel)⟩) (fun h8 => Or.elim h8 (fun h8 => Or.inr ⟨14, _, h8, rfl, Or.inr (by decide +kernel)⟩) (fun h8 => Or.elim h8 (fun h8 => Or.inr ⟨15, _, h8, rfl, Or.inr (by decide +kernel)⟩) (fun h8 => Or.inr ⟨16, _, h8, rfl, Or.inr (by decide +kernel)⟩))))) dX8_sum_25 ?_
        obtain ⟨s3, v3, v4, h9, h⟩ := bclx_i h
        obtain ⟨h10, h⟩ := bck_i h
        refine r_seq (A := bJ κ s3 33 [(0, (2, x0)), (1, (2, x1)), (2, (0, x2)), (3, (0, x3))] [(0, v3), (0, x2)]) ?_ (fun k0 => ?_)
        case refine_2 =>
          by_cases h11 : bg s2 0 x1 0 = 502
          · have hq0 := (bte_i h9).1 h11
            exact r_callL6 hκ (k := 2) (xi := ⟨"EditsMeet$Counted", "of", "(LEditsMeet$Part;)I"⟩) rfl (lams_2 rfl) q3683 (pv := v2) rfl (by decide) h11 ⟨rfl, rfl, by decide +kernel, rfl⟩ (y := yX8_lambda_from_0) rfl (by decide +kernel) rfl lmdS_0 lmdS_1 lmdS_4 (w_X8_lambda_from_0 Γ0 l0 hq0) q1587 (by decide +kernel) (by decide +kernel) q1565 q140 q1566 (by decide) (by decide) (by decide +kernel) (by decide +kernel) (by decide) rfl (Nat.le_of_ble_eq_true rfl) dX8_sum_28 (r_xj1L (fun _ => k0)) (r_xj2 (fun hn => absurd h10 hn))
          replace h9 := (bte_i h9).2 h11
          by_cases h12 : bg s2 0 x1 0 = 503
          · have hq0 := (bte_i h9).1 h12
            exact r_callL6 hκ (k := 3) (xi := ⟨"EditsMeet$Counted", "of", "(LEditsMeet$Part;)I"⟩) rfl (lams_3 rfl) q3683 (pv := v2) rfl (by decide) h12 ⟨rfl, rfl, by decide +kernel, rfl⟩ (y := yX8_lambda_to_1) rfl (by decide +kernel) rfl lmdS_0 lmdS_1 lmdS_4 (w_X8_lambda_to_1 Γ0 l0 hq0) q1587 (by decide +kernel) (by decide +kernel) q1594 q140 q1595 (by decide) (by decide) (by decide +kernel) (by decide +kernel) (by decide) rfl (Nat.le_of_ble_eq_true rfl) dX8_sum_28 (r_xj1L (fun _ => k0)) (r_xj2 (fun hn => absurd h10 hn))
          replace h9 := (bte_i h9).2 h12
          by_cases h13 : bg s2 0 x1 0 = 504
          · have hq0 := (bte_i h9).1 h13
            exact r_callL6 hκ (k := 4) (xi := ⟨"EditsMeet$Counted", "of", "(LEditsMeet$Part;)I"⟩) rfl (lams_4 rfl) q3683 (pv := v2) rfl (by decide) h13 ⟨rfl, rfl, by decide +kernel, rfl⟩ (y := yX0_lambda_of_2) rfl (by decide +kernel) rfl lmdS_0 lmdS_1 lmdS_4 (w_X0_lambda_of_2 Γ0 l0 hq0) q1587 (by decide +kernel) (by decide +kernel) q1598 q121 q1599 (by decide) (by decide) (by decide +kernel) (by decide +kernel) (by decide) rfl (Nat.le_of_ble_eq_true rfl) dX8_sum_28 (r_xj1L (fun _ => k0)) (r_xj2 (fun hn => absurd h10 hn))
          replace h9 := (bte_i h9).2 h13
          by_cases h14 : bg s2 0 x1 0 = 505
          · have hq0 := (bte_i h9).1 h14
            exact r_callL6 hκ (k := 5) (xi := ⟨"EditsMeet$Counted", "of", "(LEditsMeet$Part;)I"⟩) rfl (lams_5 rfl) q3683 (pv := v2) rfl (by decide) h14 ⟨rfl, rfl, by decide +kernel, rfl⟩ (y := yX0_lambda_of_3) rfl (by decide +kernel) rfl lmdS_0 lmdS_1 lmdS_4 (w_X0_lambda_of_3 Γ0 l0 hq0) q1587 (by decide +kernel) (by decide +kernel) q1617 q121 q1618 (by decide) (by decide) (by decide +kernel) (by decide +kernel) (by decide) rfl (Nat.le_of_ble_eq_true rfl) dX8_sum_28 (r_xj1L (fun _ => k0)) (r_xj2 (fun hn => absurd h10 hn))
          replace h9 := (bte_i h9).2 h14
          by_cases h15 : bg s2 0 x1 0 = 506
          · have hq0 := (bte_i h9).1 h15
            exact r_callL6 hκ (k := 6) (xi := ⟨"EditsMeet$Counted", "of", "(LEditsMeet$Part;)I"⟩) rfl (lams_6 rfl) q3683 (pv := v2) rfl (by decide) h15 ⟨rfl, rfl, by decide +kernel, rfl⟩ (y := yX0_lambda_of_4) rfl (by decide +kernel) rfl lmdS_0 lmdS_1 lmdS_4 (w_X0_lambda_of_4 Γ0 l0 hq0) q1587 (by decide +kernel) (by decide +kernel) q1623 q121 q1624 (by decide) (by decide) (by decide +kernel) (by decide +kernel) (by decide) rfl (Nat.le_of_ble_eq_true rfl) dX8_sum_28 (r_xj1L (fun _ => k0)) (r_xj2 (fun hn => absurd h10 hn))
          replace h9 := (bte_i h9).2 h15
          by_cases h16 : bg s2 0 x1 0 = 511
          · have hq0 := (bte_i h9).1 h16
            exact r_callL6 hκ (k := 11) (xi := ⟨"EditsMeet$Counted", "of", "(LEditsMeet$Part;)I"⟩) rfl (lams_11 rfl) q3683 (pv := v2) rfl (by decide) h16 ⟨rfl, rfl, by decide +kernel, rfl⟩ (y := yX0_lambda_fits_1) rfl (by decide +kernel) rfl lmdS_0 lmdS_1 lmdS_4 (w_X0_lambda_fits_1 Γ0 l0 hq0) q1587 (by decide +kernel) (by decide +kernel) q2132 q121 q2133 (by decide) (by decide) (by decide +kernel) (by decide +kernel) (by decide) rfl (Nat.le_of_ble_eq_true rfl) dX8_sum_28 (r_xj1L (fun _ => k0)) (r_xj2 (fun hn => absurd h10 hn))
          replace h9 := (bte_i h9).2 h16
          cases h9
        refine r_iadd hκ dX8_sum_33 ?_
        refine r_istore_n hκ (L2 := [(2, (0, (x2 + v3))), (0, (2, x0)), (1, (2, x1)), (3, (0, x3))]) (by decide) rfl rfl dX8_sum_34 ?_
        refine r_iinc hκ (L2 := [(3, (0, (x3 + 1))), (2, (0, (x2 + v3))), (0, (2, x0)), (1, (2, x1))]) 3 rfl (by decide) rfl dX8_sum_35 ?_
        refine r_goto hκ (tgt := 4) (by decide) dX8_sum_38 ?_
        exact r_sub [2, 3, 1, 0] rfl (ih 0 _ _ _ _ h rfl)
  | b + 1, h => trivial
set_option maxHeartbeats 4000000 in
set_option maxRecDepth 100000 in
theorem w_X8_sum (Γ0 : bG) (l0 : Launch) {s0 st' : bS} {v a0 a1 : Int} (h : F_X8_sum s0 a0 a1 = some (st', v)) : bCt Γ0 l0 yX8_sum cX8_sum 4 (some .int) 7 141 [(2, a0), (2, a1)] s0 st' (some (0, v)) := by
  refine b_ent (own := RX8) (by decide +kernel) rfl (Nat.le_of_ble_eq_true rfl) (L := [(0, (2, a0)), (1, (2, a1))]) rfl ?_
  intro κ hκ hi hf
  unfold F_X8_sum at h
  refine r_iconst hκ dX8_sum_0 ?_
  refine r_istore_n hκ (L2 := [(2, (0, 0)), (0, (2, a0)), (1, (2, a1))]) (by decide) rfl rfl dX8_sum_1 ?_
  refine r_iconst hκ dX8_sum_2 ?_
  refine r_istore_n hκ (L2 := [(3, (0, 0)), (2, (0, 0)), (0, (2, a0)), (1, (2, a1))]) (by decide) rfl rfl dX8_sum_3 ?_
  exact r_sub [2, 3, 1, 0] rfl (w_X8_sum_r hκ hi hf 0 _ _ _ _ _ h)
/-- EditsMeet$Edit.from()I -/
def F_X8_from (s0 : bS) (a0 : Int) : Option (bS × Int) :=
  bck (bg s0 0 a0 0 = 7) <|
  bcl (F_X8_sum s0 a0 (bg s0 1 (-(2 + ((100 + 2 : Nat) : Int))) 0)) fun s1 v1 =>
  some (s1, v1)
set_option maxHeartbeats 4000000 in
set_option maxRecDepth 100000 in
theorem w_X8_from (Γ0 : bG) (l0 : Launch) {s0 st' : bS} {v a0 : Int} (h : F_X8_from s0 a0 = some (st', v)) : bCt Γ0 l0 yX8_from cX8_from 1 (some .int) 8 3080 [(2, a0)] s0 st' (some (0, v)) := by
  refine b_ent (own := RX8) (by decide +kernel) rfl (Nat.le_of_ble_eq_true rfl) (L := [(0, (2, a0))]) rfl ?_
  intro κ hκ hi hf
  unfold F_X8_from at h
  refine r_aload_n hκ 0 rfl rfl dX8_from_0 ?_
  refine r_indyK hκ hi (k := 2) rfl rfl rfl rfl (Nat.le_of_ble_eq_true rfl) (Nat.le_of_ble_eq_true rfl) dX8_from_1 ?_
  obtain ⟨h1, h⟩ := bck_i h
  obtain ⟨s1, v1, h2, h⟩ := bcl_i h
  refine r_callV hκ (n' := 1) (index := 125) (w_X8_sum Γ0 l0 h2) (lw_V q1582 q1583 q1584 q140 q1585) (by decide +kernel) (t := 6) h1 rfl rfl (by decide) rfl (Nat.le_of_ble_eq_true rfl) dX8_from_6 ?_
  exact r_iretH hκ hf h (nar_int _) dX8_from_9
/-- EditsMeet$Edit.to()I -/
def F_X8_to (s0 : bS) (a0 : Int) : Option (bS × Int) :=
  bck (bg s0 0 a0 0 = 7) <|
  bcl (F_X8_sum s0 a0 (bg s0 1 (-(2 + ((100 + 3 : Nat) : Int))) 0)) fun s1 v1 =>
  some (s1, v1)
set_option maxHeartbeats 4000000 in
set_option maxRecDepth 100000 in
theorem w_X8_to (Γ0 : bG) (l0 : Launch) {s0 st' : bS} {v a0 : Int} (h : F_X8_to s0 a0 = some (st', v)) : bCt Γ0 l0 yX8_to cX8_to 1 (some .int) 8 3080 [(2, a0)] s0 st' (some (0, v)) := by
  refine b_ent (own := RX8) (by decide +kernel) rfl (Nat.le_of_ble_eq_true rfl) (L := [(0, (2, a0))]) rfl ?_
  intro κ hκ hi hf
  unfold F_X8_to at h
  refine r_aload_n hκ 0 rfl rfl dX8_to_0 ?_
  refine r_indyK hκ hi (k := 3) rfl rfl rfl rfl (Nat.le_of_ble_eq_true rfl) (Nat.le_of_ble_eq_true rfl) dX8_to_1 ?_
  obtain ⟨h1, h⟩ := bck_i h
  obtain ⟨s1, v1, h2, h⟩ := bcl_i h
  refine r_callV hκ (n' := 1) (index := 125) (w_X8_sum Γ0 l0 h2) (lw_V q1582 q1583 q1584 q140 q1585) (by decide +kernel) (t := 6) h1 rfl rfl (by decide) rfl (Nat.le_of_ble_eq_true rfl) dX8_to_6 ?_
  exact r_iretH hκ hf h (nar_int _) dX8_to_9
/-- EditsMeet.lambda$of$5(II)I -/
def F_X0_lambda_of_5 (s0 : bS) (a0 a1 a2 : Int) : Option (bS × Int × Int) :=
  bcl (F_X0_isIn s0 a1 0 5) fun s1 v1 =>
  bck (bg s1 0 a0 0 = 1) <|
  bclx (F_X0_edit_2 s1 a0 v1 a2) fun s2 v2 v3 =>
  bte (v3 = -1)
  (bte (b_t a1 = 0) (bck (bg s2 0 v2 0 = 7) <|
  bcl (F_X8_many s2 v2) fun s3 v4 =>
  some (s3, v4, -1)) (bte (b_t a1 = 1) (bck (bg s2 0 v2 0 = 7) <|
  bcl (F_X8_from s2 v2) fun s4 v5 =>
  some (s4, v5, -1)) (bte (b_t a1 = 2) (bck (bg s2 0 v2 0 = 7) <|
  bcl (F_X8_to s2 v2) fun s5 v6 =>
  some (s5, v6, -1)) (bte (b_t a1 = 3) (bck (bg s2 0 v2 0 = 7) <|
  bcl (F_X8_sum s2 v2 (bg s2 1 (-(2 + ((100 + 4 : Nat) : Int))) 0)) fun s6 v7 =>
  some (s6, v7, -1)) (bte (b_t a1 = 4) (bck (bg s2 0 v2 0 = 7) <|
  bcl (F_X8_sum s2 v2 (bg s2 1 (-(2 + ((100 + 5 : Nat) : Int))) 0)) fun s7 v8 =>
  some (s7, v8, -1)) (bck (bg s2 0 v2 0 = 7) <|
  bcl (F_X8_sum s2 v2 (bg s2 1 (-(2 + ((100 + 6 : Nat) : Int))) 0)) fun s8 v9 =>
  some (s8, v9, -1)))))))
  (some (s2, v2, v3))
set_option maxHeartbeats 4000000 in
set_option maxRecDepth 100000 in
theorem w_X0_lambda_of_5 (Γ0 : bG) (l0 : Launch) {s0 st' : bS} {v xx a0 a1 a2 : Int} (h : F_X0_lambda_of_5 s0 a0 a1 a2 = some (st', v, xx)) : bCx Γ0 l0 yX0_lambda_of_5 (ws_ yX0_lambda_of_5 cX0_lambda_of_5 4 (some .int)) 9 3100 (some 0) [(2, a0), (0, a1), (0, a2)] s0 (bEq st' v xx) := by
  refine xb_ent (own := RX0) (by decide +kernel) rfl (Nat.le_of_ble_eq_true rfl) (L := [(0, (2, a0)), (1, (0, a1)), (2, (0, a2))]) rfl ?_
  intro κ hκ hi ht hf
  unfold F_X0_lambda_of_5 at h
  refine r_aload_n hκ 0 rfl rfl dX0_lambda_of_5_0 ?_
  refine r_iload_n hκ 1 rfl rfl dX0_lambda_of_5_1 ?_
  refine r_iconst hκ dX0_lambda_of_5_2 ?_
  refine r_iconst hκ dX0_lambda_of_5_3 ?_
  obtain ⟨s1, v1, h1, h⟩ := bcl_i h
  refine r_callS hκ (n' := 3) (index := 45) (w_X0_isIn Γ0 l0 h1) (lw_S q624 q625 q121 q626) (by decide +kernel) rfl (by decide) rfl (Nat.le_of_ble_eq_true rfl) dX0_lambda_of_5_4 ?_
  refine r_iload_n hκ 2 rfl rfl dX0_lambda_of_5_7 ?_
  obtain ⟨h3, h⟩ := bck_i h
  obtain ⟨s2, v2, v3, h2, h⟩ := bclx_i h
  refine r_seq (A := (v3 = -1 → bJ κ s2 11 [(0, (2, a0)), (1, (0, a1)), (2, (0, a2))] [(2, v2)]) ∧ (¬ v3 = -1 → bT κ s2 8 [(0, (2, a0)), (1, (0, a1)), (2, (0, a2))] v2 v3)) ⟨fun h4 => ?_, fun h4 => ?_⟩ (fun k0 => r_xcallV hκ (n' := 2) (index := 520) (w_X0_edit_2 Γ0 l0 h2) (lw_V q1557 q1559 qs22 q121 q1560) (by decide +kernel) (t := 0) h3 rfl rfl (by decide) rfl (Nat.le_of_ble_eq_true rfl) dX0_lambda_of_5_8 (r_xj1 k0.1) (r_xj2 k0.2))
  · replace h := (bte_i h).1 h4
    refine r_astore_n hκ (L2 := [(3, (2, v2)), (0, (2, a0)), (1, (0, a1)), (2, (0, a2))]) (by decide) rfl rfl dX0_lambda_of_5_11 ?_
    refine r_iload_n hκ 2 rfl rfl dX0_lambda_of_5_12 ?_
    by_cases h5 : b_t a1 = 0
    · replace h := (bte_i h).1 h5
      refine r_tswIn hκ (kk := 0) (tgt := 48) h5 (by decide) (by decide) rfl (by decide) dX0_lambda_of_5_13 ?_
      refine r_aload_n hκ 0 rfl rfl dX0_lambda_of_5_48 ?_
      obtain ⟨h6, h⟩ := bck_i h
      obtain ⟨s3, v4, h7, h⟩ := bcl_i h
      refine r_callV hκ (n' := 0) (index := 179) (w_X8_many Γ0 l0 h7) (lw_V q806 q807 q808 q140 q809) (by decide +kernel) (t := 6) h6 rfl rfl (by decide) rfl (Nat.le_of_ble_eq_true rfl) dX0_lambda_of_5_49 ?_
      refine r_goto hκ (tgt := 102) (by decide) dX0_lambda_of_5_52 ?_
      exact x_ret hκ hf (x_P h) (fun κ hκ hf => r_iret hκ hf (nar_int _) dX0_lambda_of_5_102)
    replace h := (bte_i h).2 h5
    by_cases h8 : b_t a1 = 1
    · replace h := (bte_i h).1 h8
      refine r_tswIn hκ (kk := 1) (tgt := 55) h8 (by decide) (by decide) rfl (by decide) dX0_lambda_of_5_13 ?_
      refine r_aload_n hκ 0 rfl rfl dX0_lambda_of_5_55 ?_
      obtain ⟨h9, h⟩ := bck_i h
      obtain ⟨s4, v5, h10, h⟩ := bcl_i h
      refine r_callV hκ (n' := 0) (index := 182) (w_X8_from Γ0 l0 h10) (lw_V q1561 q1562 q1563 q140 q1564) (by decide +kernel) (t := 6) h9 rfl rfl (by decide) rfl (Nat.le_of_ble_eq_true rfl) dX0_lambda_of_5_56 ?_
      refine r_goto hκ (tgt := 102) (by decide) dX0_lambda_of_5_59 ?_
      exact x_ret hκ hf (x_P h) (fun κ hκ hf => r_iret hκ hf (nar_int _) dX0_lambda_of_5_102)
    replace h := (bte_i h).2 h8
    by_cases h11 : b_t a1 = 2
    · replace h := (bte_i h).1 h11
      refine r_tswIn hκ (kk := 2) (tgt := 62) h11 (by decide) (by decide) rfl (by decide) dX0_lambda_of_5_13 ?_
      refine r_aload_n hκ 0 rfl rfl dX0_lambda_of_5_62 ?_
      obtain ⟨h12, h⟩ := bck_i h
      obtain ⟨s5, v6, h13, h⟩ := bcl_i h
      refine r_callV hκ (n' := 0) (index := 185) (w_X8_to Γ0 l0 h13) (lw_V q1590 q1591 q1592 q140 q1593) (by decide +kernel) (t := 6) h12 rfl rfl (by decide) rfl (Nat.le_of_ble_eq_true rfl) dX0_lambda_of_5_63 ?_
      refine r_goto hκ (tgt := 102) (by decide) dX0_lambda_of_5_66 ?_
      exact x_ret hκ hf (x_P h) (fun κ hκ hf => r_iret hκ hf (nar_int _) dX0_lambda_of_5_102)
    replace h := (bte_i h).2 h11
    by_cases h14 : b_t a1 = 3
    · replace h := (bte_i h).1 h14
      refine r_tswIn hκ (kk := 3) (tgt := 69) h14 (by decide) (by decide) rfl (by decide) dX0_lambda_of_5_13 ?_
      refine r_aload_n hκ 0 rfl rfl dX0_lambda_of_5_69 ?_
      refine r_indyK hκ hi (k := 4) rfl rfl rfl rfl (Nat.le_of_ble_eq_true rfl) (Nat.le_of_ble_eq_true rfl) dX0_lambda_of_5_70 ?_
      obtain ⟨h15, h⟩ := bck_i h
      obtain ⟨s6, v7, h16, h⟩ := bcl_i h
      refine r_callV hκ (n' := 1) (index := 192) (w_X8_sum Γ0 l0 h16) (lw_V q1616 q1583 q1584 q140 q1585) (by decide +kernel) (t := 6) h15 rfl rfl (by decide) rfl (Nat.le_of_ble_eq_true rfl) dX0_lambda_of_5_75 ?_
      refine r_goto hκ (tgt := 102) (by decide) dX0_lambda_of_5_78 ?_
      exact x_ret hκ hf (x_P h) (fun κ hκ hf => r_iret hκ hf (nar_int _) dX0_lambda_of_5_102)
    replace h := (bte_i h).2 h14
    by_cases h17 : b_t a1 = 4
    · replace h := (bte_i h).1 h17
      refine r_tswIn hκ (kk := 4) (tgt := 81) h17 (by decide) (by decide) rfl (by decide) dX0_lambda_of_5_13 ?_
      refine r_aload_n hκ 0 rfl rfl dX0_lambda_of_5_81 ?_
      refine r_indyK hκ hi (k := 5) rfl rfl rfl rfl (Nat.le_of_ble_eq_true rfl) (Nat.le_of_ble_eq_true rfl) dX0_lambda_of_5_82 ?_
      obtain ⟨h18, h⟩ := bck_i h
      obtain ⟨s7, v8, h19, h⟩ := bcl_i h
      refine r_callV hκ (n' := 1) (index := 192) (w_X8_sum Γ0 l0 h19) (lw_V q1616 q1583 q1584 q140 q1585) (by decide +kernel) (t := 6) h18 rfl rfl (by decide) rfl (Nat.le_of_ble_eq_true rfl) dX0_lambda_of_5_87 ?_
      refine r_goto hκ (tgt := 102) (by decide) dX0_lambda_of_5_90 ?_
      exact x_ret hκ hf (x_P h) (fun κ hκ hf => r_iret hκ hf (nar_int _) dX0_lambda_of_5_102)
    replace h := (bte_i h).2 h17
    refine r_tswOut hκ (tgt := 93) (by omega) (by decide) dX0_lambda_of_5_13 ?_
    refine r_aload_n hκ 0 rfl rfl dX0_lambda_of_5_93 ?_
    refine r_indyK hκ hi (k := 6) rfl rfl rfl rfl (Nat.le_of_ble_eq_true rfl) (Nat.le_of_ble_eq_true rfl) dX0_lambda_of_5_94 ?_
    obtain ⟨h20, h⟩ := bck_i h
    obtain ⟨s8, v9, h21, h⟩ := bcl_i h
    refine r_callV hκ (n' := 1) (index := 192) (w_X8_sum Γ0 l0 h21) (lw_V q1616 q1583 q1584 q140 q1585) (by decide +kernel) (t := 6) h20 rfl rfl (by decide) rfl (Nat.le_of_ble_eq_true rfl) dX0_lambda_of_5_99 ?_
    exact x_ret hκ hf (x_P h) (fun κ hκ hf => r_iret hκ hf (nar_int _) dX0_lambda_of_5_102)
  · replace h := (bte_i h).2 h4
    exact r_xout hκ ht hf (by decide) (x_P h)
/-- EditsMeet.lambda$part$6(III)I -/
def F_X0_lambda_part_6 (s0 : bS) (a0 a1 a2 a3 : Int) : Option (bS × Int × Int) :=
  bcl (F_X0_isIn s0 a1 0 3) fun s1 v1 =>
  bck (bg s1 0 a0 0 = 1) <|
  bclx (F_X0_edit_2 s1 a0 v1 a2) fun s2 v2 v3 =>
  bte (v3 = -1)
  (bck (bg s2 0 v2 0 = 7) <|
  bcl (F_X8_many s2 v2) fun s3 v4 =>
  bcl (F_X0_isIn s3 a3 0 (v4 - 1)) fun s4 v5 =>
  bclx (F_X0_may s4 v5 (-2)) fun s5 v6 v7 =>
  bte (v7 = -1)
  (bck (bg s5 0 v2 0 = 7) <|
  bcl (F_X8_get s5 v2 a3) fun s6 v8 =>
  bte (b_t a1 = 0) (bcl (bte (bg s6 0 v8 0 = 6) (F_X7_kind s6 v8) (bte (bg s6 0 v8 0 = 15) (F_X16_kind s6 v8) (bte (bg s6 0 v8 0 = 16) (F_X17_kind s6 v8) (bte (bg s6 0 v8 0 = 17) (F_X18_kind s6 v8) (none))))) fun s7 v9 =>
  some (s7, v9, -1)) (bte (b_t a1 = 1) (bcl (bte (bg s6 0 v8 0 = 6) (F_X6_n s6 v8) (bte (bg s6 0 v8 0 = 15) (F_X6_n s6 v8) (bte (bg s6 0 v8 0 = 16) (F_X17_n s6 v8) (bte (bg s6 0 v8 0 = 17) (F_X6_n s6 v8) (none))))) fun s8 v10 =>
  some (s8, v10, -1)) (bte (b_t a1 = 2) (bcl (bte (bg s6 0 v8 0 = 6) (F_X5_on s6 v8) (bte (bg s6 0 v8 0 = 15) (F_X5_on s6 v8) (bte (bg s6 0 v8 0 = 16) (F_X5_on s6 v8) (bte (bg s6 0 v8 0 = 17) (F_X18_on s6 v8) (none))))) fun s9 v11 =>
  some (s9, v11, -1)) (bcl (bte (bg s6 0 v8 0 = 6) (F_X5_off s6 v8) (bte (bg s6 0 v8 0 = 15) (F_X5_off s6 v8) (bte (bg s6 0 v8 0 = 16) (F_X5_off s6 v8) (bte (bg s6 0 v8 0 = 17) (F_X18_off s6 v8) (none))))) fun s10 v12 =>
  some (s10, v12, -1)))))
  (some (s5, v6, v7)))
  (some (s2, v2, v3))
set_option maxHeartbeats 4000000 in
set_option maxRecDepth 100000 in
theorem w_X0_lambda_part_6 (Γ0 : bG) (l0 : Launch) {s0 st' : bS} {v xx a0 a1 a2 a3 : Int} (h : F_X0_lambda_part_6 s0 a0 a1 a2 a3 = some (st', v, xx)) : bCx Γ0 l0 yX0_lambda_part_6 (ws_ yX0_lambda_part_6 cX0_lambda_part_6 6 (some .int)) 7 156 (some 0) [(2, a0), (0, a1), (0, a2), (0, a3)] s0 (bEq st' v xx) := by
  refine xb_ent (own := RX0) (by decide +kernel) rfl (Nat.le_of_ble_eq_true rfl) (L := [(0, (2, a0)), (1, (0, a1)), (2, (0, a2)), (3, (0, a3))]) rfl ?_
  intro κ hκ hi ht hf
  unfold F_X0_lambda_part_6 at h
  refine r_aload_n hκ 0 rfl rfl dX0_lambda_part_6_0 ?_
  refine r_iload_n hκ 1 rfl rfl dX0_lambda_part_6_1 ?_
  refine r_iconst hκ dX0_lambda_part_6_2 ?_
  refine r_iconst hκ dX0_lambda_part_6_3 ?_
  obtain ⟨s1, v1, h1, h⟩ := bcl_i h
  refine r_callS hκ (n' := 3) (index := 45) (w_X0_isIn Γ0 l0 h1) (lw_S q624 q625 q121 q626) (by decide +kernel) rfl (by decide) rfl (Nat.le_of_ble_eq_true rfl) dX0_lambda_part_6_4 ?_
  refine r_iload_n hκ 2 rfl rfl dX0_lambda_part_6_7 ?_
  obtain ⟨h3, h⟩ := bck_i h
  obtain ⟨s2, v2, v3, h2, h⟩ := bclx_i h
  refine r_seq (A := (v3 = -1 → bJ κ s2 11 [(0, (2, a0)), (1, (0, a1)), (2, (0, a2)), (3, (0, a3))] [(2, v2)]) ∧ (¬ v3 = -1 → bT κ s2 8 [(0, (2, a0)), (1, (0, a1)), (2, (0, a2)), (3, (0, a3))] v2 v3)) ⟨fun h4 => ?_, fun h4 => ?_⟩ (fun k0 => r_xcallV hκ (n' := 2) (index := 520) (w_X0_edit_2 Γ0 l0 h2) (lw_V q1557 q1559 qs22 q121 q1560) (by decide +kernel) (t := 0) h3 rfl rfl (by decide) rfl (Nat.le_of_ble_eq_true rfl) dX0_lambda_part_6_8 (r_xj1 k0.1) (r_xj2 k0.2))
  · replace h := (bte_i h).1 h4
    refine r_astore hκ (L2 := [(4, (2, v2)), (0, (2, a0)), (1, (0, a1)), (2, (0, a2)), (3, (0, a3))]) (by decide) rfl dX0_lambda_part_6_11 ?_
    refine r_iload_n hκ 4 rfl rfl dX0_lambda_part_6_13 ?_
    refine r_iconst hκ dX0_lambda_part_6_14 ?_
    refine r_aload hκ 0 rfl dX0_lambda_part_6_15 ?_
    obtain ⟨h5, h⟩ := bck_i h
    obtain ⟨s3, v4, h6, h⟩ := bcl_i h
    refine r_callV hκ (n' := 0) (index := 179) (w_X8_many Γ0 l0 h6) (lw_V q806 q807 q808 q140 q809) (by decide +kernel) (t := 6) h5 rfl rfl (by decide) rfl (Nat.le_of_ble_eq_true rfl) dX0_lambda_part_6_17 ?_
    refine r_iconst hκ dX0_lambda_part_6_20 ?_
    refine r_isub hκ dX0_lambda_part_6_21 ?_
    obtain ⟨s4, v5, h7, h⟩ := bcl_i h
    refine r_callS hκ (n' := 3) (index := 45) (w_X0_isIn Γ0 l0 h7) (lw_S q624 q625 q121 q626) (by decide +kernel) rfl (by decide) rfl (Nat.le_of_ble_eq_true rfl) dX0_lambda_part_6_22 ?_
    refine r_bipush hκ (by decide) dX0_lambda_part_6_25 ?_
    obtain ⟨s5, v6, v7, h8, h⟩ := bclx_i h
    refine r_seq (A := (v7 = -1 → bJ κ s5 30 [(4, (2, v2)), (0, (2, a0)), (1, (0, a1)), (2, (0, a2)), (3, (0, a3))] []) ∧ (¬ v7 = -1 → bT κ s5 27 [(4, (2, v2)), (0, (2, a0)), (1, (0, a1)), (2, (0, a2)), (3, (0, a3))] v6 v7)) ⟨fun h9 => ?_, fun h9 => ?_⟩ (fun k0 => r_xcallS hκ (n' := 2) (index := 196) (w_X0_may Γ0 l0 h8) (lw_S q799 q800 q121 q801) (by decide +kernel) rfl (by decide) rfl (Nat.le_of_ble_eq_true rfl) dX0_lambda_part_6_27 (r_xj1 k0.1) (r_xj2 k0.2))
    · replace h := (bte_i h).1 h9
      refine r_aload hκ 0 rfl dX0_lambda_part_6_30 ?_
      refine r_iload_n hκ 4 rfl rfl dX0_lambda_part_6_32 ?_
      obtain ⟨h10, h⟩ := bck_i h
      obtain ⟨s6, v8, h11, h⟩ := bcl_i h
      refine r_callV hκ (n' := 1) (index := 492) (w_X8_get Γ0 l0 h11) (lw_V q814 q815 q816 q140 q817) (by decide +kernel) (t := 6) h10 rfl rfl (by decide) rfl (Nat.le_of_ble_eq_true rfl) dX0_lambda_part_6_33 ?_
      refine r_astore hκ (L2 := [(5, (2, v8)), (4, (2, v2)), (0, (2, a0)), (1, (0, a1)), (2, (0, a2)), (3, (0, a3))]) (by decide) rfl dX0_lambda_part_6_36 ?_
      refine r_iload_n hκ 3 rfl rfl dX0_lambda_part_6_38 ?_
      by_cases h12 : b_t a1 = 0
      · replace h := (bte_i h).1 h12
        refine r_tswIn hκ (kk := 0) (tgt := 64) h12 (by decide) (by decide) rfl (by decide) dX0_lambda_part_6_39 ?_
        refine r_aload hκ 0 rfl dX0_lambda_part_6_64 ?_
        obtain ⟨s7, v9, h13, h⟩ := bcl_i h
        refine r_seq (A := bJ κ s7 71 [(5, (2, v8)), (4, (2, v2)), (0, (2, a0)), (1, (0, a1)), (2, (0, a2)), (3, (0, a3))] [(0, v9)]) ?_ (fun k0 => ?_)
        case refine_2 =>
          by_cases h14 : bg s6 0 v8 0 = 6
          · have hq0 := (bte_i h13).1 h14
            exact r_callF hκ (n' := 0) (index := 136) (C := "EditsMeet$Keep") (w_X7_kind Γ0 l0 hq0) (lw_app (lw_l4 q756 q776 q778 q139) (lw_meth q780)) (by decide +kernel) (by decide +kernel) (t := 5) h14 rfl rfl (by decide) rfl (Nat.le_of_ble_eq_true rfl) dX0_lambda_part_6_66 k0
          replace h13 := (bte_i h13).2 h14
          by_cases h15 : bg s6 0 v8 0 = 15
          · have hq0 := (bte_i h13).1 h15
            exact r_callF hκ (n' := 0) (index := 136) (C := "EditsMeet$Delete") (w_X16_kind Γ0 l0 hq0) (lw_app (lw_l4 q756 q760 q762 q164) (lw_meth q764)) (by decide +kernel) (by decide +kernel) (t := 14) h15 rfl rfl (by decide) rfl (Nat.le_of_ble_eq_true rfl) dX0_lambda_part_6_66 k0
          replace h13 := (bte_i h13).2 h15
          by_cases h16 : bg s6 0 v8 0 = 16
          · have hq0 := (bte_i h13).1 h16
            exact r_callF hκ (n' := 0) (index := 136) (C := "EditsMeet$Insert") (w_X17_kind Γ0 l0 hq0) (lw_app (lw_l4 q756 q770 q772 q165) (lw_meth q774)) (by decide +kernel) (by decide +kernel) (t := 15) h16 rfl rfl (by decide) rfl (Nat.le_of_ble_eq_true rfl) dX0_lambda_part_6_66 k0
          replace h13 := (bte_i h13).2 h16
          by_cases h17 : bg s6 0 v8 0 = 17
          · have hq0 := (bte_i h13).1 h17
            exact r_callF hκ (n' := 0) (index := 136) (C := "EditsMeet$Mark") (w_X18_kind Γ0 l0 hq0) (lw_app (lw_l4 q756 q782 q784 q166) (lw_meth q786)) (by decide +kernel) (by decide +kernel) (t := 16) h17 rfl rfl (by decide) rfl (Nat.le_of_ble_eq_true rfl) dX0_lambda_part_6_66 k0
          replace h13 := (bte_i h13).2 h17
          cases h13
        refine r_goto hκ (tgt := 101) (by decide) dX0_lambda_part_6_71 ?_
        exact x_ret hκ hf (x_P h) (fun κ hκ hf => r_iret hκ hf (nar_int _) dX0_lambda_part_6_101)
      replace h := (bte_i h).2 h12
      by_cases h18 : b_t a1 = 1
      · replace h := (bte_i h).1 h18
        refine r_tswIn hκ (kk := 1) (tgt := 74) h18 (by decide) (by decide) rfl (by decide) dX0_lambda_part_6_39 ?_
        refine r_aload hκ 0 rfl dX0_lambda_part_6_74 ?_
        obtain ⟨s8, v10, h19, h⟩ := bcl_i h
        refine r_seq (A := bJ κ s8 81 [(5, (2, v8)), (4, (2, v2)), (0, (2, a0)), (1, (0, a1)), (2, (0, a2)), (3, (0, a3))] [(0, v10)]) ?_ (fun k0 => ?_)
        case refine_2 =>
          by_cases h20 : bg s6 0 v8 0 = 6
          · have hq0 := (bte_i h19).1 h20
            exact r_callF hκ (n' := 0) (index := 145) (C := "EditsMeet$Keep") (w_X6_n Γ0 l0 hq0) (lw_app (lw_l4 q860 q882 q865 q138) (lw_meth q867)) (by decide +kernel) (by decide +kernel) (t := 5) h20 rfl rfl (by decide) rfl (Nat.le_of_ble_eq_true rfl) dX0_lambda_part_6_76 k0
          replace h19 := (bte_i h19).2 h20
          by_cases h21 : bg s6 0 v8 0 = 15
          · have hq0 := (bte_i h19).1 h21
            exact r_callF hκ (n' := 0) (index := 145) (C := "EditsMeet$Delete") (w_X6_n Γ0 l0 hq0) (lw_app (lw_l4 q860 q863 q865 q138) (lw_meth q867)) (by decide +kernel) (by decide +kernel) (t := 14) h21 rfl rfl (by decide) rfl (Nat.le_of_ble_eq_true rfl) dX0_lambda_part_6_76 k0
          replace h19 := (bte_i h19).2 h21
          by_cases h22 : bg s6 0 v8 0 = 16
          · have hq0 := (bte_i h19).1 h22
            exact r_callF hκ (n' := 0) (index := 145) (C := "EditsMeet$Insert") (w_X17_n Γ0 l0 hq0) (lw_app (lw_l4 q860 q868 q870 q165) (lw_meth q872)) (by decide +kernel) (by decide +kernel) (t := 15) h22 rfl rfl (by decide) rfl (Nat.le_of_ble_eq_true rfl) dX0_lambda_part_6_76 k0
          replace h19 := (bte_i h19).2 h22
          by_cases h23 : bg s6 0 v8 0 = 17
          · have hq0 := (bte_i h19).1 h23
            exact r_callF hκ (n' := 0) (index := 145) (C := "EditsMeet$Mark") (w_X6_n Γ0 l0 hq0) (lw_app (lw_l4 q860 q884 q865 q138) (lw_meth q867)) (by decide +kernel) (by decide +kernel) (t := 16) h23 rfl rfl (by decide) rfl (Nat.le_of_ble_eq_true rfl) dX0_lambda_part_6_76 k0
          replace h19 := (bte_i h19).2 h23
          cases h19
        refine r_goto hκ (tgt := 101) (by decide) dX0_lambda_part_6_81 ?_
        exact x_ret hκ hf (x_P h) (fun κ hκ hf => r_iret hκ hf (nar_int _) dX0_lambda_part_6_101)
      replace h := (bte_i h).2 h18
      by_cases h24 : b_t a1 = 2
      · replace h := (bte_i h).1 h24
        refine r_tswIn hκ (kk := 2) (tgt := 84) h24 (by decide) (by decide) rfl (by decide) dX0_lambda_part_6_39 ?_
        refine r_aload hκ 0 rfl dX0_lambda_part_6_84 ?_
        obtain ⟨s9, v11, h25, h⟩ := bcl_i h
        refine r_seq (A := bJ κ s9 91 [(5, (2, v8)), (4, (2, v2)), (0, (2, a0)), (1, (0, a1)), (2, (0, a2)), (3, (0, a3))] [(0, v11)]) ?_ (fun k0 => ?_)
        case refine_2 =>
          by_cases h26 : bg s6 0 v8 0 = 6
          · have hq0 := (bte_i h25).1 h26
            exact r_callFD hκ (n' := 0) (index := 229) (C := "EditsMeet$Keep") (w_X5_on Γ0 l0 hq0) (lw_meth q949) q1633 q947 q137 (by decide +kernel) (by decide +kernel) (t := 5) h26 rfl rfl (by decide) rfl (Nat.le_of_ble_eq_true rfl) dX0_lambda_part_6_86 k0
          replace h25 := (bte_i h25).2 h26
          by_cases h27 : bg s6 0 v8 0 = 15
          · have hq0 := (bte_i h25).1 h27
            exact r_callFD hκ (n' := 0) (index := 229) (C := "EditsMeet$Delete") (w_X5_on Γ0 l0 hq0) (lw_meth q949) q1633 q947 q137 (by decide +kernel) (by decide +kernel) (t := 14) h27 rfl rfl (by decide) rfl (Nat.le_of_ble_eq_true rfl) dX0_lambda_part_6_86 k0
          replace h25 := (bte_i h25).2 h27
          by_cases h28 : bg s6 0 v8 0 = 16
          · have hq0 := (bte_i h25).1 h28
            exact r_callFD hκ (n' := 0) (index := 229) (C := "EditsMeet$Insert") (w_X5_on Γ0 l0 hq0) (lw_meth q949) q1633 q947 q137 (by decide +kernel) (by decide +kernel) (t := 15) h28 rfl rfl (by decide) rfl (Nat.le_of_ble_eq_true rfl) dX0_lambda_part_6_86 k0
          replace h25 := (bte_i h25).2 h28
          by_cases h29 : bg s6 0 v8 0 = 17
          · have hq0 := (bte_i h25).1 h29
            exact r_callF hκ (n' := 0) (index := 229) (C := "EditsMeet$Mark") (w_X18_on Γ0 l0 hq0) (lw_app (lw_l4 q1633 q944 q945 q166) (lw_meth q946)) (by decide +kernel) (by decide +kernel) (t := 16) h29 rfl rfl (by decide) rfl (Nat.le_of_ble_eq_true rfl) dX0_lambda_part_6_86 k0
          replace h25 := (bte_i h25).2 h29
          cases h25
        refine r_goto hκ (tgt := 101) (by decide) dX0_lambda_part_6_91 ?_
        exact x_ret hκ hf (x_P h) (fun κ hκ hf => r_iret hκ hf (nar_int _) dX0_lambda_part_6_101)
      replace h := (bte_i h).2 h24
      refine r_tswOut hκ (tgt := 94) (by omega) (by decide) dX0_lambda_part_6_39 ?_
      refine r_aload hκ 0 rfl dX0_lambda_part_6_94 ?_
      obtain ⟨s10, v12, h30, h⟩ := bcl_i h
      refine r_seq (A := bJ κ s10 101 [(5, (2, v8)), (4, (2, v2)), (0, (2, a0)), (1, (0, a1)), (2, (0, a2)), (3, (0, a3))] [(0, v12)]) ?_ (fun k0 => ?_)
      case refine_2 =>
        by_cases h31 : bg s6 0 v8 0 = 6
        · have hq0 := (bte_i h30).1 h31
          exact r_callFD hκ (n' := 0) (index := 230) (C := "EditsMeet$Keep") (w_X5_off Γ0 l0 hq0) (lw_meth q966) q1635 q964 q137 (by decide +kernel) (by decide +kernel) (t := 5) h31 rfl rfl (by decide) rfl (Nat.le_of_ble_eq_true rfl) dX0_lambda_part_6_96 k0
        replace h30 := (bte_i h30).2 h31
        by_cases h32 : bg s6 0 v8 0 = 15
        · have hq0 := (bte_i h30).1 h32
          exact r_callFD hκ (n' := 0) (index := 230) (C := "EditsMeet$Delete") (w_X5_off Γ0 l0 hq0) (lw_meth q966) q1635 q964 q137 (by decide +kernel) (by decide +kernel) (t := 14) h32 rfl rfl (by decide) rfl (Nat.le_of_ble_eq_true rfl) dX0_lambda_part_6_96 k0
        replace h30 := (bte_i h30).2 h32
        by_cases h33 : bg s6 0 v8 0 = 16
        · have hq0 := (bte_i h30).1 h33
          exact r_callFD hκ (n' := 0) (index := 230) (C := "EditsMeet$Insert") (w_X5_off Γ0 l0 hq0) (lw_meth q966) q1635 q964 q137 (by decide +kernel) (by decide +kernel) (t := 15) h33 rfl rfl (by decide) rfl (Nat.le_of_ble_eq_true rfl) dX0_lambda_part_6_96 k0
        replace h30 := (bte_i h30).2 h33
        by_cases h34 : bg s6 0 v8 0 = 17
        · have hq0 := (bte_i h30).1 h34
          exact r_callF hκ (n' := 0) (index := 230) (C := "EditsMeet$Mark") (w_X18_off Γ0 l0 hq0) (lw_app (lw_l4 q1635 q961 q962 q166) (lw_meth q963)) (by decide +kernel) (by decide +kernel) (t := 16) h34 rfl rfl (by decide) rfl (Nat.le_of_ble_eq_true rfl) dX0_lambda_part_6_96 k0
        replace h30 := (bte_i h30).2 h34
        cases h30
      exact x_ret hκ hf (x_P h) (fun κ hκ hf => r_iret hκ hf (nar_int _) dX0_lambda_part_6_101)
    · replace h := (bte_i h).2 h9
      exact r_xout hκ ht hf (by decide) (x_P h)
  · replace h := (bte_i h).2 h4
    exact r_xout hκ ht hf (by decide) (x_P h)
/-- EditsMeet.lambda$letter$7(III)I -/
def F_X0_lambda_letter_7 (s0 : bS) (a0 a1 a2 a3 : Int) : Option (bS × Int × Int) :=
  bck (bg s0 0 a0 0 = 1) <|
  bclx (F_X0_edit_2 s0 a0 1 a1) fun s1 v1 v2 =>
  bte (v2 = -1)
  (bck (bg s1 0 v1 0 = 7) <|
  bcl (F_X8_many s1 v1) fun s2 v3 =>
  bcl (F_X0_isIn s2 a2 0 (v3 - 1)) fun s3 v4 =>
  bclx (F_X0_may s3 v4 (-2)) fun s4 v5 v6 =>
  bte (v6 = -1)
  (bck (bg s4 0 v1 0 = 7) <|
  bcl (F_X8_get s4 v1 a2) fun s5 v7 =>
  bcl (bte (bg s5 0 v7 0 = 6) (F_X5_inserts s5 v7) (bte (bg s5 0 v7 0 = 15) (F_X5_inserts s5 v7) (bte (bg s5 0 v7 0 = 16) (F_X5_inserts s5 v7) (bte (bg s5 0 v7 0 = 17) (F_X5_inserts s5 v7) (none))))) fun s6 v8 =>
  bclx (F_X0_may s6 v8 (-3)) fun s7 v9 v10 =>
  bte (v10 = -1)
  (bck (bg s7 0 v1 0 = 7) <|
  bcl (F_X8_get s7 v1 a2) fun s8 v11 =>
  bck (v11 < 0 ∨ bg s8 0 v11 0 = 16) <|
  bck (bg s8 0 v11 0 = 16) <|
  bcl (F_X17_n s8 v11) fun s9 v12 =>
  bcl (F_X0_isIn s9 a3 0 (v12 - 1)) fun s10 v13 =>
  bclx (F_X0_may s10 v13 (-2)) fun s11 v14 v15 =>
  bte (v15 = -1)
  (bck (bg s11 0 v11 0 = 16) <|
  bcl (F_X17_letter s11 v11 a3) fun s12 v16 =>
  bck (bg s12 0 v11 0 = 16) <|
  bcl (F_X17_mark s12 v11 a3) fun s13 v17 =>
  some (s13, (v16 + (100 * v17)), -1))
  (some (s11, v14, v15)))
  (some (s7, v9, v10)))
  (some (s4, v5, v6)))
  (some (s1, v1, v2))
set_option maxHeartbeats 4000000 in
set_option maxRecDepth 100000 in
theorem w_X0_lambda_letter_7 (Γ0 : bG) (l0 : Launch) {s0 st' : bS} {v xx a0 a1 a2 a3 : Int} (h : F_X0_lambda_letter_7 s0 a0 a1 a2 a3 = some (st', v, xx)) : bCx Γ0 l0 yX0_lambda_letter_7 (ws_ yX0_lambda_letter_7 cX0_lambda_letter_7 6 (some .int)) 7 156 (some 0) [(2, a0), (0, a1), (0, a2), (0, a3)] s0 (bEq st' v xx) := by
  refine xb_ent (own := RX0) (by decide +kernel) rfl (Nat.le_of_ble_eq_true rfl) (L := [(0, (2, a0)), (1, (0, a1)), (2, (0, a2)), (3, (0, a3))]) rfl ?_
  intro κ hκ hi ht hf
  unfold F_X0_lambda_letter_7 at h
  refine r_aload_n hκ 0 rfl rfl dX0_lambda_letter_7_0 ?_
  refine r_iconst hκ dX0_lambda_letter_7_1 ?_
  refine r_iload_n hκ 1 rfl rfl dX0_lambda_letter_7_2 ?_
  obtain ⟨h2, h⟩ := bck_i h
  obtain ⟨s1, v1, v2, h1, h⟩ := bclx_i h
  refine r_seq (A := (v2 = -1 → bJ κ s1 6 [(0, (2, a0)), (1, (0, a1)), (2, (0, a2)), (3, (0, a3))] [(2, v1)]) ∧ (¬ v2 = -1 → bT κ s1 3 [(0, (2, a0)), (1, (0, a1)), (2, (0, a2)), (3, (0, a3))] v1 v2)) ⟨fun h3 => ?_, fun h3 => ?_⟩ (fun k0 => r_xcallV hκ (n' := 2) (index := 520) (w_X0_edit_2 Γ0 l0 h1) (lw_V q1557 q1559 qs22 q121 q1560) (by decide +kernel) (t := 0) h2 rfl rfl (by decide) rfl (Nat.le_of_ble_eq_true rfl) dX0_lambda_letter_7_3 (r_xj1 k0.1) (r_xj2 k0.2))
  · replace h := (bte_i h).1 h3
    refine r_astore hκ (L2 := [(4, (2, v1)), (0, (2, a0)), (1, (0, a1)), (2, (0, a2)), (3, (0, a3))]) (by decide) rfl dX0_lambda_letter_7_6 ?_
    refine r_iload_n hκ 3 rfl rfl dX0_lambda_letter_7_8 ?_
    refine r_iconst hκ dX0_lambda_letter_7_9 ?_
    refine r_aload hκ 0 rfl dX0_lambda_letter_7_10 ?_
    obtain ⟨h4, h⟩ := bck_i h
    obtain ⟨s2, v3, h5, h⟩ := bcl_i h
    refine r_callV hκ (n' := 0) (index := 179) (w_X8_many Γ0 l0 h5) (lw_V q806 q807 q808 q140 q809) (by decide +kernel) (t := 6) h4 rfl rfl (by decide) rfl (Nat.le_of_ble_eq_true rfl) dX0_lambda_letter_7_12 ?_
    refine r_iconst hκ dX0_lambda_letter_7_15 ?_
    refine r_isub hκ dX0_lambda_letter_7_16 ?_
    obtain ⟨s3, v4, h6, h⟩ := bcl_i h
    refine r_callS hκ (n' := 3) (index := 45) (w_X0_isIn Γ0 l0 h6) (lw_S q624 q625 q121 q626) (by decide +kernel) rfl (by decide) rfl (Nat.le_of_ble_eq_true rfl) dX0_lambda_letter_7_17 ?_
    refine r_bipush hκ (by decide) dX0_lambda_letter_7_20 ?_
    obtain ⟨s4, v5, v6, h7, h⟩ := bclx_i h
    refine r_seq (A := (v6 = -1 → bJ κ s4 25 [(4, (2, v1)), (0, (2, a0)), (1, (0, a1)), (2, (0, a2)), (3, (0, a3))] []) ∧ (¬ v6 = -1 → bT κ s4 22 [(4, (2, v1)), (0, (2, a0)), (1, (0, a1)), (2, (0, a2)), (3, (0, a3))] v5 v6)) ⟨fun h8 => ?_, fun h8 => ?_⟩ (fun k0 => r_xcallS hκ (n' := 2) (index := 196) (w_X0_may Γ0 l0 h7) (lw_S q799 q800 q121 q801) (by decide +kernel) rfl (by decide) rfl (Nat.le_of_ble_eq_true rfl) dX0_lambda_letter_7_22 (r_xj1 k0.1) (r_xj2 k0.2))
    · replace h := (bte_i h).1 h8
      refine r_aload hκ 0 rfl dX0_lambda_letter_7_25 ?_
      refine r_iload_n hκ 3 rfl rfl dX0_lambda_letter_7_27 ?_
      obtain ⟨h9, h⟩ := bck_i h
      obtain ⟨s5, v7, h10, h⟩ := bcl_i h
      refine r_callV hκ (n' := 1) (index := 492) (w_X8_get Γ0 l0 h10) (lw_V q814 q815 q816 q140 q817) (by decide +kernel) (t := 6) h9 rfl rfl (by decide) rfl (Nat.le_of_ble_eq_true rfl) dX0_lambda_letter_7_28 ?_
      obtain ⟨s6, v8, h11, h⟩ := bcl_i h
      refine r_seq (A := bJ κ s6 36 [(4, (2, v1)), (0, (2, a0)), (1, (0, a1)), (2, (0, a2)), (3, (0, a3))] [(0, v8)]) ?_ (fun k0 => ?_)
      case refine_2 =>
        by_cases h12 : bg s5 0 v7 0 = 6
        · have hq0 := (bte_i h11).1 h12
          exact r_callFD hκ (n' := 0) (index := 533) (C := "EditsMeet$Keep") (w_X5_inserts Γ0 l0 hq0) (lw_meth q1607) q1601 q1605 q137 (by decide +kernel) (by decide +kernel) (t := 5) h12 rfl rfl (by decide) rfl (Nat.le_of_ble_eq_true rfl) dX0_lambda_letter_7_31 k0
        replace h11 := (bte_i h11).2 h12
        by_cases h13 : bg s5 0 v7 0 = 15
        · have hq0 := (bte_i h11).1 h13
          exact r_callFD hκ (n' := 0) (index := 533) (C := "EditsMeet$Delete") (w_X5_inserts Γ0 l0 hq0) (lw_meth q1607) q1601 q1605 q137 (by decide +kernel) (by decide +kernel) (t := 14) h13 rfl rfl (by decide) rfl (Nat.le_of_ble_eq_true rfl) dX0_lambda_letter_7_31 k0
        replace h11 := (bte_i h11).2 h13
        by_cases h14 : bg s5 0 v7 0 = 16
        · have hq0 := (bte_i h11).1 h14
          exact r_callFD hκ (n' := 0) (index := 533) (C := "EditsMeet$Insert") (w_X5_inserts Γ0 l0 hq0) (lw_meth q1607) q1601 q1605 q137 (by decide +kernel) (by decide +kernel) (t := 15) h14 rfl rfl (by decide) rfl (Nat.le_of_ble_eq_true rfl) dX0_lambda_letter_7_31 k0
        replace h11 := (bte_i h11).2 h14
        by_cases h15 : bg s5 0 v7 0 = 17
        · have hq0 := (bte_i h11).1 h15
          exact r_callFD hκ (n' := 0) (index := 533) (C := "EditsMeet$Mark") (w_X5_inserts Γ0 l0 hq0) (lw_meth q1607) q1601 q1605 q137 (by decide +kernel) (by decide +kernel) (t := 16) h15 rfl rfl (by decide) rfl (Nat.le_of_ble_eq_true rfl) dX0_lambda_letter_7_31 k0
        replace h11 := (bte_i h11).2 h15
        cases h11
      refine r_bipush hκ (by decide) dX0_lambda_letter_7_36 ?_
      obtain ⟨s7, v9, v10, h16, h⟩ := bclx_i h
      refine r_seq (A := (v10 = -1 → bJ κ s7 41 [(4, (2, v1)), (0, (2, a0)), (1, (0, a1)), (2, (0, a2)), (3, (0, a3))] []) ∧ (¬ v10 = -1 → bT κ s7 38 [(4, (2, v1)), (0, (2, a0)), (1, (0, a1)), (2, (0, a2)), (3, (0, a3))] v9 v10)) ⟨fun h17 => ?_, fun h17 => ?_⟩ (fun k0 => r_xcallS hκ (n' := 2) (index := 196) (w_X0_may Γ0 l0 h16) (lw_S q799 q800 q121 q801) (by decide +kernel) rfl (by decide) rfl (Nat.le_of_ble_eq_true rfl) dX0_lambda_letter_7_38 (r_xj1 k0.1) (r_xj2 k0.2))
      · replace h := (bte_i h).1 h17
        refine r_aload hκ 0 rfl dX0_lambda_letter_7_41 ?_
        refine r_iload_n hκ 3 rfl rfl dX0_lambda_letter_7_43 ?_
        obtain ⟨h18, h⟩ := bck_i h
        obtain ⟨s8, v11, h19, h⟩ := bcl_i h
        refine r_callV hκ (n' := 1) (index := 492) (w_X8_get Γ0 l0 h19) (lw_V q814 q815 q816 q140 q817) (by decide +kernel) (t := 6) h18 rfl rfl (by decide) rfl (Nat.le_of_ble_eq_true rfl) dX0_lambda_letter_7_44 ?_
        obtain ⟨h20, h⟩ := bck_i h
        refine r_cast hκ q886 (Or.elim h20 (fun h20 => Or.inl h20) (fun h20 => Or.inr ⟨15, _, h20, rfl, Or.inl rfl⟩)) dX0_lambda_letter_7_47 ?_
        refine r_astore hκ (L2 := [(5, (2, v11)), (4, (2, v1)), (0, (2, a0)), (1, (0, a1)), (2, (0, a2)), (3, (0, a3))]) (by decide) rfl dX0_lambda_letter_7_50 ?_
        refine r_iload_n hκ 5 rfl rfl dX0_lambda_letter_7_52 ?_
        refine r_iconst hκ dX0_lambda_letter_7_53 ?_
        refine r_aload hκ 0 rfl dX0_lambda_letter_7_54 ?_
        obtain ⟨h21, h⟩ := bck_i h
        obtain ⟨s9, v12, h22, h⟩ := bcl_i h
        refine r_callV hκ (n' := 0) (index := 535) (w_X17_n Γ0 l0 h22) (lw_V q1643 q870 q3596 q165 q872) (by decide +kernel) (t := 15) h21 rfl rfl (by decide) rfl (Nat.le_of_ble_eq_true rfl) dX0_lambda_letter_7_56 ?_
        refine r_iconst hκ dX0_lambda_letter_7_59 ?_
        refine r_isub hκ dX0_lambda_letter_7_60 ?_
        obtain ⟨s10, v13, h23, h⟩ := bcl_i h
        refine r_callS hκ (n' := 3) (index := 45) (w_X0_isIn Γ0 l0 h23) (lw_S q624 q625 q121 q626) (by decide +kernel) rfl (by decide) rfl (Nat.le_of_ble_eq_true rfl) dX0_lambda_letter_7_61 ?_
        refine r_bipush hκ (by decide) dX0_lambda_letter_7_64 ?_
        obtain ⟨s11, v14, v15, h24, h⟩ := bclx_i h
        refine r_seq (A := (v15 = -1 → bJ κ s11 69 [(5, (2, v11)), (4, (2, v1)), (0, (2, a0)), (1, (0, a1)), (2, (0, a2)), (3, (0, a3))] []) ∧ (¬ v15 = -1 → bT κ s11 66 [(5, (2, v11)), (4, (2, v1)), (0, (2, a0)), (1, (0, a1)), (2, (0, a2)), (3, (0, a3))] v14 v15)) ⟨fun h25 => ?_, fun h25 => ?_⟩ (fun k0 => r_xcallS hκ (n' := 2) (index := 196) (w_X0_may Γ0 l0 h24) (lw_S q799 q800 q121 q801) (by decide +kernel) rfl (by decide) rfl (Nat.le_of_ble_eq_true rfl) dX0_lambda_letter_7_66 (r_xj1 k0.1) (r_xj2 k0.2))
        · replace h := (bte_i h).1 h25
          refine r_aload hκ 0 rfl dX0_lambda_letter_7_69 ?_
          refine r_iload_n hκ 5 rfl rfl dX0_lambda_letter_7_71 ?_
          obtain ⟨h26, h⟩ := bck_i h
          obtain ⟨s12, v16, h27, h⟩ := bcl_i h
          refine r_callV hκ (n' := 1) (index := 150) (w_X17_letter Γ0 l0 h27) (lw_V q887 q888 q889 q165 q890) (by decide +kernel) (t := 15) h26 rfl rfl (by decide) rfl (Nat.le_of_ble_eq_true rfl) dX0_lambda_letter_7_72 ?_
          refine r_bipush hκ (by decide) dX0_lambda_letter_7_75 ?_
          refine r_aload hκ 0 rfl dX0_lambda_letter_7_77 ?_
          refine r_iload_n hκ 5 rfl rfl dX0_lambda_letter_7_79 ?_
          obtain ⟨h28, h⟩ := bck_i h
          obtain ⟨s13, v17, h29, h⟩ := bcl_i h
          refine r_callV hκ (n' := 1) (index := 536) (w_X17_mark Γ0 l0 h29) (lw_V q1644 q1645 q1646 q165 q1647) (by decide +kernel) (t := 15) h28 rfl rfl (by decide) rfl (Nat.le_of_ble_eq_true rfl) dX0_lambda_letter_7_80 ?_
          refine r_imul hκ dX0_lambda_letter_7_83 ?_
          refine r_iadd hκ dX0_lambda_letter_7_84 ?_
          exact x_ret hκ hf (x_P h) (fun κ hκ hf => r_iret hκ hf (nar_int _) dX0_lambda_letter_7_85)
        · replace h := (bte_i h).2 h25
          exact r_xout hκ ht hf (by decide) (x_P h)
      · replace h := (bte_i h).2 h17
        exact r_xout hκ ht hf (by decide) (x_P h)
    · replace h := (bte_i h).2 h8
      exact r_xout hκ ht hf (by decide) (x_P h)
  · replace h := (bte_i h).2 h3
    exact r_xout hκ ht hf (by decide) (x_P h)
/-- EditsMeet.lambda$spelled$8(II)I -/
def F_X0_lambda_spelled_8 (s0 : bS) (a0 a1 a2 : Int) : Option (bS × Int × Int) :=
  bck (bg s0 0 a0 0 = 1) <|
  bclx (F_X0_edit_2 s0 a0 1 a1) fun s1 v1 v2 =>
  bte (v2 = -1)
  (bck (bg s1 0 v1 0 = 7) <|
  bcl (F_X8_spelled s1 v1) fun s2 v3 =>
  bcl (bte (bg s2 0 v3 0 = 19) (F_J1_length s2 v3) (bte (bg s2 0 v3 0 = 20) (F_J2_length s2 v3) (none))) fun s3 v4 =>
  bcl (F_X0_isIn s3 a2 0 (v4 - 1)) fun s4 v5 =>
  bte (i32 v5 = 0)
  (some (s4, (-1), -1))
  (bcl (bte (bg s4 0 v3 0 = 19) (F_J1_charAt s4 v3 a2) (bte (bg s4 0 v3 0 = 20) (F_J2_charAt s4 v3 a2) (none))) fun s5 v6 =>
  some (s5, v6, -1)))
  (some (s1, v1, v2))
set_option maxHeartbeats 4000000 in
set_option maxRecDepth 100000 in
theorem w_X0_lambda_spelled_8 (Γ0 : bG) (l0 : Launch) {s0 st' : bS} {v xx a0 a1 a2 : Int} (h : F_X0_lambda_spelled_8 s0 a0 a1 a2 = some (st', v, xx)) : bCx Γ0 l0 yX0_lambda_spelled_8 (ws_ yX0_lambda_spelled_8 cX0_lambda_spelled_8 4 (some .int)) 12 279 (some 0) [(2, a0), (0, a1), (0, a2)] s0 (bEq st' v xx) := by
  refine xb_ent (own := RX0) (by decide +kernel) rfl (Nat.le_of_ble_eq_true rfl) (L := [(0, (2, a0)), (1, (0, a1)), (2, (0, a2))]) rfl ?_
  intro κ hκ hi ht hf
  unfold F_X0_lambda_spelled_8 at h
  refine r_aload_n hκ 0 rfl rfl dX0_lambda_spelled_8_0 ?_
  refine r_iconst hκ dX0_lambda_spelled_8_1 ?_
  refine r_iload_n hκ 1 rfl rfl dX0_lambda_spelled_8_2 ?_
  obtain ⟨h2, h⟩ := bck_i h
  obtain ⟨s1, v1, v2, h1, h⟩ := bclx_i h
  refine r_seq (A := (v2 = -1 → bJ κ s1 6 [(0, (2, a0)), (1, (0, a1)), (2, (0, a2))] [(2, v1)]) ∧ (¬ v2 = -1 → bT κ s1 3 [(0, (2, a0)), (1, (0, a1)), (2, (0, a2))] v1 v2)) ⟨fun h3 => ?_, fun h3 => ?_⟩ (fun k0 => r_xcallV hκ (n' := 2) (index := 520) (w_X0_edit_2 Γ0 l0 h1) (lw_V q1557 q1559 qs22 q121 q1560) (by decide +kernel) (t := 0) h2 rfl rfl (by decide) rfl (Nat.le_of_ble_eq_true rfl) dX0_lambda_spelled_8_3 (r_xj1 k0.1) (r_xj2 k0.2))
  · replace h := (bte_i h).1 h3
    obtain ⟨h4, h⟩ := bck_i h
    obtain ⟨s2, v3, h5, h⟩ := bcl_i h
    refine r_callV hκ (n' := 0) (index := 523) (w_X8_spelled Γ0 l0 h5) (lw_V q1655 q1656 q1657 q140 q1658) (by decide +kernel) (t := 6) h4 rfl rfl (by decide) rfl (Nat.le_of_ble_eq_true rfl) dX0_lambda_spelled_8_6 ?_
    refine r_astore_n hκ (L2 := [(3, (2, v3)), (0, (2, a0)), (1, (0, a1)), (2, (0, a2))]) (by decide) rfl rfl dX0_lambda_spelled_8_9 ?_
    refine r_iload_n hκ 3 rfl rfl dX0_lambda_spelled_8_10 ?_
    refine r_iconst hκ dX0_lambda_spelled_8_11 ?_
    refine r_aload_n hκ 0 rfl rfl dX0_lambda_spelled_8_12 ?_
    obtain ⟨s3, v4, h6, h⟩ := bcl_i h
    refine r_seq (A := bJ κ s3 18 [(3, (2, v3)), (0, (2, a0)), (1, (0, a1)), (2, (0, a2))] [(0, v4), (0, 0), (0, a2)]) ?_ (fun k0 => ?_)
    case refine_2 =>
      by_cases h7 : bg s2 0 v3 0 = 19
      · have hq0 := (bte_i h6).1 h7
        exact r_callF hκ (n' := 0) (index := 526) (C := "java/lang/StringBuilder") (w_J1_length Γ0 l0 hq0) (lw_app (lw_l4 q2016 q2022 q1147 q125) (lw_meth q1148)) (by decide +kernel) (by decide +kernel) (t := 18) h7 rfl rfl (by decide) rfl (Nat.le_of_ble_eq_true rfl) dX0_lambda_spelled_8_13 k0
      replace h6 := (bte_i h6).2 h7
      by_cases h8 : bg s2 0 v3 0 = 20
      · have hq0 := (bte_i h6).1 h8
        exact r_callF hκ (n' := 0) (index := 526) (C := "java/lang/String") (w_J2_length Γ0 l0 hq0) (lw_app (lw_l4 q2016 q2019 q874 q126) (lw_meth q876)) (by decide +kernel) (by decide +kernel) (t := 19) h8 rfl rfl (by decide) rfl (Nat.le_of_ble_eq_true rfl) dX0_lambda_spelled_8_13 k0
      replace h6 := (bte_i h6).2 h8
      cases h6
    refine r_iconst hκ dX0_lambda_spelled_8_18 ?_
    refine r_isub hκ dX0_lambda_spelled_8_19 ?_
    obtain ⟨s4, v5, h9, h⟩ := bcl_i h
    refine r_callS hκ (n' := 3) (index := 45) (w_X0_isIn Γ0 l0 h9) (lw_S q624 q625 q121 q626) (by decide +kernel) rfl (by decide) rfl (Nat.le_of_ble_eq_true rfl) dX0_lambda_spelled_8_20 ?_
    refine r_if_eq hκ (tgt := 36) (by decide) dX0_lambda_spelled_8_23 (fun h10 => ?_) (fun h10 => ?_)
    · replace h := (bte_i h).1 h10
      refine r_iconst hκ dX0_lambda_spelled_8_36 ?_
      exact x_ret hκ hf (x_P h) (fun κ hκ hf => r_iret hκ hf (nar_int _) dX0_lambda_spelled_8_37)
    · replace h := (bte_i h).2 h10
      refine r_aload_n hκ 0 rfl rfl dX0_lambda_spelled_8_26 ?_
      refine r_iload_n hκ 3 rfl rfl dX0_lambda_spelled_8_27 ?_
      obtain ⟨s5, v6, h11, h⟩ := bcl_i h
      refine r_seq (A := bJ κ s5 33 [(3, (2, v3)), (0, (2, a0)), (1, (0, a1)), (2, (0, a2))] [(0, v6)]) ?_ (fun k0 => ?_)
      case refine_2 =>
        by_cases h12 : bg s4 0 v3 0 = 19
        · have hq0 := (bte_i h11).1 h12
          exact r_callF hκ (n' := 1) (index := 529) (C := "java/lang/StringBuilder") (w_J1_charAt Γ0 l0 hq0) (lw_app (lw_l4 q2026 q2032 q2034 q125) (lw_meth q2036)) (by decide +kernel) (by decide +kernel) (t := 18) h12 rfl rfl (by decide) rfl (Nat.le_of_ble_eq_true rfl) dX0_lambda_spelled_8_28 k0
        replace h11 := (bte_i h11).2 h12
        by_cases h13 : bg s4 0 v3 0 = 20
        · have hq0 := (bte_i h11).1 h13
          exact r_callF hκ (n' := 1) (index := 529) (C := "java/lang/String") (w_J2_charAt Γ0 l0 hq0) (lw_app (lw_l4 q2026 q2029 q892 q126) (lw_meth q894)) (by decide +kernel) (by decide +kernel) (t := 19) h13 rfl rfl (by decide) rfl (Nat.le_of_ble_eq_true rfl) dX0_lambda_spelled_8_28 k0
        replace h11 := (bte_i h11).2 h13
        cases h11
      refine r_goto hκ (tgt := 37) (by decide) dX0_lambda_spelled_8_33 ?_
      exact x_ret hκ hf (x_P h) (fun κ hκ hf => r_iret hκ hf (nar_int _) dX0_lambda_spelled_8_37)
  · replace h := (bte_i h).2 h3
    exact r_xout hκ ht hf (by decide) (x_P h)
/-- EditsMeet.becomes(ILEditsMeet$Edit;)I -/
def F_X0_becomes (s0 : bS) (a0 a1 a2 : Int) : Option (bS × Int) :=
  bck (bg s0 0 a0 0 = 1) <|
  bck ((bg s0 0 (bg s0 46 a0 0) 0 = 1008 ∧ (0 : Int) ≤ a1 ∧ a1 < bg s0 4 (bg s0 46 a0 0) 0) ∧ (a2 < 0 ∨ bg s0 0 a2 0 = 7)) <|
  bst (bw s0 10 (bg s0 46 a0 0) a1 a2) fun s1 =>
  bck (bg s1 0 a2 0 = 7) <|
  bcl (F_X8_many s1 a2) fun s2 v1 =>
  some (s2, v1)
set_option maxHeartbeats 4000000 in
set_option maxRecDepth 100000 in
theorem w_X0_becomes (Γ0 : bG) (l0 : Launch) {s0 st' : bS} {v a0 a1 a2 : Int} (h : F_X0_becomes s0 a0 a1 a2 = some (st', v)) : bCt Γ0 l0 yX0_becomes cX0_becomes 3 (some .int) 2 40 [(2, a0), (0, a1), (2, a2)] s0 st' (some (0, v)) := by
  refine b_ent (own := RX0) (by decide +kernel) rfl (Nat.le_of_ble_eq_true rfl) (L := [(0, (2, a0)), (1, (0, a1)), (2, (2, a2))]) rfl ?_
  intro κ hκ hi hf
  unfold F_X0_becomes at h
  refine r_aload_n hκ 0 rfl rfl dX0_becomes_0 ?_
  obtain ⟨h1, h⟩ := bck_i h
  refine r_get hκ (t := 0) (k := 3) (r := 46) h1 rfl in_X0 (by decide) rfl q576 (Or.inl rfl) dX0_becomes_1 ?_
  refine r_iload_n hκ 1 rfl rfl dX0_becomes_4 ?_
  refine r_aload_n hκ 2 rfl rfl dX0_becomes_5 ?_
  obtain ⟨⟨⟨h2, h3⟩, h4⟩, h⟩ := bck_i h
  refine r_aast hκ (t := 8) rfl (by decide) (Or.inl (by decide)) h2 h3 (Or.elim h4 (fun h4 => Or.inl h4) (fun h4 => Or.inr ⟨6, _, h4, rfl, Or.inl rfl⟩)) dX0_becomes_6 (fun s1 es1 => ?_)
  replace h := bst_i h s1 es1
  refine r_aload_n hκ 2 rfl rfl dX0_becomes_7 ?_
  obtain ⟨h5, h⟩ := bck_i h
  obtain ⟨s2, v1, h6, h⟩ := bcl_i h
  refine r_callV hκ (n' := 0) (index := 179) (w_X8_many Γ0 l0 h6) (lw_V q806 q807 q808 q140 q809) (by decide +kernel) (t := 6) h5 rfl rfl (by decide) rfl (Nat.le_of_ble_eq_true rfl) dX0_becomes_8 ?_
  exact r_iretH hκ hf h (nar_int _) dX0_becomes_11
/-- EditsMeet.fits(ILEditsMeet$Edit;)I -/
def F_X0_fits_r (b : Nat) (x0 x1 x2 x3 : Int) (s0 : bS) : Option (bS × Int × Int) :=
  match b with
  | 0 =>
    F_X0_fits_r 1 x0 x1 x2 0 s0
  | 1 =>
    bclx (F_X0_may s0 x3 (-6)) fun s4 v4 v5 =>
    bte (v5 = -1)
    (bck (bg s4 0 x0 0 = 1) <|
    bcl (F_X0_becomes s4 x0 x1 x2) fun s5 v6 =>
    some (s5, v6, -1))
    (some (s4, v4, v5))
  | _ => none
partial_fixpoint
def F_X0_fits (s0 : bS) (a0 a1 a2 : Int) : Option (bS × Int × Int) :=
  bck (bg s0 0 a2 0 = 7) <|
  bcl (F_X8_from s0 a2) fun s1 v1 =>
  bte (i32 9999 < i32 v1)
  (F_X0_fits_r 0 a0 a1 a2 0 s1)
  (bck (bg s1 0 a2 0 = 7) <|
  bcl (F_X8_to s1 a2) fun s2 v2 =>
  bte (i32 9999 < i32 v2)
  (F_X0_fits_r 0 a0 a1 a2 0 s2)
  (bck (bg s2 0 a2 0 = 7) <|
  bcl (F_X8_sum s2 a2 (bg s2 1 (-(2 + ((100 + 11 : Nat) : Int))) 0)) fun s3 v3 =>
  bte (i32 400 < i32 v3)
  (F_X0_fits_r 0 a0 a1 a2 0 s3)
  (F_X0_fits_r 1 a0 a1 a2 1 s3)))
set_option maxHeartbeats 4000000 in
set_option maxRecDepth 100000 in
set_option synthInstance.maxHeartbeats 4000000 in
theorem w_X0_fits_r {Γ0 : bG} {l0 : Launch} {κ : bK} {st' : bS} {v xx : Int} (hκ : bOk κ Γ0 l0 cX0_fits RX0 3 9 3100) (hi : bIn κ yX0_fits) (ht : xTab κ []) (hf : xFin κ (some .int) (some 0) (bEq st' v xx)) (b : Nat) (x0 x1 x2 x3 : Int) (s0 : bS) (h : F_X0_fits_r b x0 x1 x2 x3 s0 = some (st', v, xx)) : match (generalizing := false) b with | 0 => bJ κ s0 39 [(0, (2, x0)), (1, (0, x1)), (2, (2, x2))] [] | 1 => bJ κ s0 40 [(0, (2, x0)), (1, (0, x1)), (2, (2, x2))] [(0, x3)] | _ => True := by
  refine F_X0_fits_r.partial_correctness x0 x1 x2 s0 (fun b x3 r => r = (st', v, xx) → match (generalizing := false) b with | 0 => bJ κ s0 39 [(0, (2, x0)), (1, (0, x1)), (2, (2, x2))] [] | 1 => bJ κ s0 40 [(0, (2, x0)), (1, (0, x1)), (2, (2, x2))] [(0, x3)] | _ => True) ?_ b x3 _ h rfl
  intro f' ih b x3 r h hr
  subst hr
  match b, h with
  | 0, h =>
      refine r_iconst hκ dX0_fits_39 ?_
      exact r_sub [0, 1, 2] rfl (ih 1 _ _ h rfl)
  | 1, h =>
      refine r_bipush hκ (by decide) dX0_fits_40 ?_
      obtain ⟨s4, v4, v5, h10, h⟩ := bclx_i h
      refine r_seq (A := (v5 = -1 → bJ κ s4 45 [(0, (2, x0)), (1, (0, x1)), (2, (2, x2))] []) ∧ (¬ v5 = -1 → bT κ s4 42 [(0, (2, x0)), (1, (0, x1)), (2, (2, x2))] v4 v5)) ⟨fun h11 => ?_, fun h11 => ?_⟩ (fun k0 => r_xcallS hκ (n' := 2) (index := 196) (w_X0_may Γ0 l0 h10) (lw_S q799 q800 q121 q801) (by decide +kernel) rfl (by decide) rfl (Nat.le_of_ble_eq_true rfl) dX0_fits_42 (r_xj1 k0.1) (r_xj2 k0.2))
      · replace h := (bte_i h).1 h11
        refine r_aload_n hκ 0 rfl rfl dX0_fits_45 ?_
        refine r_iload_n hκ 1 rfl rfl dX0_fits_46 ?_
        refine r_aload_n hκ 2 rfl rfl dX0_fits_47 ?_
        obtain ⟨h12, h⟩ := bck_i h
        obtain ⟨s5, v6, h13, h⟩ := bcl_i h
        refine r_callV hκ (n' := 2) (index := 200) (w_X0_becomes Γ0 l0 h13) (lw_V q1546 q1548 qs20 q121 q1549) (by decide +kernel) (t := 0) h12 rfl rfl (by decide) rfl (Nat.le_of_ble_eq_true rfl) dX0_fits_48 ?_
        exact x_ret hκ hf (x_P h) (fun κ hκ hf => r_iret hκ hf (nar_int _) dX0_fits_51)
      · replace h := (bte_i h).2 h11
        exact r_xout hκ ht hf (by decide) (x_P h)
  | b + 2, h => trivial
set_option maxHeartbeats 4000000 in
set_option maxRecDepth 100000 in
theorem w_X0_fits (Γ0 : bG) (l0 : Launch) {s0 st' : bS} {v xx a0 a1 a2 : Int} (h : F_X0_fits s0 a0 a1 a2 = some (st', v, xx)) : bCx Γ0 l0 yX0_fits (ws_ yX0_fits cX0_fits 3 (some .int)) 9 3100 (some 0) [(2, a0), (0, a1), (2, a2)] s0 (bEq st' v xx) := by
  refine xb_ent (own := RX0) (by decide +kernel) rfl (Nat.le_of_ble_eq_true rfl) (L := [(0, (2, a0)), (1, (0, a1)), (2, (2, a2))]) rfl ?_
  intro κ hκ hi ht hf
  unfold F_X0_fits at h
  refine r_aload_n hκ 2 rfl rfl dX0_fits_0 ?_
  obtain ⟨h1, h⟩ := bck_i h
  obtain ⟨s1, v1, h2, h⟩ := bcl_i h
  refine r_callV hκ (n' := 0) (index := 182) (w_X8_from Γ0 l0 h2) (lw_V q1561 q1562 q1563 q140 q1564) (by decide +kernel) (t := 6) h1 rfl rfl (by decide) rfl (Nat.le_of_ble_eq_true rfl) dX0_fits_1 ?_
  refine r_sipush hκ (by decide) dX0_fits_4 ?_
  refine r_icmp_gt hκ (tgt := 39) (by decide) dX0_fits_7 (fun h3 => ?_) (fun h3 => ?_)
  · replace h := (bte_i h).1 h3
    exact r_sub [0, 1, 2] rfl (w_X0_fits_r hκ hi ht hf 0 _ _ _ _ _ h)
  · replace h := (bte_i h).2 h3
    refine r_aload_n hκ 2 rfl rfl dX0_fits_10 ?_
    obtain ⟨h4, h⟩ := bck_i h
    obtain ⟨s2, v2, h5, h⟩ := bcl_i h
    refine r_callV hκ (n' := 0) (index := 185) (w_X8_to Γ0 l0 h5) (lw_V q1590 q1591 q1592 q140 q1593) (by decide +kernel) (t := 6) h4 rfl rfl (by decide) rfl (Nat.le_of_ble_eq_true rfl) dX0_fits_11 ?_
    refine r_sipush hκ (by decide) dX0_fits_14 ?_
    refine r_icmp_gt hκ (tgt := 39) (by decide) dX0_fits_17 (fun h6 => ?_) (fun h6 => ?_)
    · replace h := (bte_i h).1 h6
      exact r_sub [0, 1, 2] rfl (w_X0_fits_r hκ hi ht hf 0 _ _ _ _ _ h)
    · replace h := (bte_i h).2 h6
      refine r_aload_n hκ 2 rfl rfl dX0_fits_20 ?_
      refine r_indyK hκ hi (k := 11) rfl rfl rfl rfl (Nat.le_of_ble_eq_true rfl) (Nat.le_of_ble_eq_true rfl) dX0_fits_21 ?_
      obtain ⟨h7, h⟩ := bck_i h
      obtain ⟨s3, v3, h8, h⟩ := bcl_i h
      refine r_callV hκ (n' := 1) (index := 192) (w_X8_sum Γ0 l0 h8) (lw_V q1616 q1583 q1584 q140 q1585) (by decide +kernel) (t := 6) h7 rfl rfl (by decide) rfl (Nat.le_of_ble_eq_true rfl) dX0_fits_26 ?_
      refine r_sipush hκ (by decide) dX0_fits_29 ?_
      refine r_icmp_gt hκ (tgt := 39) (by decide) dX0_fits_32 (fun h9 => ?_) (fun h9 => ?_)
      · replace h := (bte_i h).1 h9
        exact r_sub [0, 1, 2] rfl (w_X0_fits_r hκ hi ht hf 0 _ _ _ _ _ h)
      · replace h := (bte_i h).2 h9
        refine r_iconst hκ dX0_fits_35 ?_
        refine r_goto hκ (tgt := 40) (by decide) dX0_fits_36 ?_
        exact r_sub [0, 1, 2] rfl (w_X0_fits_r hκ hi ht hf 1 _ _ _ _ _ h)
/-- EditsMeet.lambda$behind$9(III)I -/
def F_X0_lambda_behind_9_r (b : Nat) (x0 x1 x2 x3 x4 : Int) (s0 : bS) : Option (bS × Int × Int) :=
  match b with
  | 0 =>
    F_X0_lambda_behind_9_r 1 x0 x1 x2 x3 0 s0
  | 1 =>
    bclx (F_X0_may s0 x4 (-2)) fun s4 v4 v5 =>
    bte (v5 = -1)
    (bck (bg s4 0 x0 0 = 1) <|
    bclx (F_X0_present s4 x0 x2) fun s5 v6 v7 =>
    bte (v7 = -1)
    (bck (bg s5 0 x0 0 = 1) <|
    bclx (F_X0_present s5 x0 x3) fun s6 v8 v9 =>
    bte (v9 = -1)
    (bck (bg s6 0 v6 0 = 7) <|
    bcl (F_X8_to s6 v6) fun s7 v10 =>
    bck (bg s7 0 v8 0 = 7) <|
    bcl (F_X8_from s7 v8) fun s8 v11 =>
    bte (i32 v10 = i32 v11)
    (F_X0_lambda_behind_9_r 2 x0 x1 v6 v8 1 s8)
    (F_X0_lambda_behind_9_r 2 x0 x1 v6 v8 0 s8))
    (some (s6, v8, v9)))
    (some (s5, v6, v7)))
    (some (s4, v4, v5))
  | 2 =>
    bclx (F_X0_may s0 x4 (-5)) fun s9 v12 v13 =>
    bte (v13 = -1)
    (bck (bg s9 0 x0 0 = 1) <|
    bck (bg s9 0 (bg s9 34 x0 0) 0 = 2) <|
    bck (bc s9 + 1 ≤ bCM ∧ bk s9 + 3 ≤ bKM) <|
    bst (bnw s9 7 0 3) fun s10 =>
    bck (bg s10 0 (bnx s9 : Int) 0 = 7) <|
    bcl (F_X8_init s10 (bnx s9 : Int)) fun s11 v14 =>
    bck (bg s11 0 (bg s9 78 (bg s9 34 x0 0) 0) 0 = 4) <|
    bcl (F_X3_behind s11 (bg s9 78 (bg s9 34 x0 0) 0) (bnx s9 : Int) x2 x3) fun s12 v15 =>
    bck (bg s12 0 x0 0 = 1) <|
    bclx (F_X0_fits s12 x0 x1 v15) fun s13 v16 v17 =>
    bte (v17 = -1)
    (some (s13, v16, -1))
    (some (s13, v16, v17)))
    (some (s9, v12, v13))
  | _ => none
partial_fixpoint
def F_X0_lambda_behind_9 (s0 : bS) (a0 a1 a2 a3 : Int) : Option (bS × Int × Int) :=
  bcl (F_X0_isEdit s0 a1) fun s1 v1 =>
  bte (i32 v1 = 0)
  (F_X0_lambda_behind_9_r 0 a0 a1 a2 a3 0 s1)
  (bcl (F_X0_isEdit s1 a2) fun s2 v2 =>
  bte (i32 v2 = 0)
  (F_X0_lambda_behind_9_r 0 a0 a1 a2 a3 0 s2)
  (bcl (F_X0_isEdit s2 a3) fun s3 v3 =>
  bte (i32 v3 = 0)
  (F_X0_lambda_behind_9_r 0 a0 a1 a2 a3 0 s3)
  (F_X0_lambda_behind_9_r 1 a0 a1 a2 a3 1 s3)))
set_option maxHeartbeats 4000000 in
set_option maxRecDepth 100000 in
set_option synthInstance.maxHeartbeats 4000000 in
theorem w_X0_lambda_behind_9_r {Γ0 : bG} {l0 : Launch} {κ : bK} {st' : bS} {v xx : Int} (hκ : bOk κ Γ0 l0 cX0_lambda_behind_9 RX0 6 13 3122) (hi : bIn κ yX0_lambda_behind_9) (ht : xTab κ []) (hf : xFin κ (some .int) (some 0) (bEq st' v xx)) (b : Nat) (x0 x1 x2 x3 x4 : Int) (s0 : bS) (h : F_X0_lambda_behind_9_r b x0 x1 x2 x3 x4 s0 = some (st', v, xx)) : match (generalizing := false) b with | 0 => bJ κ s0 25 [(0, (2, x0)), (1, (0, x1)), (2, (0, x2)), (3, (0, x3))] [] | 1 => bJ κ s0 26 [(0, (2, x0)), (1, (0, x1)), (2, (0, x2)), (3, (0, x3))] [(0, x4)] | 2 => bJ κ s0 63 [(0, (2, x0)), (1, (0, x1)), (4, (2, x2)), (5, (2, x3))] [(0, x4)] | _ => True := by
  refine F_X0_lambda_behind_9_r.partial_correctness x0 x1 (fun b x2 x3 x4 s0 r => r = (st', v, xx) → match (generalizing := false) b with | 0 => bJ κ s0 25 [(0, (2, x0)), (1, (0, x1)), (2, (0, x2)), (3, (0, x3))] [] | 1 => bJ κ s0 26 [(0, (2, x0)), (1, (0, x1)), (2, (0, x2)), (3, (0, x3))] [(0, x4)] | 2 => bJ κ s0 63 [(0, (2, x0)), (1, (0, x1)), (4, (2, x2)), (5, (2, x3))] [(0, x4)] | _ => True) ?_ b x2 x3 x4 s0 _ h rfl
  intro f' ih b x2 x3 x4 s0 r h hr
  subst hr
  match b, h with
  | 0, h =>
      refine r_iconst hκ dX0_lambda_behind_9_25 ?_
      exact r_sub [0, 1, 2, 3] rfl (ih 1 _ _ _ _ _ h rfl)
  | 1, h =>
      refine r_bipush hκ (by decide) dX0_lambda_behind_9_26 ?_
      obtain ⟨s4, v4, v5, h7, h⟩ := bclx_i h
      refine r_seq (A := (v5 = -1 → bJ κ s4 31 [(0, (2, x0)), (1, (0, x1)), (2, (0, x2)), (3, (0, x3))] []) ∧ (¬ v5 = -1 → bT κ s4 28 [(0, (2, x0)), (1, (0, x1)), (2, (0, x2)), (3, (0, x3))] v4 v5)) ⟨fun h8 => ?_, fun h8 => ?_⟩ (fun k0 => r_xcallS hκ (n' := 2) (index := 196) (w_X0_may Γ0 l0 h7) (lw_S q799 q800 q121 q801) (by decide +kernel) rfl (by decide) rfl (Nat.le_of_ble_eq_true rfl) dX0_lambda_behind_9_28 (r_xj1 k0.1) (r_xj2 k0.2))
      · replace h := (bte_i h).1 h8
        refine r_aload_n hκ 0 rfl rfl dX0_lambda_behind_9_31 ?_
        refine r_iload_n hκ 2 rfl rfl dX0_lambda_behind_9_32 ?_
        obtain ⟨h10, h⟩ := bck_i h
        obtain ⟨s5, v6, v7, h9, h⟩ := bclx_i h
        refine r_seq (A := (v7 = -1 → bJ κ s5 36 [(0, (2, x0)), (1, (0, x1)), (2, (0, x2)), (3, (0, x3))] [(2, v6)]) ∧ (¬ v7 = -1 → bT κ s5 33 [(0, (2, x0)), (1, (0, x1)), (2, (0, x2)), (3, (0, x3))] v6 v7)) ⟨fun h11 => ?_, fun h11 => ?_⟩ (fun k0 => r_xcallV hκ (n' := 1) (index := 58) (w_X0_present Γ0 l0 h9) (lw_V q802 q804 qs5 q121 q805) (by decide +kernel) (t := 0) h10 rfl rfl (by decide) rfl (Nat.le_of_ble_eq_true rfl) dX0_lambda_behind_9_33 (r_xj1 k0.1) (r_xj2 k0.2))
        · replace h := (bte_i h).1 h11
          refine r_astore hκ (L2 := [(4, (2, v6)), (0, (2, x0)), (1, (0, x1)), (2, (0, x2)), (3, (0, x3))]) (by decide) rfl dX0_lambda_behind_9_36 ?_
          refine r_aload_n hκ 1 rfl rfl dX0_lambda_behind_9_38 ?_
          refine r_iload_n hκ 4 rfl rfl dX0_lambda_behind_9_39 ?_
          obtain ⟨h13, h⟩ := bck_i h
          obtain ⟨s6, v8, v9, h12, h⟩ := bclx_i h
          refine r_seq (A := (v9 = -1 → bJ κ s6 43 [(4, (2, v6)), (0, (2, x0)), (1, (0, x1)), (2, (0, x2)), (3, (0, x3))] [(2, v8)]) ∧ (¬ v9 = -1 → bT κ s6 40 [(4, (2, v6)), (0, (2, x0)), (1, (0, x1)), (2, (0, x2)), (3, (0, x3))] v8 v9)) ⟨fun h14 => ?_, fun h14 => ?_⟩ (fun k0 => r_xcallV hκ (n' := 1) (index := 58) (w_X0_present Γ0 l0 h12) (lw_V q802 q804 qs5 q121 q805) (by decide +kernel) (t := 0) h13 rfl rfl (by decide) rfl (Nat.le_of_ble_eq_true rfl) dX0_lambda_behind_9_40 (r_xj1 k0.1) (r_xj2 k0.2))
          · replace h := (bte_i h).1 h14
            refine r_astore hκ (L2 := [(5, (2, v8)), (4, (2, v6)), (0, (2, x0)), (1, (0, x1)), (2, (0, x2)), (3, (0, x3))]) (by decide) rfl dX0_lambda_behind_9_43 ?_
            refine r_aload hκ 1 rfl dX0_lambda_behind_9_45 ?_
            obtain ⟨h15, h⟩ := bck_i h
            obtain ⟨s7, v10, h16, h⟩ := bcl_i h
            refine r_callV hκ (n' := 0) (index := 185) (w_X8_to Γ0 l0 h16) (lw_V q1590 q1591 q1592 q140 q1593) (by decide +kernel) (t := 6) h15 rfl rfl (by decide) rfl (Nat.le_of_ble_eq_true rfl) dX0_lambda_behind_9_47 ?_
            refine r_aload hκ 0 rfl dX0_lambda_behind_9_50 ?_
            obtain ⟨h17, h⟩ := bck_i h
            obtain ⟨s8, v11, h18, h⟩ := bcl_i h
            refine r_callV hκ (n' := 0) (index := 182) (w_X8_from Γ0 l0 h18) (lw_V q1561 q1562 q1563 q140 q1564) (by decide +kernel) (t := 6) h17 rfl rfl (by decide) rfl (Nat.le_of_ble_eq_true rfl) dX0_lambda_behind_9_52 ?_
            refine r_icmp_ne hκ (tgt := 62) (by decide) dX0_lambda_behind_9_55 (fun h19 => ?_) (fun h19 => ?_)
            · replace h := (bte_i h).2 h19
              refine r_iconst hκ dX0_lambda_behind_9_62 ?_
              exact r_sub [2, 3, 1, 0] rfl (ih 2 _ _ _ _ _ h rfl)
            · replace h := (bte_i h).1 h19
              refine r_iconst hκ dX0_lambda_behind_9_58 ?_
              refine r_goto hκ (tgt := 63) (by decide) dX0_lambda_behind_9_59 ?_
              exact r_sub [2, 3, 1, 0] rfl (ih 2 _ _ _ _ _ h rfl)
          · replace h := (bte_i h).2 h14
            exact r_xout hκ ht hf (by decide) (x_P h)
        · replace h := (bte_i h).2 h11
          exact r_xout hκ ht hf (by decide) (x_P h)
      · replace h := (bte_i h).2 h8
        exact r_xout hκ ht hf (by decide) (x_P h)
  | 2, h =>
      refine r_bipush hκ (by decide) dX0_lambda_behind_9_63 ?_
      obtain ⟨s9, v12, v13, h20, h⟩ := bclx_i h
      refine r_seq (A := (v13 = -1 → bJ κ s9 68 [(0, (2, x0)), (1, (0, x1)), (4, (2, x2)), (5, (2, x3))] []) ∧ (¬ v13 = -1 → bT κ s9 65 [(0, (2, x0)), (1, (0, x1)), (4, (2, x2)), (5, (2, x3))] v12 v13)) ⟨fun h21 => ?_, fun h21 => ?_⟩ (fun k0 => r_xcallS hκ (n' := 2) (index := 196) (w_X0_may Γ0 l0 h20) (lw_S q799 q800 q121 q801) (by decide +kernel) rfl (by decide) rfl (Nat.le_of_ble_eq_true rfl) dX0_lambda_behind_9_65 (r_xj1 k0.1) (r_xj2 k0.2))
      · replace h := (bte_i h).1 h21
        refine r_aload_n hκ 0 rfl rfl dX0_lambda_behind_9_68 ?_
        refine r_iload_n hκ 1 rfl rfl dX0_lambda_behind_9_69 ?_
        refine r_aload_n hκ 0 rfl rfl dX0_lambda_behind_9_70 ?_
        obtain ⟨h22, h⟩ := bck_i h
        refine r_get hκ (t := 0) (k := 0) (r := 34) h22 rfl in_X0 (by decide) rfl q573 (Or.inl rfl) dX0_lambda_behind_9_71 ?_
        obtain ⟨h23, h⟩ := bck_i h
        refine r_getN hκ (ref := "EditsMeet$World") (host := "EditsMeet") (t := 1) (k := 3) (r := 78) h23 rfl in_X1 (by decide) rfl (by decide) rfl dX0_lambda_behind_9_74 ?_
        obtain ⟨h24, h⟩ := bck_i h
        refine r_new hκ (t := 6) tyX8 tyX8_ok dfX8 rfl in_X8 q560 q395 q140 h24 dX0_lambda_behind_9_77 (fun s10 es10 => ?_)
        replace h := bst_i h s10 es10
        refine r_dup hκ (bd_cat2k _) dX0_lambda_behind_9_80 ?_
        obtain ⟨h25, h⟩ := bck_i h
        obtain ⟨s11, v14, h26, h⟩ := bcl_i h
        refine r_callIN hκ (n' := 0) (host := "EditsMeet") (index := 498) (w_X8_init Γ0 l0 h26) (lw_meth q398) (by decide +kernel) q140 (by decide +kernel) q397 rfl (t := 6) h25 rfl rfl (by decide) rfl (Nat.le_of_ble_eq_true rfl) dX0_lambda_behind_9_81 ?_
        refine r_aload hκ 2 rfl dX0_lambda_behind_9_84 ?_
        refine r_aload hκ 3 rfl dX0_lambda_behind_9_86 ?_
        obtain ⟨h27, h⟩ := bck_i h
        obtain ⟨s12, v15, h28, h⟩ := bcl_i h
        refine r_callV hκ (n' := 3) (index := 516) (w_X3_behind Γ0 l0 h28) (lw_V q2051 q2052 q2053 q135 q2054) (by decide +kernel) (t := 3) h27 rfl rfl (by decide) rfl (Nat.le_of_ble_eq_true rfl) dX0_lambda_behind_9_88 ?_
        obtain ⟨h30, h⟩ := bck_i h
        obtain ⟨s13, v16, v17, h29, h⟩ := bclx_i h
        refine r_seq (A := (v17 = -1 → bJ κ s13 94 [(0, (2, x0)), (1, (0, x1)), (4, (2, x2)), (5, (2, x3))] [(0, v16)]) ∧ (¬ v17 = -1 → bT κ s13 91 [(0, (2, x0)), (1, (0, x1)), (4, (2, x2)), (5, (2, x3))] v16 v17)) ⟨fun h31 => ?_, fun h31 => ?_⟩ (fun k0 => r_xcallV hκ (n' := 2) (index := 503) (w_X0_fits Γ0 l0 h29) (lw_V q2128 q2130 qs31 q121 q2131) (by decide +kernel) (t := 0) h30 rfl rfl (by decide) rfl (Nat.le_of_ble_eq_true rfl) dX0_lambda_behind_9_91 (r_xj1 k0.1) (r_xj2 k0.2))
        · replace h := (bte_i h).1 h31
          exact x_ret hκ hf (x_P h) (fun κ hκ hf => r_iret hκ hf (nar_int _) dX0_lambda_behind_9_94)
        · replace h := (bte_i h).2 h31
          exact r_xout hκ ht hf (by decide) (x_P h)
      · replace h := (bte_i h).2 h21
        exact r_xout hκ ht hf (by decide) (x_P h)
  | b + 3, h => trivial
set_option maxHeartbeats 4000000 in
set_option maxRecDepth 100000 in
theorem w_X0_lambda_behind_9 (Γ0 : bG) (l0 : Launch) {s0 st' : bS} {v xx a0 a1 a2 a3 : Int} (h : F_X0_lambda_behind_9 s0 a0 a1 a2 a3 = some (st', v, xx)) : bCx Γ0 l0 yX0_lambda_behind_9 (ws_ yX0_lambda_behind_9 cX0_lambda_behind_9 6 (some .int)) 13 3122 (some 0) [(2, a0), (0, a1), (0, a2), (0, a3)] s0 (bEq st' v xx) := by
  refine xb_ent (own := RX0) (by decide +kernel) rfl (Nat.le_of_ble_eq_true rfl) (L := [(0, (2, a0)), (1, (0, a1)), (2, (0, a2)), (3, (0, a3))]) rfl ?_
  intro κ hκ hi ht hf
  unfold F_X0_lambda_behind_9 at h
  refine r_iload_n hκ 1 rfl rfl dX0_lambda_behind_9_0 ?_
  obtain ⟨s1, v1, h1, h⟩ := bcl_i h
  refine r_callS hκ (n' := 1) (index := 49) (w_X0_isEdit Γ0 l0 h1) (lw_S q796 q797 q121 q798) (by decide +kernel) rfl (by decide) rfl (Nat.le_of_ble_eq_true rfl) dX0_lambda_behind_9_1 ?_
  refine r_if_eq hκ (tgt := 25) (by decide) dX0_lambda_behind_9_4 (fun h2 => ?_) (fun h2 => ?_)
  · replace h := (bte_i h).1 h2
    exact r_sub [0, 1, 2, 3] rfl (w_X0_lambda_behind_9_r hκ hi ht hf 0 _ _ _ _ _ _ h)
  · replace h := (bte_i h).2 h2
    refine r_iload_n hκ 2 rfl rfl dX0_lambda_behind_9_7 ?_
    obtain ⟨s2, v2, h3, h⟩ := bcl_i h
    refine r_callS hκ (n' := 1) (index := 49) (w_X0_isEdit Γ0 l0 h3) (lw_S q796 q797 q121 q798) (by decide +kernel) rfl (by decide) rfl (Nat.le_of_ble_eq_true rfl) dX0_lambda_behind_9_8 ?_
    refine r_if_eq hκ (tgt := 25) (by decide) dX0_lambda_behind_9_11 (fun h4 => ?_) (fun h4 => ?_)
    · replace h := (bte_i h).1 h4
      exact r_sub [0, 1, 2, 3] rfl (w_X0_lambda_behind_9_r hκ hi ht hf 0 _ _ _ _ _ _ h)
    · replace h := (bte_i h).2 h4
      refine r_iload_n hκ 3 rfl rfl dX0_lambda_behind_9_14 ?_
      obtain ⟨s3, v3, h5, h⟩ := bcl_i h
      refine r_callS hκ (n' := 1) (index := 49) (w_X0_isEdit Γ0 l0 h5) (lw_S q796 q797 q121 q798) (by decide +kernel) rfl (by decide) rfl (Nat.le_of_ble_eq_true rfl) dX0_lambda_behind_9_15 ?_
      refine r_if_eq hκ (tgt := 25) (by decide) dX0_lambda_behind_9_18 (fun h6 => ?_) (fun h6 => ?_)
      · replace h := (bte_i h).1 h6
        exact r_sub [0, 1, 2, 3] rfl (w_X0_lambda_behind_9_r hκ hi ht hf 0 _ _ _ _ _ _ h)
      · replace h := (bte_i h).2 h6
        refine r_iconst hκ dX0_lambda_behind_9_21 ?_
        refine r_goto hκ (tgt := 26) (by decide) dX0_lambda_behind_9_22 ?_
        exact r_sub [0, 1, 2, 3] rfl (w_X0_lambda_behind_9_r hκ hi ht hf 1 _ _ _ _ _ _ h)
/-- EditsMeet.lambda$over$10(IIII)I -/
def F_X0_lambda_over_10_r (b : Nat) (xs : Int × Int × Int × Int × Int × Int × Int) (s0 : bS) : Option (bS × Int × Int) :=
  match b, xs with
  | 0, (x0, x1, x2, x3, x4, _, _) =>
    F_X0_lambda_over_10_r 1 (x0, x1, x2, x3, x4, 0, 0) s0
  | 1, (x0, x1, x2, x3, x4, x5, _) =>
    bclx (F_X0_may s0 x5 (-2)) fun s5 v5 v6 =>
    bte (v6 = -1)
    (bck (bg s5 0 x0 0 = 1) <|
    bclx (F_X0_present s5 x0 x2) fun s6 v7 v8 =>
    bte (v8 = -1)
    (bck (bg s6 0 x0 0 = 1) <|
    bclx (F_X0_present s6 x0 x3) fun s7 v9 v10 =>
    bte (v10 = -1)
    (bck (bg s7 0 v7 0 = 7) <|
    bcl (F_X8_from s7 v7) fun s8 v11 =>
    bck (bg s8 0 v9 0 = 7) <|
    bcl (F_X8_from s8 v9) fun s9 v12 =>
    bte (i32 v11 = i32 v12)
    (F_X0_lambda_over_10_r 2 (x0, x1, x4, v7, v9, 1, 0) s9)
    (F_X0_lambda_over_10_r 2 (x0, x1, x4, v7, v9, 0, 0) s9))
    (some (s7, v9, v10)))
    (some (s6, v7, v8)))
    (some (s5, v5, v6))
  | 2, (x0, x1, x2, x3, x4, x5, _) =>
    bclx (F_X0_may s0 x5 (-5)) fun s10 v13 v14 =>
    bte (v14 = -1)
    (bck (bg s10 0 x0 0 = 1) <|
    bck (bg s10 0 (bg s10 34 x0 0) 0 = 2) <|
    bck (bc s10 + 1 ≤ bCM ∧ bk s10 + 3 ≤ bKM) <|
    bst (bnw s10 7 0 3) fun s11 =>
    bck (bg s11 0 (bnx s10 : Int) 0 = 7) <|
    bcl (F_X8_init s11 (bnx s10 : Int)) fun s12 v15 =>
    bte (i32 x2 = i32 1)
    (F_X0_lambda_over_10_r 3 (1, x4, x3, (bnx s10 : Int), (bg s10 78 (bg s10 34 x0 0) 0), x1, x0) s12)
    (F_X0_lambda_over_10_r 3 (0, x4, x3, (bnx s10 : Int), (bg s10 78 (bg s10 34 x0 0) 0), x1, x0) s12))
    (some (s10, v13, v14))
  | 3, (x0, x1, x2, x3, x4, x5, x6) =>
    bck (bg s0 0 x4 0 = 4) <|
    bcl (F_X3_over s0 x4 x3 x2 x1 x0) fun s13 v16 =>
    bck (bg s13 0 x6 0 = 1) <|
    bclx (F_X0_fits s13 x6 x5 v16) fun s14 v17 v18 =>
    bte (v18 = -1)
    (some (s14, v17, -1))
    (some (s14, v17, v18))
  | _, _ => none
partial_fixpoint
def F_X0_lambda_over_10 (s0 : bS) (a0 a1 a2 a3 a4 : Int) : Option (bS × Int × Int) :=
  bcl (F_X0_isEdit s0 a1) fun s1 v1 =>
  bte (i32 v1 = 0)
  (F_X0_lambda_over_10_r 0 (a0, a1, a2, a3, a4, 0, 0) s1)
  (bcl (F_X0_isEdit s1 a2) fun s2 v2 =>
  bte (i32 v2 = 0)
  (F_X0_lambda_over_10_r 0 (a0, a1, a2, a3, a4, 0, 0) s2)
  (bcl (F_X0_isEdit s2 a3) fun s3 v3 =>
  bte (i32 v3 = 0)
  (F_X0_lambda_over_10_r 0 (a0, a1, a2, a3, a4, 0, 0) s3)
  (bcl (F_X0_isIn s3 a4 0 1) fun s4 v4 =>
  bte (i32 v4 = 0)
  (F_X0_lambda_over_10_r 0 (a0, a1, a2, a3, a4, 0, 0) s4)
  (F_X0_lambda_over_10_r 1 (a0, a1, a2, a3, a4, 1, 0) s4))))
set_option maxHeartbeats 4000000 in
set_option maxRecDepth 100000 in
set_option synthInstance.maxHeartbeats 4000000 in
theorem w_X0_lambda_over_10_r {Γ0 : bG} {l0 : Launch} {κ : bK} {st' : bS} {v xx : Int} (hκ : bOk κ Γ0 l0 cX0_lambda_over_10 RX0 7 12 3122) (hi : bIn κ yX0_lambda_over_10) (ht : xTab κ []) (hf : xFin κ (some .int) (some 0) (bEq st' v xx)) (b : Nat) (x0 x1 x2 x3 x4 x5 x6 : Int) (s0 : bS) (h : F_X0_lambda_over_10_r b (x0, x1, x2, x3, x4, x5, x6) s0 = some (st', v, xx)) : match (generalizing := false) b with | 0 => bJ κ s0 35 [(0, (2, x0)), (1, (0, x1)), (2, (0, x2)), (3, (0, x3)), (4, (0, x4))] [] | 1 => bJ κ s0 36 [(0, (2, x0)), (1, (0, x1)), (2, (0, x2)), (3, (0, x3)), (4, (0, x4))] [(0, x5)] | 2 => bJ κ s0 73 [(0, (2, x0)), (1, (0, x1)), (4, (0, x2)), (5, (2, x3)), (6, (2, x4))] [(0, x5)] | 3 => bJ κ s0 109 [] [(0, x0), (2, x1), (2, x2), (2, x3), (2, x4), (0, x5), (2, x6)] | _ => True := by
  refine F_X0_lambda_over_10_r.partial_correctness (fun b xs s0 r => r = (st', v, xx) → match (generalizing := false) b with | 0 => bJ κ s0 35 [(0, (2, xs.1)), (1, (0, xs.2.1)), (2, (0, xs.2.2.1)), (3, (0, xs.2.2.2.1)), (4, (0, xs.2.2.2.2.1))] [] | 1 => bJ κ s0 36 [(0, (2, xs.1)), (1, (0, xs.2.1)), (2, (0, xs.2.2.1)), (3, (0, xs.2.2.2.1)), (4, (0, xs.2.2.2.2.1))] [(0, xs.2.2.2.2.2.1)] | 2 => bJ κ s0 73 [(0, (2, xs.1)), (1, (0, xs.2.1)), (4, (0, xs.2.2.1)), (5, (2, xs.2.2.2.1)), (6, (2, xs.2.2.2.2.1))] [(0, xs.2.2.2.2.2.1)] | 3 => bJ κ s0 109 [] [(0, xs.1), (2, xs.2.1), (2, xs.2.2.1), (2, xs.2.2.2.1), (2, xs.2.2.2.2.1), (0, xs.2.2.2.2.2.1), (2, xs.2.2.2.2.2.2)] | _ => True) ?_ b (x0, x1, x2, x3, x4, x5, x6) s0 _ h rfl
  intro f' ih b xs s0 r h hr
  subst hr
  match b, xs, h with
  | 0, (x0, x1, x2, x3, x4, x5, x6), h =>
      show bJ κ s0 35 [(0, (2, x0)), (1, (0, x1)), (2, (0, x2)), (3, (0, x3)), (4, (0, x4))] []
      refine r_iconst hκ dX0_lambda_over_10_35 ?_
      exact r_sub [0, 1, 2, 3, 4] rfl (ih 1 _ _ _ h rfl)
  | 1, (x0, x1, x2, x3, x4, x5, x6), h =>
      show bJ κ s0 36 [(0, (2, x0)), (1, (0, x1)), (2, (0, x2)), (3, (0, x3)), (4, (0, x4))] [(0, x5)]
      refine r_bipush hκ (by decide) dX0_lambda_over_10_36 ?_
      obtain ⟨s5, v5, v6, h9, h⟩ := bclx_i h
      refine r_seq (A := (v6 = -1 → bJ κ s5 41 [(0, (2, x0)), (1, (0, x1)), (2, (0, x2)), (3, (0, x3)), (4, (0, x4))] []) ∧ (¬ v6 = -1 → bT κ s5 38 [(0, (2, x0)), (1, (0, x1)), (2, (0, x2)), (3, (0, x3)), (4, (0, x4))] v5 v6)) ⟨fun h10 => ?_, fun h10 => ?_⟩ (fun k0 => r_xcallS hκ (n' := 2) (index := 196) (w_X0_may Γ0 l0 h9) (lw_S q799 q800 q121 q801) (by decide +kernel) rfl (by decide) rfl (Nat.le_of_ble_eq_true rfl) dX0_lambda_over_10_38 (r_xj1 k0.1) (r_xj2 k0.2))
      · replace h := (bte_i h).1 h10
        refine r_aload_n hκ 0 rfl rfl dX0_lambda_over_10_41 ?_
        refine r_iload_n hκ 2 rfl rfl dX0_lambda_over_10_42 ?_
        obtain ⟨h12, h⟩ := bck_i h
        obtain ⟨s6, v7, v8, h11, h⟩ := bclx_i h
        refine r_seq (A := (v8 = -1 → bJ κ s6 46 [(0, (2, x0)), (1, (0, x1)), (2, (0, x2)), (3, (0, x3)), (4, (0, x4))] [(2, v7)]) ∧ (¬ v8 = -1 → bT κ s6 43 [(0, (2, x0)), (1, (0, x1)), (2, (0, x2)), (3, (0, x3)), (4, (0, x4))] v7 v8)) ⟨fun h13 => ?_, fun h13 => ?_⟩ (fun k0 => r_xcallV hκ (n' := 1) (index := 58) (w_X0_present Γ0 l0 h11) (lw_V q802 q804 qs5 q121 q805) (by decide +kernel) (t := 0) h12 rfl rfl (by decide) rfl (Nat.le_of_ble_eq_true rfl) dX0_lambda_over_10_43 (r_xj1 k0.1) (r_xj2 k0.2))
        · replace h := (bte_i h).1 h13
          refine r_astore hκ (L2 := [(5, (2, v7)), (0, (2, x0)), (1, (0, x1)), (2, (0, x2)), (3, (0, x3)), (4, (0, x4))]) (by decide) rfl dX0_lambda_over_10_46 ?_
          refine r_aload_n hκ 1 rfl rfl dX0_lambda_over_10_48 ?_
          refine r_iload_n hκ 4 rfl rfl dX0_lambda_over_10_49 ?_
          obtain ⟨h15, h⟩ := bck_i h
          obtain ⟨s7, v9, v10, h14, h⟩ := bclx_i h
          refine r_seq (A := (v10 = -1 → bJ κ s7 53 [(5, (2, v7)), (0, (2, x0)), (1, (0, x1)), (2, (0, x2)), (3, (0, x3)), (4, (0, x4))] [(2, v9)]) ∧ (¬ v10 = -1 → bT κ s7 50 [(5, (2, v7)), (0, (2, x0)), (1, (0, x1)), (2, (0, x2)), (3, (0, x3)), (4, (0, x4))] v9 v10)) ⟨fun h16 => ?_, fun h16 => ?_⟩ (fun k0 => r_xcallV hκ (n' := 1) (index := 58) (w_X0_present Γ0 l0 h14) (lw_V q802 q804 qs5 q121 q805) (by decide +kernel) (t := 0) h15 rfl rfl (by decide) rfl (Nat.le_of_ble_eq_true rfl) dX0_lambda_over_10_50 (r_xj1 k0.1) (r_xj2 k0.2))
          · replace h := (bte_i h).1 h16
            refine r_astore hκ (L2 := [(6, (2, v9)), (5, (2, v7)), (0, (2, x0)), (1, (0, x1)), (2, (0, x2)), (3, (0, x3)), (4, (0, x4))]) (by decide) rfl dX0_lambda_over_10_53 ?_
            refine r_aload hκ 1 rfl dX0_lambda_over_10_55 ?_
            obtain ⟨h17, h⟩ := bck_i h
            obtain ⟨s8, v11, h18, h⟩ := bcl_i h
            refine r_callV hκ (n' := 0) (index := 182) (w_X8_from Γ0 l0 h18) (lw_V q1561 q1562 q1563 q140 q1564) (by decide +kernel) (t := 6) h17 rfl rfl (by decide) rfl (Nat.le_of_ble_eq_true rfl) dX0_lambda_over_10_57 ?_
            refine r_aload hκ 0 rfl dX0_lambda_over_10_60 ?_
            obtain ⟨h19, h⟩ := bck_i h
            obtain ⟨s9, v12, h20, h⟩ := bcl_i h
            refine r_callV hκ (n' := 0) (index := 182) (w_X8_from Γ0 l0 h20) (lw_V q1561 q1562 q1563 q140 q1564) (by decide +kernel) (t := 6) h19 rfl rfl (by decide) rfl (Nat.le_of_ble_eq_true rfl) dX0_lambda_over_10_62 ?_
            refine r_icmp_ne hκ (tgt := 72) (by decide) dX0_lambda_over_10_65 (fun h21 => ?_) (fun h21 => ?_)
            · replace h := (bte_i h).2 h21
              refine r_iconst hκ dX0_lambda_over_10_72 ?_
              exact r_sub [2, 3, 6, 1, 0] rfl (ih 2 _ _ _ h rfl)
            · replace h := (bte_i h).1 h21
              refine r_iconst hκ dX0_lambda_over_10_68 ?_
              refine r_goto hκ (tgt := 73) (by decide) dX0_lambda_over_10_69 ?_
              exact r_sub [2, 3, 6, 1, 0] rfl (ih 2 _ _ _ h rfl)
          · replace h := (bte_i h).2 h16
            exact r_xout hκ ht hf (by decide) (x_P h)
        · replace h := (bte_i h).2 h13
          exact r_xout hκ ht hf (by decide) (x_P h)
      · replace h := (bte_i h).2 h10
        exact r_xout hκ ht hf (by decide) (x_P h)
  | 2, (x0, x1, x2, x3, x4, x5, x6), h =>
      show bJ κ s0 73 [(0, (2, x0)), (1, (0, x1)), (4, (0, x2)), (5, (2, x3)), (6, (2, x4))] [(0, x5)]
      refine r_bipush hκ (by decide) dX0_lambda_over_10_73 ?_
      obtain ⟨s10, v13, v14, h22, h⟩ := bclx_i h
      refine r_seq (A := (v14 = -1 → bJ κ s10 78 [(0, (2, x0)), (1, (0, x1)), (4, (0, x2)), (5, (2, x3)), (6, (2, x4))] []) ∧ (¬ v14 = -1 → bT κ s10 75 [(0, (2, x0)), (1, (0, x1)), (4, (0, x2)), (5, (2, x3)), (6, (2, x4))] v13 v14)) ⟨fun h23 => ?_, fun h23 => ?_⟩ (fun k0 => r_xcallS hκ (n' := 2) (index := 196) (w_X0_may Γ0 l0 h22) (lw_S q799 q800 q121 q801) (by decide +kernel) rfl (by decide) rfl (Nat.le_of_ble_eq_true rfl) dX0_lambda_over_10_75 (r_xj1 k0.1) (r_xj2 k0.2))
      · replace h := (bte_i h).1 h23
        refine r_aload_n hκ 0 rfl rfl dX0_lambda_over_10_78 ?_
        refine r_iload_n hκ 1 rfl rfl dX0_lambda_over_10_79 ?_
        refine r_aload_n hκ 0 rfl rfl dX0_lambda_over_10_80 ?_
        obtain ⟨h24, h⟩ := bck_i h
        refine r_get hκ (t := 0) (k := 0) (r := 34) h24 rfl in_X0 (by decide) rfl q573 (Or.inl rfl) dX0_lambda_over_10_81 ?_
        obtain ⟨h25, h⟩ := bck_i h
        refine r_getN hκ (ref := "EditsMeet$World") (host := "EditsMeet") (t := 1) (k := 3) (r := 78) h25 rfl in_X1 (by decide) rfl (by decide) rfl dX0_lambda_over_10_84 ?_
        obtain ⟨h26, h⟩ := bck_i h
        refine r_new hκ (t := 6) tyX8 tyX8_ok dfX8 rfl in_X8 q560 q395 q140 h26 dX0_lambda_over_10_87 (fun s11 es11 => ?_)
        replace h := bst_i h s11 es11
        refine r_dup hκ (bd_cat2k _) dX0_lambda_over_10_90 ?_
        obtain ⟨h27, h⟩ := bck_i h
        obtain ⟨s12, v15, h28, h⟩ := bcl_i h
        refine r_callIN hκ (n' := 0) (host := "EditsMeet") (index := 498) (w_X8_init Γ0 l0 h28) (lw_meth q398) (by decide +kernel) q140 (by decide +kernel) q397 rfl (t := 6) h27 rfl rfl (by decide) rfl (Nat.le_of_ble_eq_true rfl) dX0_lambda_over_10_91 ?_
        refine r_aload hκ 3 rfl dX0_lambda_over_10_94 ?_
        refine r_aload hκ 4 rfl dX0_lambda_over_10_96 ?_
        refine r_iload hκ 2 rfl dX0_lambda_over_10_98 ?_
        refine r_iconst hκ dX0_lambda_over_10_100 ?_
        refine r_icmp_ne hκ (tgt := 108) (by decide) dX0_lambda_over_10_101 (fun h29 => ?_) (fun h29 => ?_)
        · replace h := (bte_i h).2 h29
          refine r_iconst hκ dX0_lambda_over_10_108 ?_
          exact r_sub [] rfl (ih 3 _ _ _ h rfl)
        · replace h := (bte_i h).1 h29
          refine r_iconst hκ dX0_lambda_over_10_104 ?_
          refine r_goto hκ (tgt := 109) (by decide) dX0_lambda_over_10_105 ?_
          exact r_sub [] rfl (ih 3 _ _ _ h rfl)
      · replace h := (bte_i h).2 h23
        exact r_xout hκ ht hf (by decide) (x_P h)
  | 3, (x0, x1, x2, x3, x4, x5, x6), h =>
      show bJ κ s0 109 [] [(0, x0), (2, x1), (2, x2), (2, x3), (2, x4), (0, x5), (2, x6)]
      obtain ⟨h30, h⟩ := bck_i h
      obtain ⟨s13, v16, h31, h⟩ := bcl_i h
      refine r_callV hκ (n' := 4) (index := 510) (w_X3_over Γ0 l0 h31) (lw_V q2141 q2142 q2143 q135 q2144) (by decide +kernel) (t := 3) h30 rfl rfl (by decide) rfl (Nat.le_of_ble_eq_true rfl) dX0_lambda_over_10_109 ?_
      obtain ⟨h33, h⟩ := bck_i h
      obtain ⟨s14, v17, v18, h32, h⟩ := bclx_i h
      refine r_seq (A := (v18 = -1 → bJ κ s14 115 [] [(0, v17)]) ∧ (¬ v18 = -1 → bT κ s14 112 [] v17 v18)) ⟨fun h34 => ?_, fun h34 => ?_⟩ (fun k0 => r_xcallV hκ (n' := 2) (index := 503) (w_X0_fits Γ0 l0 h32) (lw_V q2128 q2130 qs31 q121 q2131) (by decide +kernel) (t := 0) h33 rfl rfl (by decide) rfl (Nat.le_of_ble_eq_true rfl) dX0_lambda_over_10_112 (r_xj1 k0.1) (r_xj2 k0.2))
      · replace h := (bte_i h).1 h34
        exact x_ret hκ hf (x_P h) (fun κ hκ hf => r_iret hκ hf (nar_int _) dX0_lambda_over_10_115)
      · replace h := (bte_i h).2 h34
        exact r_xout hκ ht hf (by decide) (x_P h)
  | b + 4, _, h => trivial
set_option maxHeartbeats 4000000 in
set_option maxRecDepth 100000 in
theorem w_X0_lambda_over_10 (Γ0 : bG) (l0 : Launch) {s0 st' : bS} {v xx a0 a1 a2 a3 a4 : Int} (h : F_X0_lambda_over_10 s0 a0 a1 a2 a3 a4 = some (st', v, xx)) : bCx Γ0 l0 yX0_lambda_over_10 (ws_ yX0_lambda_over_10 cX0_lambda_over_10 7 (some .int)) 12 3122 (some 0) [(2, a0), (0, a1), (0, a2), (0, a3), (0, a4)] s0 (bEq st' v xx) := by
  refine xb_ent (own := RX0) (by decide +kernel) rfl (Nat.le_of_ble_eq_true rfl) (L := [(0, (2, a0)), (1, (0, a1)), (2, (0, a2)), (3, (0, a3)), (4, (0, a4))]) rfl ?_
  intro κ hκ hi ht hf
  unfold F_X0_lambda_over_10 at h
  refine r_iload_n hκ 1 rfl rfl dX0_lambda_over_10_0 ?_
  obtain ⟨s1, v1, h1, h⟩ := bcl_i h
  refine r_callS hκ (n' := 1) (index := 49) (w_X0_isEdit Γ0 l0 h1) (lw_S q796 q797 q121 q798) (by decide +kernel) rfl (by decide) rfl (Nat.le_of_ble_eq_true rfl) dX0_lambda_over_10_1 ?_
  refine r_if_eq hκ (tgt := 35) (by decide) dX0_lambda_over_10_4 (fun h2 => ?_) (fun h2 => ?_)
  · replace h := (bte_i h).1 h2
    exact r_sub [0, 1, 2, 3, 4] rfl (w_X0_lambda_over_10_r hκ hi ht hf 0 _ _ _ _ _ _ _ _ h)
  · replace h := (bte_i h).2 h2
    refine r_iload_n hκ 2 rfl rfl dX0_lambda_over_10_7 ?_
    obtain ⟨s2, v2, h3, h⟩ := bcl_i h
    refine r_callS hκ (n' := 1) (index := 49) (w_X0_isEdit Γ0 l0 h3) (lw_S q796 q797 q121 q798) (by decide +kernel) rfl (by decide) rfl (Nat.le_of_ble_eq_true rfl) dX0_lambda_over_10_8 ?_
    refine r_if_eq hκ (tgt := 35) (by decide) dX0_lambda_over_10_11 (fun h4 => ?_) (fun h4 => ?_)
    · replace h := (bte_i h).1 h4
      exact r_sub [0, 1, 2, 3, 4] rfl (w_X0_lambda_over_10_r hκ hi ht hf 0 _ _ _ _ _ _ _ _ h)
    · replace h := (bte_i h).2 h4
      refine r_iload_n hκ 3 rfl rfl dX0_lambda_over_10_14 ?_
      obtain ⟨s3, v3, h5, h⟩ := bcl_i h
      refine r_callS hκ (n' := 1) (index := 49) (w_X0_isEdit Γ0 l0 h5) (lw_S q796 q797 q121 q798) (by decide +kernel) rfl (by decide) rfl (Nat.le_of_ble_eq_true rfl) dX0_lambda_over_10_15 ?_
      refine r_if_eq hκ (tgt := 35) (by decide) dX0_lambda_over_10_18 (fun h6 => ?_) (fun h6 => ?_)
      · replace h := (bte_i h).1 h6
        exact r_sub [0, 1, 2, 3, 4] rfl (w_X0_lambda_over_10_r hκ hi ht hf 0 _ _ _ _ _ _ _ _ h)
      · replace h := (bte_i h).2 h6
        refine r_iload hκ 4 rfl dX0_lambda_over_10_21 ?_
        refine r_iconst hκ dX0_lambda_over_10_23 ?_
        refine r_iconst hκ dX0_lambda_over_10_24 ?_
        obtain ⟨s4, v4, h7, h⟩ := bcl_i h
        refine r_callS hκ (n' := 3) (index := 45) (w_X0_isIn Γ0 l0 h7) (lw_S q624 q625 q121 q626) (by decide +kernel) rfl (by decide) rfl (Nat.le_of_ble_eq_true rfl) dX0_lambda_over_10_25 ?_
        refine r_if_eq hκ (tgt := 35) (by decide) dX0_lambda_over_10_28 (fun h8 => ?_) (fun h8 => ?_)
        · replace h := (bte_i h).1 h8
          exact r_sub [0, 1, 2, 3, 4] rfl (w_X0_lambda_over_10_r hκ hi ht hf 0 _ _ _ _ _ _ _ _ h)
        · replace h := (bte_i h).2 h8
          refine r_iconst hκ dX0_lambda_over_10_31 ?_
          refine r_goto hκ (tgt := 36) (by decide) dX0_lambda_over_10_32 ?_
          exact r_sub [0, 1, 2, 3, 4] rfl (w_X0_lambda_over_10_r hκ hi ht hf 1 _ _ _ _ _ _ _ _ h)
/-- EditsMeet.isClient(I)Z -/
def F_X0_isClient (s0 : bS) (a0 : Int) : Option (bS × Int) :=
  bcl (F_X0_isIn s0 a0 0 3) fun s1 v1 =>
  bck (v1 = 0 ∨ v1 = 1) <|
  some (s1, v1)
set_option maxHeartbeats 4000000 in
set_option maxRecDepth 100000 in
theorem w_X0_isClient (Γ0 : bG) (l0 : Launch) {s0 st' : bS} {v a0 : Int} (h : F_X0_isClient s0 a0 = some (st', v)) : bCt Γ0 l0 yX0_isClient cX0_isClient 1 (some .boolean) 1 22 [(0, a0)] s0 st' (some (0, v)) := by
  refine b_ent (own := RX0) (by decide +kernel) rfl (Nat.le_of_ble_eq_true rfl) (L := [(0, (0, a0))]) rfl ?_
  intro κ hκ hi hf
  unfold F_X0_isClient at h
  refine r_iload_n hκ 0 rfl rfl dX0_isClient_0 ?_
  refine r_iconst hκ dX0_isClient_1 ?_
  refine r_iconst hκ dX0_isClient_2 ?_
  obtain ⟨s1, v1, h1, h⟩ := bcl_i h
  refine r_callS hκ (n' := 3) (index := 45) (w_X0_isIn Γ0 l0 h1) (lw_S q624 q625 q121 q626) (by decide +kernel) rfl (by decide) rfl (Nat.le_of_ble_eq_true rfl) dX0_isClient_3 ?_
  obtain ⟨h2, h⟩ := bck_i h
  exact r_iretH hκ hf h (nar_bool h2) dX0_isClient_6
/-- EditsMeet.lambda$turned$11(III)I -/
def F_X0_lambda_turned_11_r (b : Nat) (x0 x1 x2 x3 x4 : Int) (s0 : bS) : Option (bS × Int × Int) :=
  match b with
  | 0 =>
    F_X0_lambda_turned_11_r 1 x0 x1 x2 x3 0 s0
  | 1 =>
    bclx (F_X0_may s0 x4 (-2)) fun s4 v4 v5 =>
    bte (v5 = -1)
    (bck (bg s4 0 x0 0 = 1) <|
    bclx (F_X0_present s4 x0 x2) fun s5 v6 v7 =>
    bte (v7 = -1)
    (bck (bg s5 0 x0 0 = 1) <|
    bck (bg s5 0 (bg s5 34 x0 0) 0 = 2) <|
    bcl (F_X1_text s5 (bg s5 34 x0 0) x3) fun s6 v8 =>
    bck (bg s6 0 v6 0 = 7) <|
    bcl (F_X8_from s6 v6) fun s7 v9 =>
    bck (bg s7 0 v8 0 = 3) <|
    bcl (F_X2_length s7 v8) fun s8 v10 =>
    bte (i32 v9 = i32 v10)
    (F_X0_lambda_turned_11_r 2 x0 x1 v6 v8 1 s8)
    (F_X0_lambda_turned_11_r 2 x0 x1 v6 v8 0 s8))
    (some (s5, v6, v7)))
    (some (s4, v4, v5))
  | 2 =>
    bclx (F_X0_may s0 x4 (-5)) fun s9 v11 v12 =>
    bte (v12 = -1)
    (bck (bc s9 + 1 ≤ bCM ∧ bk s9 + 3 ≤ bKM) <|
    bst (bnw s9 7 0 3) fun s10 =>
    bck (bg s10 0 (bnx s9 : Int) 0 = 7) <|
    bcl (F_X8_init s10 (bnx s9 : Int)) fun s11 v13 =>
    bck (bg s11 0 x3 0 = 3) <|
    bcl (F_X2_turned s11 x3 (bnx s9 : Int) x2) fun s12 v14 =>
    bck (bg s12 0 x0 0 = 1) <|
    bclx (F_X0_fits s12 x0 x1 v14) fun s13 v15 v16 =>
    bte (v16 = -1)
    (some (s13, v15, -1))
    (some (s13, v15, v16)))
    (some (s9, v11, v12))
  | _ => none
partial_fixpoint
def F_X0_lambda_turned_11 (s0 : bS) (a0 a1 a2 a3 : Int) : Option (bS × Int × Int) :=
  bcl (F_X0_isEdit s0 a1) fun s1 v1 =>
  bte (i32 v1 = 0)
  (F_X0_lambda_turned_11_r 0 a0 a1 a2 a3 0 s1)
  (bcl (F_X0_isEdit s1 a2) fun s2 v2 =>
  bte (i32 v2 = 0)
  (F_X0_lambda_turned_11_r 0 a0 a1 a2 a3 0 s2)
  (bcl (F_X0_isClient s2 a3) fun s3 v3 =>
  bte (i32 v3 = 0)
  (F_X0_lambda_turned_11_r 0 a0 a1 a2 a3 0 s3)
  (F_X0_lambda_turned_11_r 1 a0 a1 a2 a3 1 s3)))
set_option maxHeartbeats 4000000 in
set_option maxRecDepth 100000 in
set_option synthInstance.maxHeartbeats 4000000 in
theorem w_X0_lambda_turned_11_r {Γ0 : bG} {l0 : Launch} {κ : bK} {st' : bS} {v xx : Int} (hκ : bOk κ Γ0 l0 cX0_lambda_turned_11 RX0 6 12 3122) (hi : bIn κ yX0_lambda_turned_11) (ht : xTab κ []) (hf : xFin κ (some .int) (some 0) (bEq st' v xx)) (b : Nat) (x0 x1 x2 x3 x4 : Int) (s0 : bS) (h : F_X0_lambda_turned_11_r b x0 x1 x2 x3 x4 s0 = some (st', v, xx)) : match (generalizing := false) b with | 0 => bJ κ s0 25 [(0, (2, x0)), (1, (0, x1)), (2, (0, x2)), (3, (0, x3))] [] | 1 => bJ κ s0 26 [(0, (2, x0)), (1, (0, x1)), (2, (0, x2)), (3, (0, x3))] [(0, x4)] | 2 => bJ κ s0 66 [(0, (2, x0)), (1, (0, x1)), (4, (2, x2)), (5, (2, x3))] [(0, x4)] | _ => True := by
  refine F_X0_lambda_turned_11_r.partial_correctness x0 x1 (fun b x2 x3 x4 s0 r => r = (st', v, xx) → match (generalizing := false) b with | 0 => bJ κ s0 25 [(0, (2, x0)), (1, (0, x1)), (2, (0, x2)), (3, (0, x3))] [] | 1 => bJ κ s0 26 [(0, (2, x0)), (1, (0, x1)), (2, (0, x2)), (3, (0, x3))] [(0, x4)] | 2 => bJ κ s0 66 [(0, (2, x0)), (1, (0, x1)), (4, (2, x2)), (5, (2, x3))] [(0, x4)] | _ => True) ?_ b x2 x3 x4 s0 _ h rfl
  intro f' ih b x2 x3 x4 s0 r h hr
  subst hr
  match b, h with
  | 0, h =>
      refine r_iconst hκ dX0_lambda_turned_11_25 ?_
      exact r_sub [0, 1, 2, 3] rfl (ih 1 _ _ _ _ _ h rfl)
  | 1, h =>
      refine r_bipush hκ (by decide) dX0_lambda_turned_11_26 ?_
      obtain ⟨s4, v4, v5, h7, h⟩ := bclx_i h
      refine r_seq (A := (v5 = -1 → bJ κ s4 31 [(0, (2, x0)), (1, (0, x1)), (2, (0, x2)), (3, (0, x3))] []) ∧ (¬ v5 = -1 → bT κ s4 28 [(0, (2, x0)), (1, (0, x1)), (2, (0, x2)), (3, (0, x3))] v4 v5)) ⟨fun h8 => ?_, fun h8 => ?_⟩ (fun k0 => r_xcallS hκ (n' := 2) (index := 196) (w_X0_may Γ0 l0 h7) (lw_S q799 q800 q121 q801) (by decide +kernel) rfl (by decide) rfl (Nat.le_of_ble_eq_true rfl) dX0_lambda_turned_11_28 (r_xj1 k0.1) (r_xj2 k0.2))
      · replace h := (bte_i h).1 h8
        refine r_aload_n hκ 0 rfl rfl dX0_lambda_turned_11_31 ?_
        refine r_iload_n hκ 2 rfl rfl dX0_lambda_turned_11_32 ?_
        obtain ⟨h10, h⟩ := bck_i h
        obtain ⟨s5, v6, v7, h9, h⟩ := bclx_i h
        refine r_seq (A := (v7 = -1 → bJ κ s5 36 [(0, (2, x0)), (1, (0, x1)), (2, (0, x2)), (3, (0, x3))] [(2, v6)]) ∧ (¬ v7 = -1 → bT κ s5 33 [(0, (2, x0)), (1, (0, x1)), (2, (0, x2)), (3, (0, x3))] v6 v7)) ⟨fun h11 => ?_, fun h11 => ?_⟩ (fun k0 => r_xcallV hκ (n' := 1) (index := 58) (w_X0_present Γ0 l0 h9) (lw_V q802 q804 qs5 q121 q805) (by decide +kernel) (t := 0) h10 rfl rfl (by decide) rfl (Nat.le_of_ble_eq_true rfl) dX0_lambda_turned_11_33 (r_xj1 k0.1) (r_xj2 k0.2))
        · replace h := (bte_i h).1 h11
          refine r_astore hκ (L2 := [(4, (2, v6)), (0, (2, x0)), (1, (0, x1)), (2, (0, x2)), (3, (0, x3))]) (by decide) rfl dX0_lambda_turned_11_36 ?_
          refine r_aload_n hκ 1 rfl rfl dX0_lambda_turned_11_38 ?_
          obtain ⟨h12, h⟩ := bck_i h
          refine r_get hκ (t := 0) (k := 0) (r := 34) h12 rfl in_X0 (by decide) rfl q573 (Or.inl rfl) dX0_lambda_turned_11_39 ?_
          refine r_iload_n hκ 4 rfl rfl dX0_lambda_turned_11_42 ?_
          obtain ⟨h13, h⟩ := bck_i h
          obtain ⟨s6, v8, h14, h⟩ := bcl_i h
          refine r_callV hκ (n' := 1) (index := 396) (w_X1_text Γ0 l0 h14) (lw_V q2162 q2163 q2164 q122 q2165) (by decide +kernel) (t := 1) h13 rfl rfl (by decide) rfl (Nat.le_of_ble_eq_true rfl) dX0_lambda_turned_11_43 ?_
          refine r_astore hκ (L2 := [(5, (2, v8)), (4, (2, v6)), (0, (2, x0)), (1, (0, x1)), (2, (0, x2)), (3, (0, x3))]) (by decide) rfl dX0_lambda_turned_11_46 ?_
          refine r_aload hκ 1 rfl dX0_lambda_turned_11_48 ?_
          obtain ⟨h15, h⟩ := bck_i h
          obtain ⟨s7, v9, h16, h⟩ := bcl_i h
          refine r_callV hκ (n' := 0) (index := 182) (w_X8_from Γ0 l0 h16) (lw_V q1561 q1562 q1563 q140 q1564) (by decide +kernel) (t := 6) h15 rfl rfl (by decide) rfl (Nat.le_of_ble_eq_true rfl) dX0_lambda_turned_11_50 ?_
          refine r_aload hκ 0 rfl dX0_lambda_turned_11_53 ?_
          obtain ⟨h17, h⟩ := bck_i h
          obtain ⟨s8, v10, h18, h⟩ := bcl_i h
          refine r_callV hκ (n' := 0) (index := 245) (w_X2_length Γ0 l0 h18) (lw_V q2166 q2167 q2168 q123 q2169) (by decide +kernel) (t := 2) h17 rfl rfl (by decide) rfl (Nat.le_of_ble_eq_true rfl) dX0_lambda_turned_11_55 ?_
          refine r_icmp_ne hκ (tgt := 65) (by decide) dX0_lambda_turned_11_58 (fun h19 => ?_) (fun h19 => ?_)
          · replace h := (bte_i h).2 h19
            refine r_iconst hκ dX0_lambda_turned_11_65 ?_
            exact r_sub [2, 3, 1, 0] rfl (ih 2 _ _ _ _ _ h rfl)
          · replace h := (bte_i h).1 h19
            refine r_iconst hκ dX0_lambda_turned_11_61 ?_
            refine r_goto hκ (tgt := 66) (by decide) dX0_lambda_turned_11_62 ?_
            exact r_sub [2, 3, 1, 0] rfl (ih 2 _ _ _ _ _ h rfl)
        · replace h := (bte_i h).2 h11
          exact r_xout hκ ht hf (by decide) (x_P h)
      · replace h := (bte_i h).2 h8
        exact r_xout hκ ht hf (by decide) (x_P h)
  | 2, h =>
      refine r_bipush hκ (by decide) dX0_lambda_turned_11_66 ?_
      obtain ⟨s9, v11, v12, h20, h⟩ := bclx_i h
      refine r_seq (A := (v12 = -1 → bJ κ s9 71 [(0, (2, x0)), (1, (0, x1)), (4, (2, x2)), (5, (2, x3))] []) ∧ (¬ v12 = -1 → bT κ s9 68 [(0, (2, x0)), (1, (0, x1)), (4, (2, x2)), (5, (2, x3))] v11 v12)) ⟨fun h21 => ?_, fun h21 => ?_⟩ (fun k0 => r_xcallS hκ (n' := 2) (index := 196) (w_X0_may Γ0 l0 h20) (lw_S q799 q800 q121 q801) (by decide +kernel) rfl (by decide) rfl (Nat.le_of_ble_eq_true rfl) dX0_lambda_turned_11_68 (r_xj1 k0.1) (r_xj2 k0.2))
      · replace h := (bte_i h).1 h21
        refine r_aload_n hκ 0 rfl rfl dX0_lambda_turned_11_71 ?_
        refine r_iload_n hκ 1 rfl rfl dX0_lambda_turned_11_72 ?_
        refine r_aload hκ 3 rfl dX0_lambda_turned_11_73 ?_
        obtain ⟨h22, h⟩ := bck_i h
        refine r_new hκ (t := 6) tyX8 tyX8_ok dfX8 rfl in_X8 q560 q395 q140 h22 dX0_lambda_turned_11_75 (fun s10 es10 => ?_)
        replace h := bst_i h s10 es10
        refine r_dup hκ (bd_cat2k _) dX0_lambda_turned_11_78 ?_
        obtain ⟨h23, h⟩ := bck_i h
        obtain ⟨s11, v13, h24, h⟩ := bcl_i h
        refine r_callIN hκ (n' := 0) (host := "EditsMeet") (index := 498) (w_X8_init Γ0 l0 h24) (lw_meth q398) (by decide +kernel) q140 (by decide +kernel) q397 rfl (t := 6) h23 rfl rfl (by decide) rfl (Nat.le_of_ble_eq_true rfl) dX0_lambda_turned_11_79 ?_
        refine r_aload hκ 2 rfl dX0_lambda_turned_11_82 ?_
        obtain ⟨h25, h⟩ := bck_i h
        obtain ⟨s12, v14, h26, h⟩ := bcl_i h
        refine r_callV hκ (n' := 2) (index := 499) (w_X2_turned Γ0 l0 h26) (lw_V q2171 q2172 q2173 q123 q2174) (by decide +kernel) (t := 2) h25 rfl rfl (by decide) rfl (Nat.le_of_ble_eq_true rfl) dX0_lambda_turned_11_84 ?_
        obtain ⟨h28, h⟩ := bck_i h
        obtain ⟨s13, v15, v16, h27, h⟩ := bclx_i h
        refine r_seq (A := (v16 = -1 → bJ κ s13 90 [(0, (2, x0)), (1, (0, x1)), (4, (2, x2)), (5, (2, x3))] [(0, v15)]) ∧ (¬ v16 = -1 → bT κ s13 87 [(0, (2, x0)), (1, (0, x1)), (4, (2, x2)), (5, (2, x3))] v15 v16)) ⟨fun h29 => ?_, fun h29 => ?_⟩ (fun k0 => r_xcallV hκ (n' := 2) (index := 503) (w_X0_fits Γ0 l0 h27) (lw_V q2128 q2130 qs31 q121 q2131) (by decide +kernel) (t := 0) h28 rfl rfl (by decide) rfl (Nat.le_of_ble_eq_true rfl) dX0_lambda_turned_11_87 (r_xj1 k0.1) (r_xj2 k0.2))
        · replace h := (bte_i h).1 h29
          exact x_ret hκ hf (x_P h) (fun κ hκ hf => r_iret hκ hf (nar_int _) dX0_lambda_turned_11_90)
        · replace h := (bte_i h).2 h29
          exact r_xout hκ ht hf (by decide) (x_P h)
      · replace h := (bte_i h).2 h21
        exact r_xout hκ ht hf (by decide) (x_P h)
  | b + 3, h => trivial
set_option maxHeartbeats 4000000 in
set_option maxRecDepth 100000 in
theorem w_X0_lambda_turned_11 (Γ0 : bG) (l0 : Launch) {s0 st' : bS} {v xx a0 a1 a2 a3 : Int} (h : F_X0_lambda_turned_11 s0 a0 a1 a2 a3 = some (st', v, xx)) : bCx Γ0 l0 yX0_lambda_turned_11 (ws_ yX0_lambda_turned_11 cX0_lambda_turned_11 6 (some .int)) 12 3122 (some 0) [(2, a0), (0, a1), (0, a2), (0, a3)] s0 (bEq st' v xx) := by
  refine xb_ent (own := RX0) (by decide +kernel) rfl (Nat.le_of_ble_eq_true rfl) (L := [(0, (2, a0)), (1, (0, a1)), (2, (0, a2)), (3, (0, a3))]) rfl ?_
  intro κ hκ hi ht hf
  unfold F_X0_lambda_turned_11 at h
  refine r_iload_n hκ 1 rfl rfl dX0_lambda_turned_11_0 ?_
  obtain ⟨s1, v1, h1, h⟩ := bcl_i h
  refine r_callS hκ (n' := 1) (index := 49) (w_X0_isEdit Γ0 l0 h1) (lw_S q796 q797 q121 q798) (by decide +kernel) rfl (by decide) rfl (Nat.le_of_ble_eq_true rfl) dX0_lambda_turned_11_1 ?_
  refine r_if_eq hκ (tgt := 25) (by decide) dX0_lambda_turned_11_4 (fun h2 => ?_) (fun h2 => ?_)
  · replace h := (bte_i h).1 h2
    exact r_sub [0, 1, 2, 3] rfl (w_X0_lambda_turned_11_r hκ hi ht hf 0 _ _ _ _ _ _ h)
  · replace h := (bte_i h).2 h2
    refine r_iload_n hκ 2 rfl rfl dX0_lambda_turned_11_7 ?_
    obtain ⟨s2, v2, h3, h⟩ := bcl_i h
    refine r_callS hκ (n' := 1) (index := 49) (w_X0_isEdit Γ0 l0 h3) (lw_S q796 q797 q121 q798) (by decide +kernel) rfl (by decide) rfl (Nat.le_of_ble_eq_true rfl) dX0_lambda_turned_11_8 ?_
    refine r_if_eq hκ (tgt := 25) (by decide) dX0_lambda_turned_11_11 (fun h4 => ?_) (fun h4 => ?_)
    · replace h := (bte_i h).1 h4
      exact r_sub [0, 1, 2, 3] rfl (w_X0_lambda_turned_11_r hκ hi ht hf 0 _ _ _ _ _ _ h)
    · replace h := (bte_i h).2 h4
      refine r_iload_n hκ 3 rfl rfl dX0_lambda_turned_11_14 ?_
      obtain ⟨s3, v3, h5, h⟩ := bcl_i h
      refine r_callS hκ (n' := 1) (index := 62) (w_X0_isClient Γ0 l0 h5) (lw_S q2159 q2160 q121 q2161) (by decide +kernel) rfl (by decide) rfl (Nat.le_of_ble_eq_true rfl) dX0_lambda_turned_11_15 ?_
      refine r_if_eq hκ (tgt := 25) (by decide) dX0_lambda_turned_11_18 (fun h6 => ?_) (fun h6 => ?_)
      · replace h := (bte_i h).1 h6
        exact r_sub [0, 1, 2, 3] rfl (w_X0_lambda_turned_11_r hκ hi ht hf 0 _ _ _ _ _ _ h)
      · replace h := (bte_i h).2 h6
        refine r_iconst hκ dX0_lambda_turned_11_21 ?_
        refine r_goto hκ (tgt := 26) (by decide) dX0_lambda_turned_11_22 ?_
        exact r_sub [0, 1, 2, 3] rfl (w_X0_lambda_turned_11_r hκ hi ht hf 1 _ _ _ _ _ _ h)
/-- EditsMeet.areLike(LEditsMeet$Part;LEditsMeet$Part;)Z -/
def F_X0_areLike_r (b : Nat) (x0 x1 x2 : Int) (s0 : bS) : Option (bS × Int) :=
  match b with
  | 0 =>
    F_X0_areLike_r 1 x0 x1 0 s0
  | 1 =>
    bte (i32 x2 = 0)
    (some (s0, 0))
    (bte (bg s0 0 x0 0 = 16) (bck (x0 < 0 ∨ bg s0 0 x0 0 = 16) <|
    bck (bg s0 0 x0 0 = 16) <|
    bck (x1 < 0 ∨ bg s0 0 x1 0 = 16) <|
    bck (bg s0 0 x1 0 = 16) <|
    bck (bg s0 0 (bg s0 386 x0 0) 0 = 20) <|
    bcl (F_J2_equals s0 (bg s0 386 x0 0) (bg s0 386 x1 0)) fun s9 v9 =>
    bte (i32 v9 = 0)
    (some (s9, 0))
    (bck (bg s9 0 x0 0 = 16) <|
    bck (x1 < 0 ∨ bg s9 0 x1 0 = 16) <|
    bck (bg s9 0 x1 0 = 16) <|
    bck (bg s9 0 (bg s9 390 x0 0) 0 = 20) <|
    bcl (F_J2_equals s9 (bg s9 390 x0 0) (bg s9 390 x1 0)) fun s10 v10 =>
    bte (i32 v10 = 0)
    (some (s10, 0))
    (some (s10, 1)))) (bck (x0 < 0 ∨ bg s0 0 x0 0 = 6 ∨ bg s0 0 x0 0 = 15 ∨ bg s0 0 x0 0 = 17) <| some (s0, 1)))
  | _ => none
partial_fixpoint
def F_X0_areLike (s0 : bS) (a0 a1 : Int) : Option (bS × Int) :=
  bcl (bte (bg s0 0 a0 0 = 6) (F_X7_kind s0 a0) (bte (bg s0 0 a0 0 = 15) (F_X16_kind s0 a0) (bte (bg s0 0 a0 0 = 16) (F_X17_kind s0 a0) (bte (bg s0 0 a0 0 = 17) (F_X18_kind s0 a0) (none))))) fun s1 v1 =>
  bcl (bte (bg s1 0 a1 0 = 6) (F_X7_kind s1 a1) (bte (bg s1 0 a1 0 = 15) (F_X16_kind s1 a1) (bte (bg s1 0 a1 0 = 16) (F_X17_kind s1 a1) (bte (bg s1 0 a1 0 = 17) (F_X18_kind s1 a1) (none))))) fun s2 v2 =>
  bte (i32 v1 = i32 v2)
  (bcl (bte (bg s2 0 a0 0 = 6) (F_X6_n s2 a0) (bte (bg s2 0 a0 0 = 15) (F_X6_n s2 a0) (bte (bg s2 0 a0 0 = 16) (F_X17_n s2 a0) (bte (bg s2 0 a0 0 = 17) (F_X6_n s2 a0) (none))))) fun s3 v3 =>
  bcl (bte (bg s3 0 a1 0 = 6) (F_X6_n s3 a1) (bte (bg s3 0 a1 0 = 15) (F_X6_n s3 a1) (bte (bg s3 0 a1 0 = 16) (F_X17_n s3 a1) (bte (bg s3 0 a1 0 = 17) (F_X6_n s3 a1) (none))))) fun s4 v4 =>
  bte (i32 v3 = i32 v4)
  (bcl (bte (bg s4 0 a0 0 = 6) (F_X5_on s4 a0) (bte (bg s4 0 a0 0 = 15) (F_X5_on s4 a0) (bte (bg s4 0 a0 0 = 16) (F_X5_on s4 a0) (bte (bg s4 0 a0 0 = 17) (F_X18_on s4 a0) (none))))) fun s5 v5 =>
  bcl (bte (bg s5 0 a1 0 = 6) (F_X5_on s5 a1) (bte (bg s5 0 a1 0 = 15) (F_X5_on s5 a1) (bte (bg s5 0 a1 0 = 16) (F_X5_on s5 a1) (bte (bg s5 0 a1 0 = 17) (F_X18_on s5 a1) (none))))) fun s6 v6 =>
  bte (i32 v5 = i32 v6)
  (bcl (bte (bg s6 0 a0 0 = 6) (F_X5_off s6 a0) (bte (bg s6 0 a0 0 = 15) (F_X5_off s6 a0) (bte (bg s6 0 a0 0 = 16) (F_X5_off s6 a0) (bte (bg s6 0 a0 0 = 17) (F_X18_off s6 a0) (none))))) fun s7 v7 =>
  bcl (bte (bg s7 0 a1 0 = 6) (F_X5_off s7 a1) (bte (bg s7 0 a1 0 = 15) (F_X5_off s7 a1) (bte (bg s7 0 a1 0 = 16) (F_X5_off s7 a1) (bte (bg s7 0 a1 0 = 17) (F_X18_off s7 a1) (none))))) fun s8 v8 =>
  bte (i32 v7 = i32 v8)
  (F_X0_areLike_r 1 a0 a1 1 s8)
  (F_X0_areLike_r 0 a0 a1 0 s8))
  (F_X0_areLike_r 0 a0 a1 0 s6))
  (F_X0_areLike_r 0 a0 a1 0 s4))
  (F_X0_areLike_r 0 a0 a1 0 s2)
set_option maxHeartbeats 4000000 in
set_option maxRecDepth 100000 in
set_option synthInstance.maxHeartbeats 4000000 in
theorem w_X0_areLike_r {Γ0 : bG} {l0 : Launch} {κ : bK} {st' : bS} {v : Int} (hκ : bOk κ Γ0 l0 cX0_areLike RX0 4 3 60) (hi : bIn κ yX0_areLike) (hf : bFin κ (some .boolean) st' (some (0, v))) (b : Nat) (x0 x1 x2 : Int) (s0 : bS) (h : F_X0_areLike_r b x0 x1 x2 s0 = some (st', v)) : match (generalizing := false) b with | 0 => bJ κ s0 64 [(0, (2, x0)), (1, (2, x1))] [] | 1 => bJ κ s0 65 [(0, (2, x0)), (1, (2, x1))] [(0, x2)] | _ => True := by
  refine F_X0_areLike_r.partial_correctness x0 x1 s0 (fun b x2 r => r = (st', v) → match (generalizing := false) b with | 0 => bJ κ s0 64 [(0, (2, x0)), (1, (2, x1))] [] | 1 => bJ κ s0 65 [(0, (2, x0)), (1, (2, x1))] [(0, x2)] | _ => True) ?_ b x2 _ h rfl
  intro f' ih b x2 r h hr
  subst hr
  match b, h with
  | 0, h =>
      refine r_iconst hκ dX0_areLike_64 ?_
      exact r_sub [0, 1] rfl (ih 1 _ _ h rfl)
  | 1, h =>
      refine r_istore_n hκ (L2 := [(2, (0, x2)), (0, (2, x0)), (1, (2, x1))]) (by decide) rfl rfl dX0_areLike_65 ?_
      refine r_iload_n hκ 0 rfl rfl dX0_areLike_66 ?_
      refine r_if_eq hκ (tgt := 120) (by decide) dX0_areLike_67 (fun h45 => ?_) (fun h45 => ?_)
      · replace h := (bte_i h).1 h45
        refine r_iconst hκ dX0_areLike_120 ?_
        exact r_iretH hκ hf h (nar_bool (by decide)) dX0_areLike_121
      · replace h := (bte_i h).2 h45
        refine r_aload_n hκ 1 rfl rfl dX0_areLike_70 ?_
        by_cases h46 : bg s0 0 x0 0 = 16
        · replace h := (bte_i h).1 h46
          refine r_instGY hκ q886 (⟨16, _, h46, by decide, rfl, Or.inl (by decide +kernel)⟩) dX0_areLike_71 ?_
          refine r_if_eq hκ (tgt := 116) (by decide) dX0_areLike_74 (fun hc => absurd hc (by decide)) (fun _ => ?_)
          refine r_aload_n hκ 1 rfl rfl dX0_areLike_77 ?_
          obtain ⟨h48, h⟩ := bck_i h
          refine r_cast hκ q886 (Or.elim h48 (fun h48 => Or.inl h48) (fun h48 => Or.inr ⟨15, _, h48, rfl, Or.inl rfl⟩)) dX0_areLike_78 ?_
          refine r_astore_n hκ (L2 := [(3, (2, x0)), (2, (0, x2)), (0, (2, x0)), (1, (2, x1))]) (by decide) rfl rfl dX0_areLike_81 ?_
          refine r_aload_n hκ 0 rfl rfl dX0_areLike_82 ?_
          obtain ⟨h49, h⟩ := bck_i h
          refine r_getN hκ (ref := "EditsMeet$Insert") (host := "EditsMeet") (t := 15) (k := 0) (r := 386) h49 rfl in_X17 (by decide) rfl (by decide) rfl dX0_areLike_83 ?_
          refine r_aload_n hκ 3 rfl rfl dX0_areLike_86 ?_
          obtain ⟨h50, h⟩ := bck_i h
          refine r_cast hκ q886 (Or.elim h50 (fun h50 => Or.inl h50) (fun h50 => Or.inr ⟨15, _, h50, rfl, Or.inl rfl⟩)) dX0_areLike_87 ?_
          obtain ⟨h51, h⟩ := bck_i h
          refine r_getN hκ (ref := "EditsMeet$Insert") (host := "EditsMeet") (t := 15) (k := 0) (r := 386) h51 rfl in_X17 (by decide) rfl (by decide) rfl dX0_areLike_90 ?_
          obtain ⟨h52, h⟩ := bck_i h
          obtain ⟨s9, v9, h53, h⟩ := bcl_i h
          refine r_callV hκ (n' := 1) (index := 235) (w_J2_equals Γ0 l0 h53) (lw_V q2232 q1232 q1233 q126 q1234) (by decide +kernel) (t := 19) h52 rfl rfl (by decide) rfl (Nat.le_of_ble_eq_true rfl) dX0_areLike_93 ?_
          refine r_if_eq hκ (tgt := 120) (by decide) dX0_areLike_96 (fun h54 => ?_) (fun h54 => ?_)
          · replace h := (bte_i h).1 h54
            refine r_iconst hκ dX0_areLike_120 ?_
            exact r_iretH hκ hf h (nar_bool (by decide)) dX0_areLike_121
          · replace h := (bte_i h).2 h54
            refine r_aload_n hκ 0 rfl rfl dX0_areLike_99 ?_
            obtain ⟨h55, h⟩ := bck_i h
            refine r_getN hκ (ref := "EditsMeet$Insert") (host := "EditsMeet") (t := 15) (k := 1) (r := 390) h55 rfl in_X17 (by decide) rfl (by decide) rfl dX0_areLike_100 ?_
            refine r_aload_n hκ 3 rfl rfl dX0_areLike_103 ?_
            obtain ⟨h56, h⟩ := bck_i h
            refine r_cast hκ q886 (Or.elim h56 (fun h56 => Or.inl h56) (fun h56 => Or.inr ⟨15, _, h56, rfl, Or.inl rfl⟩)) dX0_areLike_104 ?_
            obtain ⟨h57, h⟩ := bck_i h
            refine r_getN hκ (ref := "EditsMeet$Insert") (host := "EditsMeet") (t := 15) (k := 1) (r := 390) h57 rfl in_X17 (by decide) rfl (by decide) rfl dX0_areLike_107 ?_
            obtain ⟨h58, h⟩ := bck_i h
            obtain ⟨s10, v10, h59, h⟩ := bcl_i h
            refine r_callV hκ (n' := 1) (index := 235) (w_J2_equals Γ0 l0 h59) (lw_V q2232 q1232 q1233 q126 q1234) (by decide +kernel) (t := 19) h58 rfl rfl (by decide) rfl (Nat.le_of_ble_eq_true rfl) dX0_areLike_110 ?_
            refine r_if_eq hκ (tgt := 120) (by decide) dX0_areLike_113 (fun h60 => ?_) (fun h60 => ?_)
            · replace h := (bte_i h).1 h60
              refine r_iconst hκ dX0_areLike_120 ?_
              exact r_iretH hκ hf h (nar_bool (by decide)) dX0_areLike_121
            · replace h := (bte_i h).2 h60
              refine r_iconst hκ dX0_areLike_116 ?_
              refine r_goto hκ (tgt := 121) (by decide) dX0_areLike_117 ?_
              exact r_iretH hκ hf h (nar_bool (by decide)) dX0_areLike_121
        · replace h := (bte_i h).2 h46
          obtain ⟨h47, h⟩ := bck_i h
          refine r_instGN hκ q886 (Or.elim h47 (fun h47 => Or.inl h47) (fun h47 => Or.elim h47 (fun h47 => Or.inr ⟨6, _, h47, by decide, rfl, by decide +kernel⟩) (fun h47 => Or.elim h47 (fun h47 => Or.inr ⟨15, _, h47, by decide, rfl, by decide +kernel⟩) (fun h47 => Or.inr ⟨17, _, h47, by decide, rfl, by decide +kernel⟩)))) dX0_areLike_71 ?_
          refine r_if_eq hκ (tgt := 116) (by decide) dX0_areLike_74 (fun _ => ?_) (fun hc => absurd hc (by decide))
          refine r_iconst hκ dX0_areLike_116 ?_
          refine r_goto hκ (tgt := 121) (by decide) dX0_areLike_117 ?_
          exact r_iretH hκ hf h (nar_bool (by decide)) dX0_areLike_121
  | b + 2, h => trivial
set_option maxHeartbeats 4000000 in
set_option maxRecDepth 100000 in
theorem w_X0_areLike (Γ0 : bG) (l0 : Launch) {s0 st' : bS} {v a0 a1 : Int} (h : F_X0_areLike s0 a0 a1 = some (st', v)) : bCt Γ0 l0 yX0_areLike cX0_areLike 4 (some .boolean) 3 60 [(2, a0), (2, a1)] s0 st' (some (0, v)) := by
  refine b_ent (own := RX0) (by decide +kernel) rfl (Nat.le_of_ble_eq_true rfl) (L := [(0, (2, a0)), (1, (2, a1))]) rfl ?_
  intro κ hκ hi hf
  unfold F_X0_areLike at h
  refine r_aload_n hκ 0 rfl rfl dX0_areLike_0 ?_
  obtain ⟨s1, v1, h1, h⟩ := bcl_i h
  refine r_seq (A := bJ κ s1 6 [(0, (2, a0)), (1, (2, a1))] [(0, v1)]) ?_ (fun k0 => ?_)
  case refine_2 =>
    by_cases h2 : bg s0 0 a0 0 = 6
    · have hq0 := (bte_i h1).1 h2
      exact r_callF hκ (n' := 0) (index := 136) (C := "EditsMeet$Keep") (w_X7_kind Γ0 l0 hq0) (lw_app (lw_l4 q756 q776 q778 q139) (lw_meth q780)) (by decide +kernel) (by decide +kernel) (t := 5) h2 rfl rfl (by decide) rfl (Nat.le_of_ble_eq_true rfl) dX0_areLike_1 k0
    replace h1 := (bte_i h1).2 h2
    by_cases h3 : bg s0 0 a0 0 = 15
    · have hq0 := (bte_i h1).1 h3
      exact r_callF hκ (n' := 0) (index := 136) (C := "EditsMeet$Delete") (w_X16_kind Γ0 l0 hq0) (lw_app (lw_l4 q756 q760 q762 q164) (lw_meth q764)) (by decide +kernel) (by decide +kernel) (t := 14) h3 rfl rfl (by decide) rfl (Nat.le_of_ble_eq_true rfl) dX0_areLike_1 k0
    replace h1 := (bte_i h1).2 h3
    by_cases h4 : bg s0 0 a0 0 = 16
    · have hq0 := (bte_i h1).1 h4
      exact r_callF hκ (n' := 0) (index := 136) (C := "EditsMeet$Insert") (w_X17_kind Γ0 l0 hq0) (lw_app (lw_l4 q756 q770 q772 q165) (lw_meth q774)) (by decide +kernel) (by decide +kernel) (t := 15) h4 rfl rfl (by decide) rfl (Nat.le_of_ble_eq_true rfl) dX0_areLike_1 k0
    replace h1 := (bte_i h1).2 h4
    by_cases h5 : bg s0 0 a0 0 = 17
    · have hq0 := (bte_i h1).1 h5
      exact r_callF hκ (n' := 0) (index := 136) (C := "EditsMeet$Mark") (w_X18_kind Γ0 l0 hq0) (lw_app (lw_l4 q756 q782 q784 q166) (lw_meth q786)) (by decide +kernel) (by decide +kernel) (t := 16) h5 rfl rfl (by decide) rfl (Nat.le_of_ble_eq_true rfl) dX0_areLike_1 k0
    replace h1 := (bte_i h1).2 h5
    cases h1
  refine r_aload_n hκ 1 rfl rfl dX0_areLike_6 ?_
  obtain ⟨s2, v2, h6, h⟩ := bcl_i h
  refine r_seq (A := bJ κ s2 12 [(0, (2, a0)), (1, (2, a1))] [(0, v2), (0, v1)]) ?_ (fun k0 => ?_)
  case refine_2 =>
    by_cases h7 : bg s1 0 a1 0 = 6
    · have hq0 := (bte_i h6).1 h7
      exact r_callF hκ (n' := 0) (index := 136) (C := "EditsMeet$Keep") (w_X7_kind Γ0 l0 hq0) (lw_app (lw_l4 q756 q776 q778 q139) (lw_meth q780)) (by decide +kernel) (by decide +kernel) (t := 5) h7 rfl rfl (by decide) rfl (Nat.le_of_ble_eq_true rfl) dX0_areLike_7 k0
    replace h6 := (bte_i h6).2 h7
    by_cases h8 : bg s1 0 a1 0 = 15
    · have hq0 := (bte_i h6).1 h8
      exact r_callF hκ (n' := 0) (index := 136) (C := "EditsMeet$Delete") (w_X16_kind Γ0 l0 hq0) (lw_app (lw_l4 q756 q760 q762 q164) (lw_meth q764)) (by decide +kernel) (by decide +kernel) (t := 14) h8 rfl rfl (by decide) rfl (Nat.le_of_ble_eq_true rfl) dX0_areLike_7 k0
    replace h6 := (bte_i h6).2 h8
    by_cases h9 : bg s1 0 a1 0 = 16
    · have hq0 := (bte_i h6).1 h9
      exact r_callF hκ (n' := 0) (index := 136) (C := "EditsMeet$Insert") (w_X17_kind Γ0 l0 hq0) (lw_app (lw_l4 q756 q770 q772 q165) (lw_meth q774)) (by decide +kernel) (by decide +kernel) (t := 15) h9 rfl rfl (by decide) rfl (Nat.le_of_ble_eq_true rfl) dX0_areLike_7 k0
    replace h6 := (bte_i h6).2 h9
    by_cases h10 : bg s1 0 a1 0 = 17
    · have hq0 := (bte_i h6).1 h10
      exact r_callF hκ (n' := 0) (index := 136) (C := "EditsMeet$Mark") (w_X18_kind Γ0 l0 hq0) (lw_app (lw_l4 q756 q782 q784 q166) (lw_meth q786)) (by decide +kernel) (by decide +kernel) (t := 16) h10 rfl rfl (by decide) rfl (Nat.le_of_ble_eq_true rfl) dX0_areLike_7 k0
    replace h6 := (bte_i h6).2 h10
    cases h6
  refine r_icmp_ne hκ (tgt := 64) (by decide) dX0_areLike_12 (fun h11 => ?_) (fun h11 => ?_)
  · replace h := (bte_i h).2 h11
    exact r_sub [0, 1] rfl (w_X0_areLike_r hκ hi hf 0 _ _ _ _ h)
  · replace h := (bte_i h).1 h11
    refine r_aload_n hκ 0 rfl rfl dX0_areLike_15 ?_
    obtain ⟨s3, v3, h12, h⟩ := bcl_i h
    refine r_seq (A := bJ κ s3 21 [(0, (2, a0)), (1, (2, a1))] [(0, v3)]) ?_ (fun k0 => ?_)
    case refine_2 =>
      by_cases h13 : bg s2 0 a0 0 = 6
      · have hq0 := (bte_i h12).1 h13
        exact r_callF hκ (n' := 0) (index := 145) (C := "EditsMeet$Keep") (w_X6_n Γ0 l0 hq0) (lw_app (lw_l4 q860 q882 q865 q138) (lw_meth q867)) (by decide +kernel) (by decide +kernel) (t := 5) h13 rfl rfl (by decide) rfl (Nat.le_of_ble_eq_true rfl) dX0_areLike_16 k0
      replace h12 := (bte_i h12).2 h13
      by_cases h14 : bg s2 0 a0 0 = 15
      · have hq0 := (bte_i h12).1 h14
        exact r_callF hκ (n' := 0) (index := 145) (C := "EditsMeet$Delete") (w_X6_n Γ0 l0 hq0) (lw_app (lw_l4 q860 q863 q865 q138) (lw_meth q867)) (by decide +kernel) (by decide +kernel) (t := 14) h14 rfl rfl (by decide) rfl (Nat.le_of_ble_eq_true rfl) dX0_areLike_16 k0
      replace h12 := (bte_i h12).2 h14
      by_cases h15 : bg s2 0 a0 0 = 16
      · have hq0 := (bte_i h12).1 h15
        exact r_callF hκ (n' := 0) (index := 145) (C := "EditsMeet$Insert") (w_X17_n Γ0 l0 hq0) (lw_app (lw_l4 q860 q868 q870 q165) (lw_meth q872)) (by decide +kernel) (by decide +kernel) (t := 15) h15 rfl rfl (by decide) rfl (Nat.le_of_ble_eq_true rfl) dX0_areLike_16 k0
      replace h12 := (bte_i h12).2 h15
      by_cases h16 : bg s2 0 a0 0 = 17
      · have hq0 := (bte_i h12).1 h16
        exact r_callF hκ (n' := 0) (index := 145) (C := "EditsMeet$Mark") (w_X6_n Γ0 l0 hq0) (lw_app (lw_l4 q860 q884 q865 q138) (lw_meth q867)) (by decide +kernel) (by decide +kernel) (t := 16) h16 rfl rfl (by decide) rfl (Nat.le_of_ble_eq_true rfl) dX0_areLike_16 k0
      replace h12 := (bte_i h12).2 h16
      cases h12
    refine r_aload_n hκ 1 rfl rfl dX0_areLike_21 ?_
    obtain ⟨s4, v4, h17, h⟩ := bcl_i h
    refine r_seq (A := bJ κ s4 27 [(0, (2, a0)), (1, (2, a1))] [(0, v4), (0, v3)]) ?_ (fun k0 => ?_)
    case refine_2 =>
      by_cases h18 : bg s3 0 a1 0 = 6
      · have hq0 := (bte_i h17).1 h18
        exact r_callF hκ (n' := 0) (index := 145) (C := "EditsMeet$Keep") (w_X6_n Γ0 l0 hq0) (lw_app (lw_l4 q860 q882 q865 q138) (lw_meth q867)) (by decide +kernel) (by decide +kernel) (t := 5) h18 rfl rfl (by decide) rfl (Nat.le_of_ble_eq_true rfl) dX0_areLike_22 k0
      replace h17 := (bte_i h17).2 h18
      by_cases h19 : bg s3 0 a1 0 = 15
      · have hq0 := (bte_i h17).1 h19
        exact r_callF hκ (n' := 0) (index := 145) (C := "EditsMeet$Delete") (w_X6_n Γ0 l0 hq0) (lw_app (lw_l4 q860 q863 q865 q138) (lw_meth q867)) (by decide +kernel) (by decide +kernel) (t := 14) h19 rfl rfl (by decide) rfl (Nat.le_of_ble_eq_true rfl) dX0_areLike_22 k0
      replace h17 := (bte_i h17).2 h19
      by_cases h20 : bg s3 0 a1 0 = 16
      · have hq0 := (bte_i h17).1 h20
        exact r_callF hκ (n' := 0) (index := 145) (C := "EditsMeet$Insert") (w_X17_n Γ0 l0 hq0) (lw_app (lw_l4 q860 q868 q870 q165) (lw_meth q872)) (by decide +kernel) (by decide +kernel) (t := 15) h20 rfl rfl (by decide) rfl (Nat.le_of_ble_eq_true rfl) dX0_areLike_22 k0
      replace h17 := (bte_i h17).2 h20
      by_cases h21 : bg s3 0 a1 0 = 17
      · have hq0 := (bte_i h17).1 h21
        exact r_callF hκ (n' := 0) (index := 145) (C := "EditsMeet$Mark") (w_X6_n Γ0 l0 hq0) (lw_app (lw_l4 q860 q884 q865 q138) (lw_meth q867)) (by decide +kernel) (by decide +kernel) (t := 16) h21 rfl rfl (by decide) rfl (Nat.le_of_ble_eq_true rfl) dX0_areLike_22 k0
      replace h17 := (bte_i h17).2 h21
      cases h17
    refine r_icmp_ne hκ (tgt := 64) (by decide) dX0_areLike_27 (fun h22 => ?_) (fun h22 => ?_)
    · replace h := (bte_i h).2 h22
      exact r_sub [0, 1] rfl (w_X0_areLike_r hκ hi hf 0 _ _ _ _ h)
    · replace h := (bte_i h).1 h22
      refine r_aload_n hκ 0 rfl rfl dX0_areLike_30 ?_
      obtain ⟨s5, v5, h23, h⟩ := bcl_i h
      refine r_seq (A := bJ κ s5 36 [(0, (2, a0)), (1, (2, a1))] [(0, v5)]) ?_ (fun k0 => ?_)
      case refine_2 =>
        by_cases h24 : bg s4 0 a0 0 = 6
        · have hq0 := (bte_i h23).1 h24
          exact r_callFD hκ (n' := 0) (index := 229) (C := "EditsMeet$Keep") (w_X5_on Γ0 l0 hq0) (lw_meth q949) q1633 q947 q137 (by decide +kernel) (by decide +kernel) (t := 5) h24 rfl rfl (by decide) rfl (Nat.le_of_ble_eq_true rfl) dX0_areLike_31 k0
        replace h23 := (bte_i h23).2 h24
        by_cases h25 : bg s4 0 a0 0 = 15
        · have hq0 := (bte_i h23).1 h25
          exact r_callFD hκ (n' := 0) (index := 229) (C := "EditsMeet$Delete") (w_X5_on Γ0 l0 hq0) (lw_meth q949) q1633 q947 q137 (by decide +kernel) (by decide +kernel) (t := 14) h25 rfl rfl (by decide) rfl (Nat.le_of_ble_eq_true rfl) dX0_areLike_31 k0
        replace h23 := (bte_i h23).2 h25
        by_cases h26 : bg s4 0 a0 0 = 16
        · have hq0 := (bte_i h23).1 h26
          exact r_callFD hκ (n' := 0) (index := 229) (C := "EditsMeet$Insert") (w_X5_on Γ0 l0 hq0) (lw_meth q949) q1633 q947 q137 (by decide +kernel) (by decide +kernel) (t := 15) h26 rfl rfl (by decide) rfl (Nat.le_of_ble_eq_true rfl) dX0_areLike_31 k0
        replace h23 := (bte_i h23).2 h26
        by_cases h27 : bg s4 0 a0 0 = 17
        · have hq0 := (bte_i h23).1 h27
          exact r_callF hκ (n' := 0) (index := 229) (C := "EditsMeet$Mark") (w_X18_on Γ0 l0 hq0) (lw_app (lw_l4 q1633 q944 q945 q166) (lw_meth q946)) (by decide +kernel) (by decide +kernel) (t := 16) h27 rfl rfl (by decide) rfl (Nat.le_of_ble_eq_true rfl) dX0_areLike_31 k0
        replace h23 := (bte_i h23).2 h27
        cases h23
      refine r_aload_n hκ 1 rfl rfl dX0_areLike_36 ?_
      obtain ⟨s6, v6, h28, h⟩ := bcl_i h
      refine r_seq (A := bJ κ s6 42 [(0, (2, a0)), (1, (2, a1))] [(0, v6), (0, v5)]) ?_ (fun k0 => ?_)
      case refine_2 =>
        by_cases h29 : bg s5 0 a1 0 = 6
        · have hq0 := (bte_i h28).1 h29
          exact r_callFD hκ (n' := 0) (index := 229) (C := "EditsMeet$Keep") (w_X5_on Γ0 l0 hq0) (lw_meth q949) q1633 q947 q137 (by decide +kernel) (by decide +kernel) (t := 5) h29 rfl rfl (by decide) rfl (Nat.le_of_ble_eq_true rfl) dX0_areLike_37 k0
        replace h28 := (bte_i h28).2 h29
        by_cases h30 : bg s5 0 a1 0 = 15
        · have hq0 := (bte_i h28).1 h30
          exact r_callFD hκ (n' := 0) (index := 229) (C := "EditsMeet$Delete") (w_X5_on Γ0 l0 hq0) (lw_meth q949) q1633 q947 q137 (by decide +kernel) (by decide +kernel) (t := 14) h30 rfl rfl (by decide) rfl (Nat.le_of_ble_eq_true rfl) dX0_areLike_37 k0
        replace h28 := (bte_i h28).2 h30
        by_cases h31 : bg s5 0 a1 0 = 16
        · have hq0 := (bte_i h28).1 h31
          exact r_callFD hκ (n' := 0) (index := 229) (C := "EditsMeet$Insert") (w_X5_on Γ0 l0 hq0) (lw_meth q949) q1633 q947 q137 (by decide +kernel) (by decide +kernel) (t := 15) h31 rfl rfl (by decide) rfl (Nat.le_of_ble_eq_true rfl) dX0_areLike_37 k0
        replace h28 := (bte_i h28).2 h31
        by_cases h32 : bg s5 0 a1 0 = 17
        · have hq0 := (bte_i h28).1 h32
          exact r_callF hκ (n' := 0) (index := 229) (C := "EditsMeet$Mark") (w_X18_on Γ0 l0 hq0) (lw_app (lw_l4 q1633 q944 q945 q166) (lw_meth q946)) (by decide +kernel) (by decide +kernel) (t := 16) h32 rfl rfl (by decide) rfl (Nat.le_of_ble_eq_true rfl) dX0_areLike_37 k0
        replace h28 := (bte_i h28).2 h32
        cases h28
      refine r_icmp_ne hκ (tgt := 64) (by decide) dX0_areLike_42 (fun h33 => ?_) (fun h33 => ?_)
      · replace h := (bte_i h).2 h33
        exact r_sub [0, 1] rfl (w_X0_areLike_r hκ hi hf 0 _ _ _ _ h)
      · replace h := (bte_i h).1 h33
        refine r_aload_n hκ 0 rfl rfl dX0_areLike_45 ?_
        obtain ⟨s7, v7, h34, h⟩ := bcl_i h
        refine r_seq (A := bJ κ s7 51 [(0, (2, a0)), (1, (2, a1))] [(0, v7)]) ?_ (fun k0 => ?_)
        case refine_2 =>
          by_cases h35 : bg s6 0 a0 0 = 6
          · have hq0 := (bte_i h34).1 h35
            exact r_callFD hκ (n' := 0) (index := 230) (C := "EditsMeet$Keep") (w_X5_off Γ0 l0 hq0) (lw_meth q966) q1635 q964 q137 (by decide +kernel) (by decide +kernel) (t := 5) h35 rfl rfl (by decide) rfl (Nat.le_of_ble_eq_true rfl) dX0_areLike_46 k0
          replace h34 := (bte_i h34).2 h35
          by_cases h36 : bg s6 0 a0 0 = 15
          · have hq0 := (bte_i h34).1 h36
            exact r_callFD hκ (n' := 0) (index := 230) (C := "EditsMeet$Delete") (w_X5_off Γ0 l0 hq0) (lw_meth q966) q1635 q964 q137 (by decide +kernel) (by decide +kernel) (t := 14) h36 rfl rfl (by decide) rfl (Nat.le_of_ble_eq_true rfl) dX0_areLike_46 k0
          replace h34 := (bte_i h34).2 h36
          by_cases h37 : bg s6 0 a0 0 = 16
          · have hq0 := (bte_i h34).1 h37
            exact r_callFD hκ (n' := 0) (index := 230) (C := "EditsMeet$Insert") (w_X5_off Γ0 l0 hq0) (lw_meth q966) q1635 q964 q137 (by decide +kernel) (by decide +kernel) (t := 15) h37 rfl rfl (by decide) rfl (Nat.le_of_ble_eq_true rfl) dX0_areLike_46 k0
          replace h34 := (bte_i h34).2 h37
          by_cases h38 : bg s6 0 a0 0 = 17
          · have hq0 := (bte_i h34).1 h38
            exact r_callF hκ (n' := 0) (index := 230) (C := "EditsMeet$Mark") (w_X18_off Γ0 l0 hq0) (lw_app (lw_l4 q1635 q961 q962 q166) (lw_meth q963)) (by decide +kernel) (by decide +kernel) (t := 16) h38 rfl rfl (by decide) rfl (Nat.le_of_ble_eq_true rfl) dX0_areLike_46 k0
          replace h34 := (bte_i h34).2 h38
          cases h34
        refine r_aload_n hκ 1 rfl rfl dX0_areLike_51 ?_
        obtain ⟨s8, v8, h39, h⟩ := bcl_i h
        refine r_seq (A := bJ κ s8 57 [(0, (2, a0)), (1, (2, a1))] [(0, v8), (0, v7)]) ?_ (fun k0 => ?_)
        case refine_2 =>
          by_cases h40 : bg s7 0 a1 0 = 6
          · have hq0 := (bte_i h39).1 h40
            exact r_callFD hκ (n' := 0) (index := 230) (C := "EditsMeet$Keep") (w_X5_off Γ0 l0 hq0) (lw_meth q966) q1635 q964 q137 (by decide +kernel) (by decide +kernel) (t := 5) h40 rfl rfl (by decide) rfl (Nat.le_of_ble_eq_true rfl) dX0_areLike_52 k0
          replace h39 := (bte_i h39).2 h40
          by_cases h41 : bg s7 0 a1 0 = 15
          · have hq0 := (bte_i h39).1 h41
            exact r_callFD hκ (n' := 0) (index := 230) (C := "EditsMeet$Delete") (w_X5_off Γ0 l0 hq0) (lw_meth q966) q1635 q964 q137 (by decide +kernel) (by decide +kernel) (t := 14) h41 rfl rfl (by decide) rfl (Nat.le_of_ble_eq_true rfl) dX0_areLike_52 k0
          replace h39 := (bte_i h39).2 h41
          by_cases h42 : bg s7 0 a1 0 = 16
          · have hq0 := (bte_i h39).1 h42
            exact r_callFD hκ (n' := 0) (index := 230) (C := "EditsMeet$Insert") (w_X5_off Γ0 l0 hq0) (lw_meth q966) q1635 q964 q137 (by decide +kernel) (by decide +kernel) (t := 15) h42 rfl rfl (by decide) rfl (Nat.le_of_ble_eq_true rfl) dX0_areLike_52 k0
          replace h39 := (bte_i h39).2 h42
          by_cases h43 : bg s7 0 a1 0 = 17
          · have hq0 := (bte_i h39).1 h43
            exact r_callF hκ (n' := 0) (index := 230) (C := "EditsMeet$Mark") (w_X18_off Γ0 l0 hq0) (lw_app (lw_l4 q1635 q961 q962 q166) (lw_meth q963)) (by decide +kernel) (by decide +kernel) (t := 16) h43 rfl rfl (by decide) rfl (Nat.le_of_ble_eq_true rfl) dX0_areLike_52 k0
          replace h39 := (bte_i h39).2 h43
          cases h39
        refine r_icmp_ne hκ (tgt := 64) (by decide) dX0_areLike_57 (fun h44 => ?_) (fun h44 => ?_)
        · replace h := (bte_i h).2 h44
          exact r_sub [0, 1] rfl (w_X0_areLike_r hκ hi hf 0 _ _ _ _ h)
        · replace h := (bte_i h).1 h44
          refine r_iconst hκ dX0_areLike_60 ?_
          refine r_goto hκ (tgt := 65) (by decide) dX0_areLike_61 ?_
          exact r_sub [0, 1] rfl (w_X0_areLike_r hκ hi hf 1 _ _ _ _ h)
/-- EditsMeet.lambda$differ$12(II)I -/
def F_X0_lambda_differ_12_r (b : Nat) (x0 x1 x2 x3 : Int) (s0 : bS) : Option (bS × Int × Int) :=
  match b with
  | 0 =>
    F_X0_lambda_differ_12_r 1 x0 x1 x2 0 s0
  | 1 =>
    bclx (F_X0_may s0 x3 (-2)) fun s3 v3 v4 =>
    bte (v4 = -1)
    (bck (bg s3 0 x0 0 = 1) <|
    bclx (F_X0_present s3 x0 x1) fun s4 v5 v6 =>
    bte (v6 = -1)
    (bck (bg s4 0 x0 0 = 1) <|
    bclx (F_X0_present s4 x0 x2) fun s5 v7 v8 =>
    bte (v8 = -1)
    (bck (bg s5 0 v5 0 = 7) <|
    bcl (F_X8_many s5 v5) fun s6 v9 =>
    bck (bg s6 0 v7 0 = 7) <|
    bcl (F_X8_many s6 v7) fun s7 v10 =>
    F_X0_lambda_differ_12_r 2 v5 v7 (b_min v9 v10) 0 s7)
    (some (s5, v7, v8)))
    (some (s4, v5, v6)))
    (some (s3, v3, v4))
  | 2 =>
    bte (i32 x2 ≤ i32 x3)
    (bck (bg s0 0 x0 0 = 7) <|
    bcl (F_X8_many s0 x0) fun s8 v11 =>
    bck (bg s8 0 x1 0 = 7) <|
    bcl (F_X8_many s8 x1) fun s9 v12 =>
    bte (i32 v11 = i32 v12)
    (some (s9, (-1), -1))
    (some (s9, x2, -1)))
    (bck (bg s0 0 x0 0 = 7) <|
    bcl (F_X8_get s0 x0 x3) fun s10 v13 =>
    bck (bg s10 0 x1 0 = 7) <|
    bcl (F_X8_get s10 x1 x3) fun s11 v14 =>
    bcl (F_X0_areLike s11 v13 v14) fun s12 v15 =>
    bte (i32 v15 = 0)
    (some (s12, x3, -1))
    (F_X0_lambda_differ_12_r 2 x0 x1 x2 (x3 + 1) s12))
  | _ => none
partial_fixpoint
def F_X0_lambda_differ_12 (s0 : bS) (a0 a1 a2 : Int) : Option (bS × Int × Int) :=
  bcl (F_X0_isEdit s0 a1) fun s1 v1 =>
  bte (i32 v1 = 0)
  (F_X0_lambda_differ_12_r 0 a0 a1 a2 0 s1)
  (bcl (F_X0_isEdit s1 a2) fun s2 v2 =>
  bte (i32 v2 = 0)
  (F_X0_lambda_differ_12_r 0 a0 a1 a2 0 s2)
  (F_X0_lambda_differ_12_r 1 a0 a1 a2 1 s2))
set_option maxHeartbeats 4000000 in
set_option maxRecDepth 100000 in
set_option synthInstance.maxHeartbeats 4000000 in
theorem w_X0_lambda_differ_12_r {Γ0 : bG} {l0 : Launch} {κ : bK} {st' : bS} {v xx : Int} (hκ : bOk κ Γ0 l0 cX0_lambda_differ_12 RX0 7 6 134) (hi : bIn κ yX0_lambda_differ_12) (ht : xTab κ []) (hf : xFin κ (some .int) (some 0) (bEq st' v xx)) (b : Nat) (x0 x1 x2 x3 : Int) (s0 : bS) (h : F_X0_lambda_differ_12_r b x0 x1 x2 x3 s0 = some (st', v, xx)) : match (generalizing := false) b with | 0 => bJ κ s0 18 [(0, (2, x0)), (1, (0, x1)), (2, (0, x2))] [] | 1 => bJ κ s0 19 [(0, (2, x0)), (1, (0, x1)), (2, (0, x2))] [(0, x3)] | 2 => bJ κ s0 54 [(3, (2, x0)), (4, (2, x1)), (5, (0, x2)), (6, (0, x3))] [] | _ => True := by
  refine F_X0_lambda_differ_12_r.partial_correctness (fun b x0 x1 x2 x3 s0 r => r = (st', v, xx) → match (generalizing := false) b with | 0 => bJ κ s0 18 [(0, (2, x0)), (1, (0, x1)), (2, (0, x2))] [] | 1 => bJ κ s0 19 [(0, (2, x0)), (1, (0, x1)), (2, (0, x2))] [(0, x3)] | 2 => bJ κ s0 54 [(3, (2, x0)), (4, (2, x1)), (5, (0, x2)), (6, (0, x3))] [] | _ => True) ?_ b x0 x1 x2 x3 s0 _ h rfl
  intro f' ih b x0 x1 x2 x3 s0 r h hr
  subst hr
  match b, h with
  | 0, h =>
      refine r_iconst hκ dX0_lambda_differ_12_18 ?_
      exact r_sub [0, 1, 2] rfl (ih 1 _ _ _ _ _ _ h rfl)
  | 1, h =>
      refine r_bipush hκ (by decide) dX0_lambda_differ_12_19 ?_
      obtain ⟨s3, v3, v4, h5, h⟩ := bclx_i h
      refine r_seq (A := (v4 = -1 → bJ κ s3 24 [(0, (2, x0)), (1, (0, x1)), (2, (0, x2))] []) ∧ (¬ v4 = -1 → bT κ s3 21 [(0, (2, x0)), (1, (0, x1)), (2, (0, x2))] v3 v4)) ⟨fun h6 => ?_, fun h6 => ?_⟩ (fun k0 => r_xcallS hκ (n' := 2) (index := 196) (w_X0_may Γ0 l0 h5) (lw_S q799 q800 q121 q801) (by decide +kernel) rfl (by decide) rfl (Nat.le_of_ble_eq_true rfl) dX0_lambda_differ_12_21 (r_xj1 k0.1) (r_xj2 k0.2))
      · replace h := (bte_i h).1 h6
        refine r_aload_n hκ 0 rfl rfl dX0_lambda_differ_12_24 ?_
        refine r_iload_n hκ 1 rfl rfl dX0_lambda_differ_12_25 ?_
        obtain ⟨h8, h⟩ := bck_i h
        obtain ⟨s4, v5, v6, h7, h⟩ := bclx_i h
        refine r_seq (A := (v6 = -1 → bJ κ s4 29 [(0, (2, x0)), (1, (0, x1)), (2, (0, x2))] [(2, v5)]) ∧ (¬ v6 = -1 → bT κ s4 26 [(0, (2, x0)), (1, (0, x1)), (2, (0, x2))] v5 v6)) ⟨fun h9 => ?_, fun h9 => ?_⟩ (fun k0 => r_xcallV hκ (n' := 1) (index := 58) (w_X0_present Γ0 l0 h7) (lw_V q802 q804 qs5 q121 q805) (by decide +kernel) (t := 0) h8 rfl rfl (by decide) rfl (Nat.le_of_ble_eq_true rfl) dX0_lambda_differ_12_26 (r_xj1 k0.1) (r_xj2 k0.2))
        · replace h := (bte_i h).1 h9
          refine r_astore_n hκ (L2 := [(3, (2, v5)), (0, (2, x0)), (1, (0, x1)), (2, (0, x2))]) (by decide) rfl rfl dX0_lambda_differ_12_29 ?_
          refine r_aload_n hκ 1 rfl rfl dX0_lambda_differ_12_30 ?_
          refine r_iload_n hκ 3 rfl rfl dX0_lambda_differ_12_31 ?_
          obtain ⟨h11, h⟩ := bck_i h
          obtain ⟨s5, v7, v8, h10, h⟩ := bclx_i h
          refine r_seq (A := (v8 = -1 → bJ κ s5 35 [(3, (2, v5)), (0, (2, x0)), (1, (0, x1)), (2, (0, x2))] [(2, v7)]) ∧ (¬ v8 = -1 → bT κ s5 32 [(3, (2, v5)), (0, (2, x0)), (1, (0, x1)), (2, (0, x2))] v7 v8)) ⟨fun h12 => ?_, fun h12 => ?_⟩ (fun k0 => r_xcallV hκ (n' := 1) (index := 58) (w_X0_present Γ0 l0 h10) (lw_V q802 q804 qs5 q121 q805) (by decide +kernel) (t := 0) h11 rfl rfl (by decide) rfl (Nat.le_of_ble_eq_true rfl) dX0_lambda_differ_12_32 (r_xj1 k0.1) (r_xj2 k0.2))
          · replace h := (bte_i h).1 h12
            refine r_astore hκ (L2 := [(4, (2, v7)), (3, (2, v5)), (0, (2, x0)), (1, (0, x1)), (2, (0, x2))]) (by decide) rfl dX0_lambda_differ_12_35 ?_
            refine r_aload_n hκ 1 rfl rfl dX0_lambda_differ_12_37 ?_
            obtain ⟨h13, h⟩ := bck_i h
            obtain ⟨s6, v9, h14, h⟩ := bcl_i h
            refine r_callV hκ (n' := 0) (index := 179) (w_X8_many Γ0 l0 h14) (lw_V q806 q807 q808 q140 q809) (by decide +kernel) (t := 6) h13 rfl rfl (by decide) rfl (Nat.le_of_ble_eq_true rfl) dX0_lambda_differ_12_38 ?_
            refine r_aload hκ 0 rfl dX0_lambda_differ_12_41 ?_
            obtain ⟨h15, h⟩ := bck_i h
            obtain ⟨s7, v10, h16, h⟩ := bcl_i h
            refine r_callV hκ (n' := 0) (index := 179) (w_X8_many Γ0 l0 h16) (lw_V q806 q807 q808 q140 q809) (by decide +kernel) (t := 6) h15 rfl rfl (by decide) rfl (Nat.le_of_ble_eq_true rfl) dX0_lambda_differ_12_43 ?_
            refine r_mmin hκ q2228 q1055 q161 q1056 (by decide) (Nat.le_of_ble_eq_true rfl) dX0_lambda_differ_12_46 ?_
            refine r_istore hκ (L2 := [(5, (0, (b_min v9 v10))), (4, (2, v7)), (3, (2, v5)), (0, (2, x0)), (1, (0, x1)), (2, (0, x2))]) (by decide) rfl dX0_lambda_differ_12_49 ?_
            refine r_iconst hκ dX0_lambda_differ_12_51 ?_
            refine r_istore hκ (L2 := [(6, (0, 0)), (5, (0, (b_min v9 v10))), (4, (2, v7)), (3, (2, v5)), (0, (2, x0)), (1, (0, x1)), (2, (0, x2))]) (by decide) rfl dX0_lambda_differ_12_52 ?_
            exact r_sub [3, 2, 1, 0] rfl (ih 2 _ _ _ _ _ _ h rfl)
          · replace h := (bte_i h).2 h12
            exact r_xout hκ ht hf (by decide) (x_P h)
        · replace h := (bte_i h).2 h9
          exact r_xout hκ ht hf (by decide) (x_P h)
      · replace h := (bte_i h).2 h6
        exact r_xout hκ ht hf (by decide) (x_P h)
  | 2, h =>
      refine r_iload hκ 3 rfl dX0_lambda_differ_12_54 ?_
      refine r_iload hκ 2 rfl dX0_lambda_differ_12_56 ?_
      refine r_icmp_ge hκ (tgt := 89) (by decide) dX0_lambda_differ_12_58 (fun h17 => ?_) (fun h17 => ?_)
      · replace h := (bte_i h).1 h17
        refine r_aload_n hκ 0 rfl rfl dX0_lambda_differ_12_89 ?_
        obtain ⟨h18, h⟩ := bck_i h
        obtain ⟨s8, v11, h19, h⟩ := bcl_i h
        refine r_callV hκ (n' := 0) (index := 179) (w_X8_many Γ0 l0 h19) (lw_V q806 q807 q808 q140 q809) (by decide +kernel) (t := 6) h18 rfl rfl (by decide) rfl (Nat.le_of_ble_eq_true rfl) dX0_lambda_differ_12_90 ?_
        refine r_aload hκ 1 rfl dX0_lambda_differ_12_93 ?_
        obtain ⟨h20, h⟩ := bck_i h
        obtain ⟨s9, v12, h21, h⟩ := bcl_i h
        refine r_callV hκ (n' := 0) (index := 179) (w_X8_many Γ0 l0 h21) (lw_V q806 q807 q808 q140 q809) (by decide +kernel) (t := 6) h20 rfl rfl (by decide) rfl (Nat.le_of_ble_eq_true rfl) dX0_lambda_differ_12_95 ?_
        refine r_icmp_ne hκ (tgt := 105) (by decide) dX0_lambda_differ_12_98 (fun h22 => ?_) (fun h22 => ?_)
        · replace h := (bte_i h).2 h22
          refine r_iload hκ 2 rfl dX0_lambda_differ_12_105 ?_
          exact x_ret hκ hf (x_P h) (fun κ hκ hf => r_iret hκ hf (nar_int _) dX0_lambda_differ_12_107)
        · replace h := (bte_i h).1 h22
          refine r_iconst hκ dX0_lambda_differ_12_101 ?_
          refine r_goto hκ (tgt := 107) (by decide) dX0_lambda_differ_12_102 ?_
          exact x_ret hκ hf (x_P h) (fun κ hκ hf => r_iret hκ hf (nar_int _) dX0_lambda_differ_12_107)
      · replace h := (bte_i h).2 h17
        refine r_aload_n hκ 0 rfl rfl dX0_lambda_differ_12_61 ?_
        refine r_iload hκ 3 rfl dX0_lambda_differ_12_62 ?_
        obtain ⟨h23, h⟩ := bck_i h
        obtain ⟨s10, v13, h24, h⟩ := bcl_i h
        refine r_callV hκ (n' := 1) (index := 492) (w_X8_get Γ0 l0 h24) (lw_V q814 q815 q816 q140 q817) (by decide +kernel) (t := 6) h23 rfl rfl (by decide) rfl (Nat.le_of_ble_eq_true rfl) dX0_lambda_differ_12_64 ?_
        refine r_aload hκ 1 rfl dX0_lambda_differ_12_67 ?_
        refine r_iload hκ 3 rfl dX0_lambda_differ_12_69 ?_
        obtain ⟨h25, h⟩ := bck_i h
        obtain ⟨s11, v14, h26, h⟩ := bcl_i h
        refine r_callV hκ (n' := 1) (index := 492) (w_X8_get Γ0 l0 h26) (lw_V q814 q815 q816 q140 q817) (by decide +kernel) (t := 6) h25 rfl rfl (by decide) rfl (Nat.le_of_ble_eq_true rfl) dX0_lambda_differ_12_71 ?_
        obtain ⟨s12, v15, h27, h⟩ := bcl_i h
        refine r_callS hκ (n' := 2) (index := 494) (w_X0_areLike Γ0 l0 h27) (lw_S q2229 q2230 q121 q2231) (by decide +kernel) rfl (by decide) rfl (Nat.le_of_ble_eq_true rfl) dX0_lambda_differ_12_74 ?_
        refine r_if_ne hκ (tgt := 83) (by decide) dX0_lambda_differ_12_77 (fun h28 => ?_) (fun h28 => ?_)
        · replace h := (bte_i h).2 h28
          refine r_iinc hκ (L2 := [(6, (0, (x3 + 1))), (3, (2, x0)), (4, (2, x1)), (5, (0, x2))]) 3 rfl (by decide) rfl dX0_lambda_differ_12_83 ?_
          refine r_goto hκ (tgt := 54) (by decide) dX0_lambda_differ_12_86 ?_
          exact r_sub [1, 2, 3, 0] rfl (ih 2 _ _ _ _ _ _ h rfl)
        · replace h := (bte_i h).1 h28
          refine r_iload hκ 3 rfl dX0_lambda_differ_12_80 ?_
          exact x_ret hκ hf (x_P h) (fun κ hκ hf => r_iret hκ hf (nar_int _) dX0_lambda_differ_12_82)
  | b + 3, h => trivial
set_option maxHeartbeats 4000000 in
set_option maxRecDepth 100000 in
theorem w_X0_lambda_differ_12 (Γ0 : bG) (l0 : Launch) {s0 st' : bS} {v xx a0 a1 a2 : Int} (h : F_X0_lambda_differ_12 s0 a0 a1 a2 = some (st', v, xx)) : bCx Γ0 l0 yX0_lambda_differ_12 (ws_ yX0_lambda_differ_12 cX0_lambda_differ_12 7 (some .int)) 6 134 (some 0) [(2, a0), (0, a1), (0, a2)] s0 (bEq st' v xx) := by
  refine xb_ent (own := RX0) (by decide +kernel) rfl (Nat.le_of_ble_eq_true rfl) (L := [(0, (2, a0)), (1, (0, a1)), (2, (0, a2))]) rfl ?_
  intro κ hκ hi ht hf
  unfold F_X0_lambda_differ_12 at h
  refine r_iload_n hκ 1 rfl rfl dX0_lambda_differ_12_0 ?_
  obtain ⟨s1, v1, h1, h⟩ := bcl_i h
  refine r_callS hκ (n' := 1) (index := 49) (w_X0_isEdit Γ0 l0 h1) (lw_S q796 q797 q121 q798) (by decide +kernel) rfl (by decide) rfl (Nat.le_of_ble_eq_true rfl) dX0_lambda_differ_12_1 ?_
  refine r_if_eq hκ (tgt := 18) (by decide) dX0_lambda_differ_12_4 (fun h2 => ?_) (fun h2 => ?_)
  · replace h := (bte_i h).1 h2
    exact r_sub [0, 1, 2] rfl (w_X0_lambda_differ_12_r hκ hi ht hf 0 _ _ _ _ _ h)
  · replace h := (bte_i h).2 h2
    refine r_iload_n hκ 2 rfl rfl dX0_lambda_differ_12_7 ?_
    obtain ⟨s2, v2, h3, h⟩ := bcl_i h
    refine r_callS hκ (n' := 1) (index := 49) (w_X0_isEdit Γ0 l0 h3) (lw_S q796 q797 q121 q798) (by decide +kernel) rfl (by decide) rfl (Nat.le_of_ble_eq_true rfl) dX0_lambda_differ_12_8 ?_
    refine r_if_eq hκ (tgt := 18) (by decide) dX0_lambda_differ_12_11 (fun h4 => ?_) (fun h4 => ?_)
    · replace h := (bte_i h).1 h4
      exact r_sub [0, 1, 2] rfl (w_X0_lambda_differ_12_r hκ hi ht hf 0 _ _ _ _ _ h)
    · replace h := (bte_i h).2 h4
      refine r_iconst hκ dX0_lambda_differ_12_14 ?_
      refine r_goto hκ (tgt := 19) (by decide) dX0_lambda_differ_12_15 ?_
      exact r_sub [0, 1, 2] rfl (w_X0_lambda_differ_12_r hκ hi ht hf 1 _ _ _ _ _ h)
/-- EditsMeet.isTooLong(LEditsMeet$Text;LEditsMeet$Edit;)Z -/
def F_X0_isTooLong (s0 : bS) (a0 a1 : Int) : Option (bS × Int) :=
  bck (bg s0 0 a1 0 = 7) <|
  bcl (F_X8_to s0 a1) fun s1 v1 =>
  bte (i32 v1 ≤ i32 60)
  (some (s1, 0))
  (bck (bg s1 0 a1 0 = 7) <|
  bcl (F_X8_to s1 a1) fun s2 v2 =>
  bck (bg s2 0 a0 0 = 3) <|
  bcl (F_X2_length s2 a0) fun s3 v3 =>
  bte (i32 v2 ≤ i32 v3)
  (some (s3, 0))
  (some (s3, 1)))
set_option maxHeartbeats 4000000 in
set_option maxRecDepth 100000 in
theorem w_X0_isTooLong (Γ0 : bG) (l0 : Launch) {s0 st' : bS} {v a0 a1 : Int} (h : F_X0_isTooLong s0 a0 a1 = some (st', v)) : bCt Γ0 l0 yX0_isTooLong cX0_isTooLong 2 (some .boolean) 9 3100 [(2, a0), (2, a1)] s0 st' (some (0, v)) := by
  refine b_ent (own := RX0) (by decide +kernel) rfl (Nat.le_of_ble_eq_true rfl) (L := [(0, (2, a0)), (1, (2, a1))]) rfl ?_
  intro κ hκ hi hf
  unfold F_X0_isTooLong at h
  refine r_aload_n hκ 1 rfl rfl dX0_isTooLong_0 ?_
  obtain ⟨h1, h⟩ := bck_i h
  obtain ⟨s1, v1, h2, h⟩ := bcl_i h
  refine r_callV hκ (n' := 0) (index := 185) (w_X8_to Γ0 l0 h2) (lw_V q1590 q1591 q1592 q140 q1593) (by decide +kernel) (t := 6) h1 rfl rfl (by decide) rfl (Nat.le_of_ble_eq_true rfl) dX0_isTooLong_1 ?_
  refine r_bipush hκ (by decide) dX0_isTooLong_4 ?_
  refine r_icmp_le hκ (tgt := 24) (by decide) dX0_isTooLong_6 (fun h3 => ?_) (fun h3 => ?_)
  · replace h := (bte_i h).1 h3
    refine r_iconst hκ dX0_isTooLong_24 ?_
    exact r_iretH hκ hf h (nar_bool (by decide)) dX0_isTooLong_25
  · replace h := (bte_i h).2 h3
    refine r_aload_n hκ 1 rfl rfl dX0_isTooLong_9 ?_
    obtain ⟨h4, h⟩ := bck_i h
    obtain ⟨s2, v2, h5, h⟩ := bcl_i h
    refine r_callV hκ (n' := 0) (index := 185) (w_X8_to Γ0 l0 h5) (lw_V q1590 q1591 q1592 q140 q1593) (by decide +kernel) (t := 6) h4 rfl rfl (by decide) rfl (Nat.le_of_ble_eq_true rfl) dX0_isTooLong_10 ?_
    refine r_aload_n hκ 0 rfl rfl dX0_isTooLong_13 ?_
    obtain ⟨h6, h⟩ := bck_i h
    obtain ⟨s3, v3, h7, h⟩ := bcl_i h
    refine r_callV hκ (n' := 0) (index := 245) (w_X2_length Γ0 l0 h7) (lw_V q2166 q2167 q2168 q123 q2169) (by decide +kernel) (t := 2) h6 rfl rfl (by decide) rfl (Nat.le_of_ble_eq_true rfl) dX0_isTooLong_14 ?_
    refine r_icmp_le hκ (tgt := 24) (by decide) dX0_isTooLong_17 (fun h8 => ?_) (fun h8 => ?_)
    · replace h := (bte_i h).1 h8
      refine r_iconst hκ dX0_isTooLong_24 ?_
      exact r_iretH hκ hf h (nar_bool (by decide)) dX0_isTooLong_25
    · replace h := (bte_i h).2 h8
      refine r_iconst hκ dX0_isTooLong_20 ?_
      refine r_goto hκ (tgt := 25) (by decide) dX0_isTooLong_21 ?_
      exact r_iretH hκ hf h (nar_bool (by decide)) dX0_isTooLong_25
/-- EditsMeet.does(LEditsMeet$Client;LEditsMeet$Edit;)I -/
def F_X0_does_2_r (b : Nat) (x0 x1 x2 : Int) (s0 : bS) : Option (bS × Int × Int) :=
  match b with
  | 0 =>
    bclx (F_X0_may s0 x2 (-6)) fun s2 v2 v3 =>
    bte (v3 = -1)
    (bck (bg s2 0 x0 0 = 8) <|
    bck (bg s2 0 (bg s2 158 x0 0) 0 = 9) <|
    bcl (F_X10_empties s2 (bg s2 158 x0 0)) fun s3 v4 =>
    bck (bg s3 0 x0 0 = 8) <|
    bck (bg s3 0 x0 0 = 8) <|
    bcl (F_X9_does s3 x0 x1 (bg s3 154 x0 0)) fun s4 v5 =>
    bck (bg s4 0 x0 0 = 8) <|
    bck (bg s4 0 (bg s4 146 x0 0) 0 = 3) <|
    bcl (F_X2_length s4 (bg s4 146 x0 0)) fun s5 v6 =>
    some (s5, v6, -1))
    (some (s2, v2, v3))
  | _ => none
def F_X0_does_2 (s0 : bS) (a0 a1 : Int) : Option (bS × Int × Int) :=
  bck (bg s0 0 a0 0 = 8) <|
  bcl (F_X0_isTooLong s0 (bg s0 146 a0 0) a1) fun s1 v1 =>
  bte (i32 v1 = 0)
  (F_X0_does_2_r 0 a0 a1 1 s1)
  (F_X0_does_2_r 0 a0 a1 0 s1)
set_option maxHeartbeats 4000000 in
set_option maxRecDepth 100000 in
set_option synthInstance.maxHeartbeats 4000000 in
theorem w_X0_does_2_r {Γ0 : bG} {l0 : Launch} {κ : bK} {st' : bS} {v xx : Int} (hκ : bOk κ Γ0 l0 cX0_does_2 RX0 2 15 3121) (hi : bIn κ yX0_does_2) (ht : xTab κ []) (hf : xFin κ (some .int) (some 0) (bEq st' v xx)) (b : Nat) (x0 x1 x2 : Int) (s0 : bS) (h : F_X0_does_2_r b x0 x1 x2 s0 = some (st', v, xx)) : match (generalizing := false) b with | 0 => bJ κ s0 16 [(0, (2, x0)), (1, (2, x1))] [(0, x2)] | _ => True := by
  unfold F_X0_does_2_r at h
  match b, h with
  | 0, h =>
      refine r_bipush hκ (by decide) dX0_does_2_16 ?_
      obtain ⟨s2, v2, v3, h4, h⟩ := bclx_i h
      refine r_seq (A := (v3 = -1 → bJ κ s2 21 [(0, (2, x0)), (1, (2, x1))] []) ∧ (¬ v3 = -1 → bT κ s2 18 [(0, (2, x0)), (1, (2, x1))] v2 v3)) ⟨fun h5 => ?_, fun h5 => ?_⟩ (fun k0 => r_xcallS hκ (n' := 2) (index := 196) (w_X0_may Γ0 l0 h4) (lw_S q799 q800 q121 q801) (by decide +kernel) rfl (by decide) rfl (Nat.le_of_ble_eq_true rfl) dX0_does_2_18 (r_xj1 k0.1) (r_xj2 k0.2))
      · replace h := (bte_i h).1 h5
        refine r_aload_n hκ 0 rfl rfl dX0_does_2_21 ?_
        obtain ⟨h6, h⟩ := bck_i h
        refine r_get hκ (t := 7) (k := 3) (r := 158) h6 rfl in_X9 (by decide) rfl q492 (Or.inl rfl) dX0_does_2_22 ?_
        obtain ⟨h7, h⟩ := bck_i h
        obtain ⟨s3, v4, h8, h⟩ := bcl_i h
        refine r_callV hκ (n' := 0) (index := 264) (w_X10_empties Γ0 l0 h8) (lw_V q2246 q2247 q2248 q142 q2249) (by decide +kernel) (t := 8) h7 rfl rfl (by decide) rfl (Nat.le_of_ble_eq_true rfl) dX0_does_2_25 ?_
        refine r_aload_n hκ 0 rfl rfl dX0_does_2_28 ?_
        refine r_aload_n hκ 1 rfl rfl dX0_does_2_29 ?_
        refine r_aload_n hκ 0 rfl rfl dX0_does_2_30 ?_
        obtain ⟨h9, h⟩ := bck_i h
        refine r_get hκ (t := 7) (k := 2) (r := 154) h9 rfl in_X9 (by decide) rfl q490 (Or.inl rfl) dX0_does_2_31 ?_
        obtain ⟨h10, h⟩ := bck_i h
        obtain ⟨s4, v5, h11, h⟩ := bcl_i h
        refine r_callV hκ (n' := 2) (index := 272) (w_X9_does Γ0 l0 h11) (lw_V q2276 q2277 q2278 q141 q2279) (by decide +kernel) (t := 7) h10 rfl rfl (by decide) rfl (Nat.le_of_ble_eq_true rfl) dX0_does_2_34 ?_
        refine r_aload_n hκ 0 rfl rfl dX0_does_2_37 ?_
        obtain ⟨h12, h⟩ := bck_i h
        refine r_get hκ (t := 7) (k := 0) (r := 146) h12 rfl in_X9 (by decide) rfl q486 (Or.inl rfl) dX0_does_2_38 ?_
        obtain ⟨h13, h⟩ := bck_i h
        obtain ⟨s5, v6, h14, h⟩ := bcl_i h
        refine r_callV hκ (n' := 0) (index := 245) (w_X2_length Γ0 l0 h14) (lw_V q2166 q2167 q2168 q123 q2169) (by decide +kernel) (t := 2) h13 rfl rfl (by decide) rfl (Nat.le_of_ble_eq_true rfl) dX0_does_2_41 ?_
        exact x_ret hκ hf (x_P h) (fun κ hκ hf => r_iret hκ hf (nar_int _) dX0_does_2_44)
      · replace h := (bte_i h).2 h5
        exact r_xout hκ ht hf (by decide) (x_P h)
  | b + 1, h => trivial
set_option maxHeartbeats 4000000 in
set_option maxRecDepth 100000 in
theorem w_X0_does_2 (Γ0 : bG) (l0 : Launch) {s0 st' : bS} {v xx a0 a1 : Int} (h : F_X0_does_2 s0 a0 a1 = some (st', v, xx)) : bCx Γ0 l0 yX0_does_2 (ws_ yX0_does_2 cX0_does_2 2 (some .int)) 15 3121 (some 0) [(2, a0), (2, a1)] s0 (bEq st' v xx) := by
  refine xb_ent (own := RX0) (by decide +kernel) rfl (Nat.le_of_ble_eq_true rfl) (L := [(0, (2, a0)), (1, (2, a1))]) rfl ?_
  intro κ hκ hi ht hf
  unfold F_X0_does_2 at h
  refine r_aload_n hκ 0 rfl rfl dX0_does_2_0 ?_
  obtain ⟨h1, h⟩ := bck_i h
  refine r_get hκ (t := 7) (k := 0) (r := 146) h1 rfl in_X9 (by decide) rfl q486 (Or.inl rfl) dX0_does_2_1 ?_
  refine r_aload_n hκ 1 rfl rfl dX0_does_2_4 ?_
  obtain ⟨s1, v1, h2, h⟩ := bcl_i h
  refine r_callS hκ (n' := 2) (index := 256) (w_X0_isTooLong Γ0 l0 h2) (lw_S q2243 q2244 q121 q2245) (by decide +kernel) rfl (by decide) rfl (Nat.le_of_ble_eq_true rfl) dX0_does_2_5 ?_
  refine r_if_ne hκ (tgt := 15) (by decide) dX0_does_2_8 (fun h3 => ?_) (fun h3 => ?_)
  · replace h := (bte_i h).2 h3
    refine r_iconst hκ dX0_does_2_15 ?_
    exact r_sub [0, 1] rfl (w_X0_does_2_r hκ hi ht hf 0 _ _ _ _ h)
  · replace h := (bte_i h).1 h3
    refine r_iconst hκ dX0_does_2_11 ?_
    refine r_goto hκ (tgt := 16) (by decide) dX0_does_2_12 ?_
    exact r_sub [0, 1] rfl (w_X0_does_2_r hκ hi ht hf 0 _ _ _ _ h)
/-- EditsMeet.lambda$does$13(II)I -/
def F_X0_lambda_does_13_r (b : Nat) (x0 x1 x2 x3 : Int) (s0 : bS) : Option (bS × Int × Int) :=
  match b with
  | 0 =>
    F_X0_lambda_does_13_r 1 x0 x1 x2 0 s0
  | 1 =>
    bclx (F_X0_may s0 x3 (-2)) fun s3 v3 v4 =>
    bte (v4 = -1)
    (bck (bg s3 0 x0 0 = 1) <|
    bclx (F_X0_present s3 x0 x2) fun s4 v5 v6 =>
    bte (v6 = -1)
    (bck (bg s4 0 v5 0 = 7) <|
    bcl (F_X8_from s4 v5) fun s5 v7 =>
    bck (bg s5 0 x0 0 = 1) <|
    bck (bg s5 0 (bg s5 34 x0 0) 0 = 2) <|
    bcl (F_X1_text s5 (bg s5 34 x0 0) x1) fun s6 v8 =>
    bck (bg s6 0 v8 0 = 3) <|
    bcl (F_X2_length s6 v8) fun s7 v9 =>
    bte (i32 v7 = i32 v9)
    (F_X0_lambda_does_13_r 2 x0 x1 v5 1 s7)
    (F_X0_lambda_does_13_r 2 x0 x1 v5 0 s7))
    (some (s4, v5, v6)))
    (some (s3, v3, v4))
  | 2 =>
    bclx (F_X0_may s0 x3 (-5)) fun s8 v10 v11 =>
    bte (v11 = -1)
    (bck (bg s8 0 x0 0 = 1) <|
    bck (bg s8 0 (bg s8 34 x0 0) 0 = 2) <|
    bck (bg s8 0 (bg s8 66 (bg s8 34 x0 0) 0) 0 = 1007 ∧ (0 : Int) ≤ x1 ∧ x1 < bg s8 4 (bg s8 66 (bg s8 34 x0 0) 0) 0) <|
    bclx (F_X0_does_2 s8 (bg s8 10 (bg s8 66 (bg s8 34 x0 0) 0) x1) x2) fun s9 v12 v13 =>
    bte (v13 = -1)
    (some (s9, v12, -1))
    (some (s9, v12, v13)))
    (some (s8, v10, v11))
  | _ => none
partial_fixpoint
def F_X0_lambda_does_13 (s0 : bS) (a0 a1 a2 : Int) : Option (bS × Int × Int) :=
  bcl (F_X0_isClient s0 a1) fun s1 v1 =>
  bte (i32 v1 = 0)
  (F_X0_lambda_does_13_r 0 a0 a1 a2 0 s1)
  (bcl (F_X0_isEdit s1 a2) fun s2 v2 =>
  bte (i32 v2 = 0)
  (F_X0_lambda_does_13_r 0 a0 a1 a2 0 s2)
  (F_X0_lambda_does_13_r 1 a0 a1 a2 1 s2))
set_option maxHeartbeats 4000000 in
set_option maxRecDepth 100000 in
set_option synthInstance.maxHeartbeats 4000000 in
theorem w_X0_lambda_does_13_r {Γ0 : bG} {l0 : Launch} {κ : bK} {st' : bS} {v xx : Int} (hκ : bOk κ Γ0 l0 cX0_lambda_does_13 RX0 4 16 3142) (hi : bIn κ yX0_lambda_does_13) (ht : xTab κ []) (hf : xFin κ (some .int) (some 0) (bEq st' v xx)) (b : Nat) (x0 x1 x2 x3 : Int) (s0 : bS) (h : F_X0_lambda_does_13_r b x0 x1 x2 x3 s0 = some (st', v, xx)) : match (generalizing := false) b with | 0 => bJ κ s0 18 [(0, (2, x0)), (1, (0, x1)), (2, (0, x2))] [] | 1 => bJ κ s0 19 [(0, (2, x0)), (1, (0, x1)), (2, (0, x2))] [(0, x3)] | 2 => bJ κ s0 53 [(0, (2, x0)), (1, (0, x1)), (3, (2, x2))] [(0, x3)] | _ => True := by
  refine F_X0_lambda_does_13_r.partial_correctness x0 x1 (fun b x2 x3 s0 r => r = (st', v, xx) → match (generalizing := false) b with | 0 => bJ κ s0 18 [(0, (2, x0)), (1, (0, x1)), (2, (0, x2))] [] | 1 => bJ κ s0 19 [(0, (2, x0)), (1, (0, x1)), (2, (0, x2))] [(0, x3)] | 2 => bJ κ s0 53 [(0, (2, x0)), (1, (0, x1)), (3, (2, x2))] [(0, x3)] | _ => True) ?_ b x2 x3 s0 _ h rfl
  intro f' ih b x2 x3 s0 r h hr
  subst hr
  match b, h with
  | 0, h =>
      refine r_iconst hκ dX0_lambda_does_13_18 ?_
      exact r_sub [0, 1, 2] rfl (ih 1 _ _ _ _ h rfl)
  | 1, h =>
      refine r_bipush hκ (by decide) dX0_lambda_does_13_19 ?_
      obtain ⟨s3, v3, v4, h5, h⟩ := bclx_i h
      refine r_seq (A := (v4 = -1 → bJ κ s3 24 [(0, (2, x0)), (1, (0, x1)), (2, (0, x2))] []) ∧ (¬ v4 = -1 → bT κ s3 21 [(0, (2, x0)), (1, (0, x1)), (2, (0, x2))] v3 v4)) ⟨fun h6 => ?_, fun h6 => ?_⟩ (fun k0 => r_xcallS hκ (n' := 2) (index := 196) (w_X0_may Γ0 l0 h5) (lw_S q799 q800 q121 q801) (by decide +kernel) rfl (by decide) rfl (Nat.le_of_ble_eq_true rfl) dX0_lambda_does_13_21 (r_xj1 k0.1) (r_xj2 k0.2))
      · replace h := (bte_i h).1 h6
        refine r_aload_n hκ 0 rfl rfl dX0_lambda_does_13_24 ?_
        refine r_iload_n hκ 2 rfl rfl dX0_lambda_does_13_25 ?_
        obtain ⟨h8, h⟩ := bck_i h
        obtain ⟨s4, v5, v6, h7, h⟩ := bclx_i h
        refine r_seq (A := (v6 = -1 → bJ κ s4 29 [(0, (2, x0)), (1, (0, x1)), (2, (0, x2))] [(2, v5)]) ∧ (¬ v6 = -1 → bT κ s4 26 [(0, (2, x0)), (1, (0, x1)), (2, (0, x2))] v5 v6)) ⟨fun h9 => ?_, fun h9 => ?_⟩ (fun k0 => r_xcallV hκ (n' := 1) (index := 58) (w_X0_present Γ0 l0 h7) (lw_V q802 q804 qs5 q121 q805) (by decide +kernel) (t := 0) h8 rfl rfl (by decide) rfl (Nat.le_of_ble_eq_true rfl) dX0_lambda_does_13_26 (r_xj1 k0.1) (r_xj2 k0.2))
        · replace h := (bte_i h).1 h9
          refine r_astore_n hκ (L2 := [(3, (2, v5)), (0, (2, x0)), (1, (0, x1)), (2, (0, x2))]) (by decide) rfl rfl dX0_lambda_does_13_29 ?_
          refine r_aload_n hκ 0 rfl rfl dX0_lambda_does_13_30 ?_
          obtain ⟨h10, h⟩ := bck_i h
          obtain ⟨s5, v7, h11, h⟩ := bcl_i h
          refine r_callV hκ (n' := 0) (index := 182) (w_X8_from Γ0 l0 h11) (lw_V q1561 q1562 q1563 q140 q1564) (by decide +kernel) (t := 6) h10 rfl rfl (by decide) rfl (Nat.le_of_ble_eq_true rfl) dX0_lambda_does_13_31 ?_
          refine r_aload_n hκ 1 rfl rfl dX0_lambda_does_13_34 ?_
          obtain ⟨h12, h⟩ := bck_i h
          refine r_get hκ (t := 0) (k := 0) (r := 34) h12 rfl in_X0 (by decide) rfl q573 (Or.inl rfl) dX0_lambda_does_13_35 ?_
          refine r_iload_n hκ 2 rfl rfl dX0_lambda_does_13_38 ?_
          obtain ⟨h13, h⟩ := bck_i h
          obtain ⟨s6, v8, h14, h⟩ := bcl_i h
          refine r_callV hκ (n' := 1) (index := 396) (w_X1_text Γ0 l0 h14) (lw_V q2162 q2163 q2164 q122 q2165) (by decide +kernel) (t := 1) h13 rfl rfl (by decide) rfl (Nat.le_of_ble_eq_true rfl) dX0_lambda_does_13_39 ?_
          obtain ⟨h15, h⟩ := bck_i h
          obtain ⟨s7, v9, h16, h⟩ := bcl_i h
          refine r_callV hκ (n' := 0) (index := 245) (w_X2_length Γ0 l0 h16) (lw_V q2166 q2167 q2168 q123 q2169) (by decide +kernel) (t := 2) h15 rfl rfl (by decide) rfl (Nat.le_of_ble_eq_true rfl) dX0_lambda_does_13_42 ?_
          refine r_icmp_ne hκ (tgt := 52) (by decide) dX0_lambda_does_13_45 (fun h17 => ?_) (fun h17 => ?_)
          · replace h := (bte_i h).2 h17
            refine r_iconst hκ dX0_lambda_does_13_52 ?_
            exact r_sub [1, 2, 0] rfl (ih 2 _ _ _ _ h rfl)
          · replace h := (bte_i h).1 h17
            refine r_iconst hκ dX0_lambda_does_13_48 ?_
            refine r_goto hκ (tgt := 53) (by decide) dX0_lambda_does_13_49 ?_
            exact r_sub [1, 2, 0] rfl (ih 2 _ _ _ _ h rfl)
        · replace h := (bte_i h).2 h9
          exact r_xout hκ ht hf (by decide) (x_P h)
      · replace h := (bte_i h).2 h6
        exact r_xout hκ ht hf (by decide) (x_P h)
  | 2, h =>
      refine r_bipush hκ (by decide) dX0_lambda_does_13_53 ?_
      obtain ⟨s8, v10, v11, h18, h⟩ := bclx_i h
      refine r_seq (A := (v11 = -1 → bJ κ s8 58 [(0, (2, x0)), (1, (0, x1)), (3, (2, x2))] []) ∧ (¬ v11 = -1 → bT κ s8 55 [(0, (2, x0)), (1, (0, x1)), (3, (2, x2))] v10 v11)) ⟨fun h19 => ?_, fun h19 => ?_⟩ (fun k0 => r_xcallS hκ (n' := 2) (index := 196) (w_X0_may Γ0 l0 h18) (lw_S q799 q800 q121 q801) (by decide +kernel) rfl (by decide) rfl (Nat.le_of_ble_eq_true rfl) dX0_lambda_does_13_55 (r_xj1 k0.1) (r_xj2 k0.2))
      · replace h := (bte_i h).1 h19
        refine r_aload_n hκ 0 rfl rfl dX0_lambda_does_13_58 ?_
        obtain ⟨h20, h⟩ := bck_i h
        refine r_get hκ (t := 0) (k := 0) (r := 34) h20 rfl in_X0 (by decide) rfl q573 (Or.inl rfl) dX0_lambda_does_13_59 ?_
        obtain ⟨h21, h⟩ := bck_i h
        refine r_get hκ (t := 1) (k := 0) (r := 66) h21 rfl in_X1 (by decide) rfl q540 (Or.inl rfl) dX0_lambda_does_13_62 ?_
        refine r_iload_n hκ 1 rfl rfl dX0_lambda_does_13_65 ?_
        obtain ⟨⟨h22, h23⟩, h⟩ := bck_i h
        refine r_aald hκ (t := 7) (by decide) h22 h23 dX0_lambda_does_13_66 ?_
        refine r_aload_n hκ 2 rfl rfl dX0_lambda_does_13_67 ?_
        obtain ⟨s9, v12, v13, h24, h⟩ := bclx_i h
        refine r_seq (A := (v13 = -1 → bJ κ s9 71 [(0, (2, x0)), (1, (0, x1)), (3, (2, x2))] [(0, v12)]) ∧ (¬ v13 = -1 → bT κ s9 68 [(0, (2, x0)), (1, (0, x1)), (3, (2, x2))] v12 v13)) ⟨fun h25 => ?_, fun h25 => ?_⟩ (fun k0 => r_xcallS hκ (n' := 2) (index := 304) (w_X0_does_2 Γ0 l0 h24) (lw_S q2240 q2241 q121 q2242) (by decide +kernel) rfl (by decide) rfl (Nat.le_of_ble_eq_true rfl) dX0_lambda_does_13_68 (r_xj1 k0.1) (r_xj2 k0.2))
        · replace h := (bte_i h).1 h25
          exact x_ret hκ hf (x_P h) (fun κ hκ hf => r_iret hκ hf (nar_int _) dX0_lambda_does_13_71)
        · replace h := (bte_i h).2 h25
          exact r_xout hκ ht hf (by decide) (x_P h)
      · replace h := (bte_i h).2 h19
        exact r_xout hκ ht hf (by decide) (x_P h)
  | b + 3, h => trivial
set_option maxHeartbeats 4000000 in
set_option maxRecDepth 100000 in
theorem w_X0_lambda_does_13 (Γ0 : bG) (l0 : Launch) {s0 st' : bS} {v xx a0 a1 a2 : Int} (h : F_X0_lambda_does_13 s0 a0 a1 a2 = some (st', v, xx)) : bCx Γ0 l0 yX0_lambda_does_13 (ws_ yX0_lambda_does_13 cX0_lambda_does_13 4 (some .int)) 16 3142 (some 0) [(2, a0), (0, a1), (0, a2)] s0 (bEq st' v xx) := by
  refine xb_ent (own := RX0) (by decide +kernel) rfl (Nat.le_of_ble_eq_true rfl) (L := [(0, (2, a0)), (1, (0, a1)), (2, (0, a2))]) rfl ?_
  intro κ hκ hi ht hf
  unfold F_X0_lambda_does_13 at h
  refine r_iload_n hκ 1 rfl rfl dX0_lambda_does_13_0 ?_
  obtain ⟨s1, v1, h1, h⟩ := bcl_i h
  refine r_callS hκ (n' := 1) (index := 62) (w_X0_isClient Γ0 l0 h1) (lw_S q2159 q2160 q121 q2161) (by decide +kernel) rfl (by decide) rfl (Nat.le_of_ble_eq_true rfl) dX0_lambda_does_13_1 ?_
  refine r_if_eq hκ (tgt := 18) (by decide) dX0_lambda_does_13_4 (fun h2 => ?_) (fun h2 => ?_)
  · replace h := (bte_i h).1 h2
    exact r_sub [0, 1, 2] rfl (w_X0_lambda_does_13_r hκ hi ht hf 0 _ _ _ _ _ h)
  · replace h := (bte_i h).2 h2
    refine r_iload_n hκ 2 rfl rfl dX0_lambda_does_13_7 ?_
    obtain ⟨s2, v2, h3, h⟩ := bcl_i h
    refine r_callS hκ (n' := 1) (index := 49) (w_X0_isEdit Γ0 l0 h3) (lw_S q796 q797 q121 q798) (by decide +kernel) rfl (by decide) rfl (Nat.le_of_ble_eq_true rfl) dX0_lambda_does_13_8 ?_
    refine r_if_eq hκ (tgt := 18) (by decide) dX0_lambda_does_13_11 (fun h4 => ?_) (fun h4 => ?_)
    · replace h := (bte_i h).1 h4
      exact r_sub [0, 1, 2] rfl (w_X0_lambda_does_13_r hκ hi ht hf 0 _ _ _ _ _ h)
    · replace h := (bte_i h).2 h4
      refine r_iconst hκ dX0_lambda_does_13_14 ?_
      refine r_goto hκ (tgt := 19) (by decide) dX0_lambda_does_13_15 ?_
      exact r_sub [0, 1, 2] rfl (w_X0_lambda_does_13_r hκ hi ht hf 1 _ _ _ _ _ h)
/-- EditsMeet.client(I)LEditsMeet$Client; -/
def F_X0_client (s0 : bS) (a0 a1 : Int) : Option (bS × Int × Int) :=
  bcl (F_X0_isClient s0 a1) fun s1 v1 =>
  bte (i32 v1 = 0)
  (bck (bc s1 + 1 ≤ bCM ∧ bk s1 + 7 ≤ bKM) <|
  bst (bnw s1 12 0 7) fun s2 =>
  bck (bg s2 0 (bnx s1 : Int) 0 = 12) <|
  bcl (F_X13_init s2 (bnx s1 : Int) (-2)) fun s3 v2 =>
  bck (bg s3 0 (bnx s1 : Int) 0 = 12) <|
  some (s3, (bnx s1 : Int), 0))
  (bck (bg s1 0 a0 0 = 1) <|
  bck (bg s1 0 (bg s1 34 a0 0) 0 = 2) <|
  bck (bg s1 0 (bg s1 66 (bg s1 34 a0 0) 0) 0 = 1007 ∧ (0 : Int) ≤ a1 ∧ a1 < bg s1 4 (bg s1 66 (bg s1 34 a0 0) 0) 0) <|
  some (s1, (bg s1 10 (bg s1 66 (bg s1 34 a0 0) 0) a1), -1))
set_option maxHeartbeats 4000000 in
set_option maxRecDepth 100000 in
theorem w_X0_client (Γ0 : bG) (l0 : Launch) {s0 st' : bS} {v xx a0 a1 : Int} (h : F_X0_client s0 a0 a1 = some (st', v, xx)) : bCx Γ0 l0 yX0_client (ws_ yX0_client cX0_client 2 (some (.object "EditsMeet$Client"))) 5 113 (some 2) [(2, a0), (0, a1)] s0 (bEq st' v xx) := by
  refine xb_ent (own := RX0) (by decide +kernel) rfl (Nat.le_of_ble_eq_true rfl) (L := [(0, (2, a0)), (1, (0, a1))]) rfl ?_
  intro κ hκ hi ht hf
  unfold F_X0_client at h
  refine r_iload_n hκ 1 rfl rfl dX0_client_0 ?_
  obtain ⟨s1, v1, h1, h⟩ := bcl_i h
  refine r_callS hκ (n' := 1) (index := 62) (w_X0_isClient Γ0 l0 h1) (lw_S q2159 q2160 q121 q2161) (by decide +kernel) rfl (by decide) rfl (Nat.le_of_ble_eq_true rfl) dX0_client_1 ?_
  refine r_if_ne hκ (tgt := 17) (by decide) dX0_client_4 (fun h2 => ?_) (fun h2 => ?_)
  · replace h := (bte_i h).2 h2
    refine r_aload_n hκ 0 rfl rfl dX0_client_17 ?_
    obtain ⟨h3, h⟩ := bck_i h
    refine r_get hκ (t := 0) (k := 0) (r := 34) h3 rfl in_X0 (by decide) rfl q573 (Or.inl rfl) dX0_client_18 ?_
    obtain ⟨h4, h⟩ := bck_i h
    refine r_get hκ (t := 1) (k := 0) (r := 66) h4 rfl in_X1 (by decide) rfl q540 (Or.inl rfl) dX0_client_21 ?_
    refine r_iload_n hκ 1 rfl rfl dX0_client_24 ?_
    obtain ⟨⟨h5, h6⟩, h⟩ := bck_i h
    refine r_aald hκ (t := 7) (by decide) h5 h6 dX0_client_25 ?_
    exact x_ret hκ hf (x_P h) (fun κ hκ hf => r_aret hκ hf rt_o dX0_client_26)
  · replace h := (bte_i h).1 h2
    obtain ⟨h7, h⟩ := bck_i h
    refine r_new hκ (t := 11) tyX13 tyX13_ok dfX13 rfl in_X13 q641 q666 q149 h7 dX0_client_7 (fun s2 es2 => ?_)
    replace h := bst_i h s2 es2
    refine r_dup hκ (bd_cat2k _) dX0_client_10 ?_
    refine r_bipush hκ (by decide) dX0_client_11 ?_
    obtain ⟨h8, h⟩ := bck_i h
    obtain ⟨s3, v2, h9, h⟩ := bcl_i h
    refine r_callI hκ (n' := 1) (index := 55) (w_X13_init Γ0 l0 h9) (lw_meth q676) q149 q674 q675 rfl (by decide +kernel) (t := 11) h8 rfl rfl (by decide) rfl (Nat.le_of_ble_eq_true rfl) dX0_client_13 ?_
    obtain ⟨h10, h⟩ := bck_i h
    refine r_athrow hκ (t := 11) (jn := 0) h10 rfl rfl dX0_client_16 ?_
    exact r_xout hκ ht hf (by decide) (x_P h)
/-- EditsMeet.one(I)Ljava/lang/String; -/
def F_X0_one (s0 : bS) (a0 : Int) : Option (bS × Int) :=
  bck (bc s0 + 1 ≤ bCM ∧ bk s0 + 4 ≤ bKM) <|
  bst (bnw s0 19 0 4) fun s1 =>
  bck (bg s1 0 (bnx s0 : Int) 0 = 19) <|
  bcl (F_J1_init s1 (bnx s0 : Int)) fun s2 v1 =>
  bck (bg s2 0 (bnx s0 : Int) 0 = 19) <|
  bcl (F_J1_append s2 (bnx s0 : Int) (bg s2 1 (-(2 + 10)) 0)) fun s3 v2 =>
  bck (bg s3 0 v2 0 = 19) <|
  bcl (F_J1_append_2 s3 v2 (b_i2c a0)) fun s4 v3 =>
  bck (bg s4 0 v3 0 = 19) <|
  bcl (F_J1_toString s4 v3) fun s5 v4 =>
  some (s5, v4)
set_option maxHeartbeats 4000000 in
set_option maxRecDepth 100000 in
theorem w_X0_one (Γ0 : bG) (l0 : Launch) {s0 st' : bS} {v a0 : Int} (h : F_X0_one s0 a0 = some (st', v)) : bCt Γ0 l0 yX0_one cX0_one 1 (some (.object "java/lang/String")) 7 156 [(0, a0)] s0 st' (some (2, v)) := by
  refine b_ent (own := RX0) (by decide +kernel) rfl (Nat.le_of_ble_eq_true rfl) (L := [(0, (0, a0))]) rfl ?_
  intro κ hκ hi hf
  unfold F_X0_one at h
  obtain ⟨h1, h⟩ := bck_i h
  refine r_new hκ (t := 18) tyJ1 tyJ1_ok dfJ1 rfl in_J1 q2431 q200 q125 h1 dX0_one_0 (fun s1 es1 => ?_)
  replace h := bst_i h s1 es1
  refine r_dup hκ (bd_cat2k _) dX0_one_3 ?_
  obtain ⟨h2, h⟩ := bck_i h
  obtain ⟨s2, v1, h3, h⟩ := bcl_i h
  refine r_callI hκ (n' := 0) (index := 279) (w_J1_init Γ0 l0 h3) (lw_meth q203) q125 q2432 q202 rfl (by decide +kernel) (t := 18) h2 rfl rfl (by decide) rfl (Nat.le_of_ble_eq_true rfl) dX0_one_4 ?_
  refine r_ldcsw hκ (j := 10) (tx := "") (by decide +kernel) dX0_one_7 ?_
  obtain ⟨h4, h⟩ := bck_i h
  obtain ⟨s3, v2, h5, h⟩ := bcl_i h
  refine r_callV hκ (n' := 1) (index := 282) (w_J1_append Γ0 l0 h5) (lw_V q2434 q1015 q1016 q125 q1017) (by decide +kernel) (t := 18) h4 rfl rfl (by decide) rfl (Nat.le_of_ble_eq_true rfl) dX0_one_10 ?_
  refine r_iload_n hκ 0 rfl rfl dX0_one_13 ?_
  refine r_i2c hκ dX0_one_14 ?_
  obtain ⟨h6, h⟩ := bck_i h
  obtain ⟨s4, v3, h7, h⟩ := bcl_i h
  refine r_callV hκ (n' := 1) (index := 286) (w_J1_append_2 Γ0 l0 h7) (lw_V q2435 q1114 q1115 q125 q1116) (by decide +kernel) (t := 18) h6 rfl rfl (by decide) rfl (Nat.le_of_ble_eq_true rfl) dX0_one_15 ?_
  obtain ⟨h8, h⟩ := bck_i h
  obtain ⟨s5, v4, h9, h⟩ := bcl_i h
  refine r_callV hκ (n' := 0) (index := 289) (w_J1_toString Γ0 l0 h9) (lw_V q2436 q1127 q1128 q125 q1129) (by decide +kernel) (t := 18) h8 rfl rfl (by decide) rfl (Nat.le_of_ble_eq_true rfl) dX0_one_18 ?_
  exact r_aretH hκ hf h rt_o dX0_one_21
/-- EditsMeet.inserts(LEditsMeet$Client;III)I -/
def F_X0_inserts_r (b : Nat) (x0 x1 x2 x3 x4 : Int) (s0 : bS) : Option (bS × Int × Int) :=
  match b with
  | 0 =>
    bclx (F_X0_may s0 x4 (-6)) fun s2 v2 v3 =>
    bte (v3 = -1)
    (bck (bg s2 0 x0 0 = 8) <|
    bcl (F_X0_one s2 (97 + x2)) fun s3 v4 =>
    bcl (F_X0_one s3 x3) fun s4 v5 =>
    bcl (F_X5_insert s4 v4 v5) fun s5 v6 =>
    bck (bg s5 0 (bg s2 146 x0 0) 0 = 3) <|
    bcl (F_X2_edit s5 (bg s2 146 x0 0) x1 v6) fun s6 v7 =>
    bclx (F_X0_does_2 s6 x0 v7) fun s7 v8 v9 =>
    bte (v9 = -1)
    (some (s7, v8, -1))
    (some (s7, v8, v9)))
    (some (s2, v2, v3))
  | _ => none
def F_X0_inserts (s0 : bS) (a0 a1 a2 a3 : Int) : Option (bS × Int × Int) :=
  bck (bg s0 0 a0 0 = 8) <|
  bck (bg s0 0 (bg s0 146 a0 0) 0 = 3) <|
  bcl (F_X2_length s0 (bg s0 146 a0 0)) fun s1 v1 =>
  bte (i32 60 ≤ i32 v1)
  (F_X0_inserts_r 0 a0 a1 a2 a3 0 s1)
  (F_X0_inserts_r 0 a0 a1 a2 a3 1 s1)
set_option maxHeartbeats 4000000 in
set_option maxRecDepth 100000 in
set_option synthInstance.maxHeartbeats 4000000 in
theorem w_X0_inserts_r {Γ0 : bG} {l0 : Launch} {κ : bK} {st' : bS} {v xx : Int} (hκ : bOk κ Γ0 l0 cX0_inserts RX0 4 16 3142) (hi : bIn κ yX0_inserts) (ht : xTab κ []) (hf : xFin κ (some .int) (some 0) (bEq st' v xx)) (b : Nat) (x0 x1 x2 x3 x4 : Int) (s0 : bS) (h : F_X0_inserts_r b x0 x1 x2 x3 x4 s0 = some (st', v, xx)) : match (generalizing := false) b with | 0 => bJ κ s0 17 [(0, (2, x0)), (1, (0, x1)), (2, (0, x2)), (3, (0, x3))] [(0, x4)] | _ => True := by
  unfold F_X0_inserts_r at h
  match b, h with
  | 0, h =>
      refine r_bipush hκ (by decide) dX0_inserts_17 ?_
      obtain ⟨s2, v2, v3, h5, h⟩ := bclx_i h
      refine r_seq (A := (v3 = -1 → bJ κ s2 22 [(0, (2, x0)), (1, (0, x1)), (2, (0, x2)), (3, (0, x3))] []) ∧ (¬ v3 = -1 → bT κ s2 19 [(0, (2, x0)), (1, (0, x1)), (2, (0, x2)), (3, (0, x3))] v2 v3)) ⟨fun h6 => ?_, fun h6 => ?_⟩ (fun k0 => r_xcallS hκ (n' := 2) (index := 196) (w_X0_may Γ0 l0 h5) (lw_S q799 q800 q121 q801) (by decide +kernel) rfl (by decide) rfl (Nat.le_of_ble_eq_true rfl) dX0_inserts_19 (r_xj1 k0.1) (r_xj2 k0.2))
      · replace h := (bte_i h).1 h6
        refine r_aload_n hκ 0 rfl rfl dX0_inserts_22 ?_
        refine r_aload_n hκ 0 rfl rfl dX0_inserts_23 ?_
        obtain ⟨h7, h⟩ := bck_i h
        refine r_get hκ (t := 7) (k := 0) (r := 146) h7 rfl in_X9 (by decide) rfl q486 (Or.inl rfl) dX0_inserts_24 ?_
        refine r_iload_n hκ 1 rfl rfl dX0_inserts_27 ?_
        refine r_bipush hκ (by decide) dX0_inserts_28 ?_
        refine r_iload_n hκ 2 rfl rfl dX0_inserts_30 ?_
        refine r_iadd hκ dX0_inserts_31 ?_
        obtain ⟨s3, v4, h8, h⟩ := bcl_i h
        refine r_callS hκ (n' := 1) (index := 293) (w_X0_one Γ0 l0 h8) (lw_S q2428 q2429 q121 q2430) (by decide +kernel) rfl (by decide) rfl (Nat.le_of_ble_eq_true rfl) dX0_inserts_32 ?_
        refine r_iload_n hκ 3 rfl rfl dX0_inserts_35 ?_
        obtain ⟨s4, v5, h9, h⟩ := bcl_i h
        refine r_callS hκ (n' := 1) (index := 293) (w_X0_one Γ0 l0 h9) (lw_S q2428 q2429 q121 q2430) (by decide +kernel) rfl (by decide) rfl (Nat.le_of_ble_eq_true rfl) dX0_inserts_36 ?_
        obtain ⟨s5, v6, h10, h⟩ := bcl_i h
        refine r_callS hκ (n' := 2) (index := 297) (w_X5_insert Γ0 l0 h10) (lw_S q2437 q1295 q137 q1296) (by decide +kernel) rfl (by decide) rfl (Nat.le_of_ble_eq_true rfl) dX0_inserts_39 ?_
        obtain ⟨h11, h⟩ := bck_i h
        obtain ⟨s6, v7, h12, h⟩ := bcl_i h
        refine r_callV hκ (n' := 2) (index := 301) (w_X2_edit Γ0 l0 h12) (lw_V q2438 q2439 q2440 q123 q2441) (by decide +kernel) (t := 2) h11 rfl rfl (by decide) rfl (Nat.le_of_ble_eq_true rfl) dX0_inserts_42 ?_
        obtain ⟨s7, v8, v9, h13, h⟩ := bclx_i h
        refine r_seq (A := (v9 = -1 → bJ κ s7 48 [(0, (2, x0)), (1, (0, x1)), (2, (0, x2)), (3, (0, x3))] [(0, v8)]) ∧ (¬ v9 = -1 → bT κ s7 45 [(0, (2, x0)), (1, (0, x1)), (2, (0, x2)), (3, (0, x3))] v8 v9)) ⟨fun h14 => ?_, fun h14 => ?_⟩ (fun k0 => r_xcallS hκ (n' := 2) (index := 304) (w_X0_does_2 Γ0 l0 h13) (lw_S q2240 q2241 q121 q2242) (by decide +kernel) rfl (by decide) rfl (Nat.le_of_ble_eq_true rfl) dX0_inserts_45 (r_xj1 k0.1) (r_xj2 k0.2))
        · replace h := (bte_i h).1 h14
          exact x_ret hκ hf (x_P h) (fun κ hκ hf => r_iret hκ hf (nar_int _) dX0_inserts_48)
        · replace h := (bte_i h).2 h14
          exact r_xout hκ ht hf (by decide) (x_P h)
      · replace h := (bte_i h).2 h6
        exact r_xout hκ ht hf (by decide) (x_P h)
  | b + 1, h => trivial
set_option maxHeartbeats 4000000 in
set_option maxRecDepth 100000 in
theorem w_X0_inserts (Γ0 : bG) (l0 : Launch) {s0 st' : bS} {v xx a0 a1 a2 a3 : Int} (h : F_X0_inserts s0 a0 a1 a2 a3 = some (st', v, xx)) : bCx Γ0 l0 yX0_inserts (ws_ yX0_inserts cX0_inserts 4 (some .int)) 16 3142 (some 0) [(2, a0), (0, a1), (0, a2), (0, a3)] s0 (bEq st' v xx) := by
  refine xb_ent (own := RX0) (by decide +kernel) rfl (Nat.le_of_ble_eq_true rfl) (L := [(0, (2, a0)), (1, (0, a1)), (2, (0, a2)), (3, (0, a3))]) rfl ?_
  intro κ hκ hi ht hf
  unfold F_X0_inserts at h
  refine r_aload_n hκ 0 rfl rfl dX0_inserts_0 ?_
  obtain ⟨h1, h⟩ := bck_i h
  refine r_get hκ (t := 7) (k := 0) (r := 146) h1 rfl in_X9 (by decide) rfl q486 (Or.inl rfl) dX0_inserts_1 ?_
  obtain ⟨h2, h⟩ := bck_i h
  obtain ⟨s1, v1, h3, h⟩ := bcl_i h
  refine r_callV hκ (n' := 0) (index := 245) (w_X2_length Γ0 l0 h3) (lw_V q2166 q2167 q2168 q123 q2169) (by decide +kernel) (t := 2) h2 rfl rfl (by decide) rfl (Nat.le_of_ble_eq_true rfl) dX0_inserts_4 ?_
  refine r_bipush hκ (by decide) dX0_inserts_7 ?_
  refine r_icmp_ge hκ (tgt := 16) (by decide) dX0_inserts_9 (fun h4 => ?_) (fun h4 => ?_)
  · replace h := (bte_i h).1 h4
    refine r_iconst hκ dX0_inserts_16 ?_
    exact r_sub [0, 1, 2, 3] rfl (w_X0_inserts_r hκ hi ht hf 0 _ _ _ _ _ _ h)
  · replace h := (bte_i h).2 h4
    refine r_iconst hκ dX0_inserts_12 ?_
    refine r_goto hκ (tgt := 17) (by decide) dX0_inserts_13 ?_
    exact r_sub [0, 1, 2, 3] rfl (w_X0_inserts_r hκ hi ht hf 0 _ _ _ _ _ _ h)
/-- EditsMeet.lambda$insert$14(IIII)I -/
def F_X0_lambda_insert_14_r (b : Nat) (x0 x1 x2 x3 x4 : Int) (s0 : bS) : Option (bS × Int × Int) :=
  match b with
  | 0 =>
    F_X0_lambda_insert_14_r 1 x0 x1 x2 x3 0 s0
  | 1 =>
    bclx (F_X0_may s0 x4 (-2)) fun s6 v7 v8 =>
    bte (v8 = -1)
    (bclx (F_X0_inserts s6 x3 x0 x1 x2) fun s7 v9 v10 =>
    bte (v10 = -1)
    (some (s7, v9, -1))
    (some (s7, v9, v10)))
    (some (s6, v7, v8))
  | _ => none
partial_fixpoint
def F_X0_lambda_insert_14 (s0 : bS) (a0 a1 a2 a3 a4 : Int) : Option (bS × Int × Int) :=
  bck (bg s0 0 a0 0 = 1) <|
  bclx (F_X0_client s0 a0 a1) fun s1 v1 v2 =>
  bte (v2 = -1)
  (bck (bg s1 0 v1 0 = 8) <|
  bck (bg s1 0 (bg s1 146 v1 0) 0 = 3) <|
  bcl (F_X2_length s1 (bg s1 146 v1 0)) fun s2 v3 =>
  bcl (F_X0_isIn s2 a2 0 v3) fun s3 v4 =>
  bte (i32 v4 = 0)
  (F_X0_lambda_insert_14_r 0 a2 a3 a4 v1 0 s3)
  (bcl (F_X0_isIn s3 a3 0 25) fun s4 v5 =>
  bte (i32 v5 = 0)
  (F_X0_lambda_insert_14_r 0 a2 a3 a4 v1 0 s4)
  (bcl (F_X0_isIn s4 a4 0 15) fun s5 v6 =>
  bte (i32 v6 = 0)
  (F_X0_lambda_insert_14_r 0 a2 a3 a4 v1 0 s5)
  (F_X0_lambda_insert_14_r 1 a2 a3 a4 v1 1 s5))))
  (some (s1, v1, v2))
set_option maxHeartbeats 4000000 in
set_option maxRecDepth 100000 in
set_option synthInstance.maxHeartbeats 4000000 in
theorem w_X0_lambda_insert_14_r {Γ0 : bG} {l0 : Launch} {κ : bK} {st' : bS} {v xx : Int} (hκ : bOk κ Γ0 l0 cX0_lambda_insert_14 RX0 6 17 3165) (hi : bIn κ yX0_lambda_insert_14) (ht : xTab κ []) (hf : xFin κ (some .int) (some 0) (bEq st' v xx)) (b : Nat) (x0 x1 x2 x3 x4 : Int) (s0 : bS) (h : F_X0_lambda_insert_14_r b x0 x1 x2 x3 x4 s0 = some (st', v, xx)) : match (generalizing := false) b with | 0 => bJ κ s0 48 [(2, (0, x0)), (3, (0, x1)), (4, (0, x2)), (5, (2, x3))] [] | 1 => bJ κ s0 49 [(2, (0, x0)), (3, (0, x1)), (4, (0, x2)), (5, (2, x3))] [(0, x4)] | _ => True := by
  refine F_X0_lambda_insert_14_r.partial_correctness x0 x1 x2 x3 s0 (fun b x4 r => r = (st', v, xx) → match (generalizing := false) b with | 0 => bJ κ s0 48 [(2, (0, x0)), (3, (0, x1)), (4, (0, x2)), (5, (2, x3))] [] | 1 => bJ κ s0 49 [(2, (0, x0)), (3, (0, x1)), (4, (0, x2)), (5, (2, x3))] [(0, x4)] | _ => True) ?_ b x4 _ h rfl
  intro f' ih b x4 r h hr
  subst hr
  match b, h with
  | 0, h =>
      refine r_iconst hκ dX0_lambda_insert_14_48 ?_
      exact r_sub [0, 1, 2, 3] rfl (ih 1 _ _ h rfl)
  | 1, h =>
      refine r_bipush hκ (by decide) dX0_lambda_insert_14_49 ?_
      obtain ⟨s6, v7, v8, h13, h⟩ := bclx_i h
      refine r_seq (A := (v8 = -1 → bJ κ s6 54 [(2, (0, x0)), (3, (0, x1)), (4, (0, x2)), (5, (2, x3))] []) ∧ (¬ v8 = -1 → bT κ s6 51 [(2, (0, x0)), (3, (0, x1)), (4, (0, x2)), (5, (2, x3))] v7 v8)) ⟨fun h14 => ?_, fun h14 => ?_⟩ (fun k0 => r_xcallS hκ (n' := 2) (index := 196) (w_X0_may Γ0 l0 h13) (lw_S q799 q800 q121 q801) (by decide +kernel) rfl (by decide) rfl (Nat.le_of_ble_eq_true rfl) dX0_lambda_insert_14_51 (r_xj1 k0.1) (r_xj2 k0.2))
      · replace h := (bte_i h).1 h14
        refine r_aload hκ 3 rfl dX0_lambda_insert_14_54 ?_
        refine r_iload_n hκ 0 rfl rfl dX0_lambda_insert_14_56 ?_
        refine r_iload_n hκ 1 rfl rfl dX0_lambda_insert_14_57 ?_
        refine r_iload hκ 2 rfl dX0_lambda_insert_14_58 ?_
        obtain ⟨s7, v9, v10, h15, h⟩ := bclx_i h
        refine r_seq (A := (v10 = -1 → bJ κ s7 63 [(2, (0, x0)), (3, (0, x1)), (4, (0, x2)), (5, (2, x3))] [(0, v9)]) ∧ (¬ v10 = -1 → bT κ s7 60 [(2, (0, x0)), (3, (0, x1)), (4, (0, x2)), (5, (2, x3))] v9 v10)) ⟨fun h16 => ?_, fun h16 => ?_⟩ (fun k0 => r_xcallS hκ (n' := 4) (index := 415) (w_X0_inserts Γ0 l0 h15) (lw_S q2425 q2426 q121 q2427) (by decide +kernel) rfl (by decide) rfl (Nat.le_of_ble_eq_true rfl) dX0_lambda_insert_14_60 (r_xj1 k0.1) (r_xj2 k0.2))
        · replace h := (bte_i h).1 h16
          exact x_ret hκ hf (x_P h) (fun κ hκ hf => r_iret hκ hf (nar_int _) dX0_lambda_insert_14_63)
        · replace h := (bte_i h).2 h16
          exact r_xout hκ ht hf (by decide) (x_P h)
      · replace h := (bte_i h).2 h14
        exact r_xout hκ ht hf (by decide) (x_P h)
  | b + 2, h => trivial
set_option maxHeartbeats 4000000 in
set_option maxRecDepth 100000 in
theorem w_X0_lambda_insert_14 (Γ0 : bG) (l0 : Launch) {s0 st' : bS} {v xx a0 a1 a2 a3 a4 : Int} (h : F_X0_lambda_insert_14 s0 a0 a1 a2 a3 a4 = some (st', v, xx)) : bCx Γ0 l0 yX0_lambda_insert_14 (ws_ yX0_lambda_insert_14 cX0_lambda_insert_14 6 (some .int)) 17 3165 (some 0) [(2, a0), (0, a1), (0, a2), (0, a3), (0, a4)] s0 (bEq st' v xx) := by
  refine xb_ent (own := RX0) (by decide +kernel) rfl (Nat.le_of_ble_eq_true rfl) (L := [(0, (2, a0)), (1, (0, a1)), (2, (0, a2)), (3, (0, a3)), (4, (0, a4))]) rfl ?_
  intro κ hκ hi ht hf
  unfold F_X0_lambda_insert_14 at h
  refine r_aload_n hκ 0 rfl rfl dX0_lambda_insert_14_0 ?_
  refine r_iload_n hκ 1 rfl rfl dX0_lambda_insert_14_1 ?_
  obtain ⟨h2, h⟩ := bck_i h
  obtain ⟨s1, v1, v2, h1, h⟩ := bclx_i h
  refine r_seq (A := (v2 = -1 → bJ κ s1 5 [(0, (2, a0)), (1, (0, a1)), (2, (0, a2)), (3, (0, a3)), (4, (0, a4))] [(2, v1)]) ∧ (¬ v2 = -1 → bT κ s1 2 [(0, (2, a0)), (1, (0, a1)), (2, (0, a2)), (3, (0, a3)), (4, (0, a4))] v1 v2)) ⟨fun h3 => ?_, fun h3 => ?_⟩ (fun k0 => r_xcallV hκ (n' := 1) (index := 322) (w_X0_client Γ0 l0 h1) (lw_V q2421 q2423 qs44 q121 q2424) (by decide +kernel) (t := 0) h2 rfl rfl (by decide) rfl (Nat.le_of_ble_eq_true rfl) dX0_lambda_insert_14_2 (r_xj1 k0.1) (r_xj2 k0.2))
  · replace h := (bte_i h).1 h3
    refine r_astore hκ (L2 := [(5, (2, v1)), (0, (2, a0)), (1, (0, a1)), (2, (0, a2)), (3, (0, a3)), (4, (0, a4))]) (by decide) rfl dX0_lambda_insert_14_5 ?_
    refine r_iload_n hκ 3 rfl rfl dX0_lambda_insert_14_7 ?_
    refine r_iconst hκ dX0_lambda_insert_14_8 ?_
    refine r_aload hκ 0 rfl dX0_lambda_insert_14_9 ?_
    obtain ⟨h4, h⟩ := bck_i h
    refine r_get hκ (t := 7) (k := 0) (r := 146) h4 rfl in_X9 (by decide) rfl q486 (Or.inl rfl) dX0_lambda_insert_14_11 ?_
    obtain ⟨h5, h⟩ := bck_i h
    obtain ⟨s2, v3, h6, h⟩ := bcl_i h
    refine r_callV hκ (n' := 0) (index := 245) (w_X2_length Γ0 l0 h6) (lw_V q2166 q2167 q2168 q123 q2169) (by decide +kernel) (t := 2) h5 rfl rfl (by decide) rfl (Nat.le_of_ble_eq_true rfl) dX0_lambda_insert_14_14 ?_
    obtain ⟨s3, v4, h7, h⟩ := bcl_i h
    refine r_callS hκ (n' := 3) (index := 45) (w_X0_isIn Γ0 l0 h7) (lw_S q624 q625 q121 q626) (by decide +kernel) rfl (by decide) rfl (Nat.le_of_ble_eq_true rfl) dX0_lambda_insert_14_17 ?_
    refine r_if_eq hκ (tgt := 48) (by decide) dX0_lambda_insert_14_20 (fun h8 => ?_) (fun h8 => ?_)
    · replace h := (bte_i h).1 h8
      exact r_sub [3, 4, 5, 0] rfl (w_X0_lambda_insert_14_r hκ hi ht hf 0 _ _ _ _ _ _ h)
    · replace h := (bte_i h).2 h8
      refine r_iload_n hκ 4 rfl rfl dX0_lambda_insert_14_23 ?_
      refine r_iconst hκ dX0_lambda_insert_14_24 ?_
      refine r_bipush hκ (by decide) dX0_lambda_insert_14_25 ?_
      obtain ⟨s4, v5, h9, h⟩ := bcl_i h
      refine r_callS hκ (n' := 3) (index := 45) (w_X0_isIn Γ0 l0 h9) (lw_S q624 q625 q121 q626) (by decide +kernel) rfl (by decide) rfl (Nat.le_of_ble_eq_true rfl) dX0_lambda_insert_14_27 ?_
      refine r_if_eq hκ (tgt := 48) (by decide) dX0_lambda_insert_14_30 (fun h10 => ?_) (fun h10 => ?_)
      · replace h := (bte_i h).1 h10
        exact r_sub [3, 4, 5, 0] rfl (w_X0_lambda_insert_14_r hκ hi ht hf 0 _ _ _ _ _ _ h)
      · replace h := (bte_i h).2 h10
        refine r_iload hκ 5 rfl dX0_lambda_insert_14_33 ?_
        refine r_iconst hκ dX0_lambda_insert_14_35 ?_
        refine r_bipush hκ (by decide) dX0_lambda_insert_14_36 ?_
        obtain ⟨s5, v6, h11, h⟩ := bcl_i h
        refine r_callS hκ (n' := 3) (index := 45) (w_X0_isIn Γ0 l0 h11) (lw_S q624 q625 q121 q626) (by decide +kernel) rfl (by decide) rfl (Nat.le_of_ble_eq_true rfl) dX0_lambda_insert_14_38 ?_
        refine r_if_eq hκ (tgt := 48) (by decide) dX0_lambda_insert_14_41 (fun h12 => ?_) (fun h12 => ?_)
        · replace h := (bte_i h).1 h12
          exact r_sub [3, 4, 5, 0] rfl (w_X0_lambda_insert_14_r hκ hi ht hf 0 _ _ _ _ _ _ h)
        · replace h := (bte_i h).2 h12
          refine r_iconst hκ dX0_lambda_insert_14_44 ?_
          refine r_goto hκ (tgt := 49) (by decide) dX0_lambda_insert_14_45 ?_
          exact r_sub [3, 4, 5, 0] rfl (w_X0_lambda_insert_14_r hκ hi ht hf 1 _ _ _ _ _ _ h)
  · replace h := (bte_i h).2 h3
    exact r_xout hκ ht hf (by decide) (x_P h)
/-- EditsMeet.areThere(LEditsMeet$Text;II)Z -/
def F_X0_areThere (s0 : bS) (a0 a1 a2 : Int) : Option (bS × Int) :=
  bte (i32 a1 < 0)
  (some (s0, 0))
  (bte (i32 a2 < i32 1)
  (some (s0, 0))
  (bck (bg s0 0 a0 0 = 3) <|
  bcl (F_X2_length s0 a0) fun s1 v1 =>
  bte (i32 (v1 - a1) < i32 a2)
  (some (s1, 0))
  (some (s1, 1))))
set_option maxHeartbeats 4000000 in
set_option maxRecDepth 100000 in
theorem w_X0_areThere (Γ0 : bG) (l0 : Launch) {s0 st' : bS} {v a0 a1 a2 : Int} (h : F_X0_areThere s0 a0 a1 a2 = some (st', v)) : bCt Γ0 l0 yX0_areThere cX0_areThere 3 (some .boolean) 3 60 [(2, a0), (0, a1), (0, a2)] s0 st' (some (0, v)) := by
  refine b_ent (own := RX0) (by decide +kernel) rfl (Nat.le_of_ble_eq_true rfl) (L := [(0, (2, a0)), (1, (0, a1)), (2, (0, a2))]) rfl ?_
  intro κ hκ hi hf
  unfold F_X0_areThere at h
  refine r_iload_n hκ 1 rfl rfl dX0_areThere_0 ?_
  refine r_if_lt hκ (tgt := 23) (by decide) dX0_areThere_1 (fun h1 => ?_) (fun h1 => ?_)
  · replace h := (bte_i h).1 h1
    refine r_iconst hκ dX0_areThere_23 ?_
    exact r_iretH hκ hf h (nar_bool (by decide)) dX0_areThere_24
  · replace h := (bte_i h).2 h1
    refine r_iload_n hκ 2 rfl rfl dX0_areThere_4 ?_
    refine r_iconst hκ dX0_areThere_5 ?_
    refine r_icmp_lt hκ (tgt := 23) (by decide) dX0_areThere_6 (fun h2 => ?_) (fun h2 => ?_)
    · replace h := (bte_i h).1 h2
      refine r_iconst hκ dX0_areThere_23 ?_
      exact r_iretH hκ hf h (nar_bool (by decide)) dX0_areThere_24
    · replace h := (bte_i h).2 h2
      refine r_iload_n hκ 2 rfl rfl dX0_areThere_9 ?_
      refine r_aload_n hκ 0 rfl rfl dX0_areThere_10 ?_
      obtain ⟨h3, h⟩ := bck_i h
      obtain ⟨s1, v1, h4, h⟩ := bcl_i h
      refine r_callV hκ (n' := 0) (index := 245) (w_X2_length Γ0 l0 h4) (lw_V q2166 q2167 q2168 q123 q2169) (by decide +kernel) (t := 2) h3 rfl rfl (by decide) rfl (Nat.le_of_ble_eq_true rfl) dX0_areThere_11 ?_
      refine r_iload_n hκ 1 rfl rfl dX0_areThere_14 ?_
      refine r_isub hκ dX0_areThere_15 ?_
      refine r_icmp_gt hκ (tgt := 23) (by decide) dX0_areThere_16 (fun h5 => ?_) (fun h5 => ?_)
      · replace h := (bte_i h).1 h5
        refine r_iconst hκ dX0_areThere_23 ?_
        exact r_iretH hκ hf h (nar_bool (by decide)) dX0_areThere_24
      · replace h := (bte_i h).2 h5
        refine r_iconst hκ dX0_areThere_19 ?_
        refine r_goto hκ (tgt := 24) (by decide) dX0_areThere_20 ?_
        exact r_iretH hκ hf h (nar_bool (by decide)) dX0_areThere_24
/-- EditsMeet.lambda$cut$15(III)I -/
def F_X0_lambda_cut_15 (s0 : bS) (a0 a1 a2 a3 : Int) : Option (bS × Int × Int) :=
  bck (bg s0 0 a0 0 = 1) <|
  bclx (F_X0_client s0 a0 a1) fun s1 v1 v2 =>
  bte (v2 = -1)
  (bck (bg s1 0 v1 0 = 8) <|
  bcl (F_X0_areThere s1 (bg s1 146 v1 0) a2 a3) fun s2 v3 =>
  bclx (F_X0_may s2 v3 (-2)) fun s3 v4 v5 =>
  bte (v5 = -1)
  (bck (bg s3 0 v1 0 = 8) <|
  bcl (F_X5_delete s3 a3) fun s4 v6 =>
  bck (bg s4 0 (bg s3 146 v1 0) 0 = 3) <|
  bcl (F_X2_edit s4 (bg s3 146 v1 0) a2 v6) fun s5 v7 =>
  bclx (F_X0_does_2 s5 v1 v7) fun s6 v8 v9 =>
  bte (v9 = -1)
  (some (s6, v8, -1))
  (some (s6, v8, v9)))
  (some (s3, v4, v5)))
  (some (s1, v1, v2))
set_option maxHeartbeats 4000000 in
set_option maxRecDepth 100000 in
theorem w_X0_lambda_cut_15 (Γ0 : bG) (l0 : Launch) {s0 st' : bS} {v xx a0 a1 a2 a3 : Int} (h : F_X0_lambda_cut_15 s0 a0 a1 a2 a3 = some (st', v, xx)) : bCx Γ0 l0 yX0_lambda_cut_15 (ws_ yX0_lambda_cut_15 cX0_lambda_cut_15 5 (some .int)) 16 3142 (some 0) [(2, a0), (0, a1), (0, a2), (0, a3)] s0 (bEq st' v xx) := by
  refine xb_ent (own := RX0) (by decide +kernel) rfl (Nat.le_of_ble_eq_true rfl) (L := [(0, (2, a0)), (1, (0, a1)), (2, (0, a2)), (3, (0, a3))]) rfl ?_
  intro κ hκ hi ht hf
  unfold F_X0_lambda_cut_15 at h
  refine r_aload_n hκ 0 rfl rfl dX0_lambda_cut_15_0 ?_
  refine r_iload_n hκ 1 rfl rfl dX0_lambda_cut_15_1 ?_
  obtain ⟨h2, h⟩ := bck_i h
  obtain ⟨s1, v1, v2, h1, h⟩ := bclx_i h
  refine r_seq (A := (v2 = -1 → bJ κ s1 5 [(0, (2, a0)), (1, (0, a1)), (2, (0, a2)), (3, (0, a3))] [(2, v1)]) ∧ (¬ v2 = -1 → bT κ s1 2 [(0, (2, a0)), (1, (0, a1)), (2, (0, a2)), (3, (0, a3))] v1 v2)) ⟨fun h3 => ?_, fun h3 => ?_⟩ (fun k0 => r_xcallV hκ (n' := 1) (index := 322) (w_X0_client Γ0 l0 h1) (lw_V q2421 q2423 qs44 q121 q2424) (by decide +kernel) (t := 0) h2 rfl rfl (by decide) rfl (Nat.le_of_ble_eq_true rfl) dX0_lambda_cut_15_2 (r_xj1 k0.1) (r_xj2 k0.2))
  · replace h := (bte_i h).1 h3
    refine r_astore hκ (L2 := [(4, (2, v1)), (0, (2, a0)), (1, (0, a1)), (2, (0, a2)), (3, (0, a3))]) (by decide) rfl dX0_lambda_cut_15_5 ?_
    refine r_aload hκ 0 rfl dX0_lambda_cut_15_7 ?_
    obtain ⟨h4, h⟩ := bck_i h
    refine r_get hκ (t := 7) (k := 0) (r := 146) h4 rfl in_X9 (by decide) rfl q486 (Or.inl rfl) dX0_lambda_cut_15_9 ?_
    refine r_iload_n hκ 3 rfl rfl dX0_lambda_cut_15_12 ?_
    refine r_iload_n hκ 4 rfl rfl dX0_lambda_cut_15_13 ?_
    obtain ⟨s2, v3, h5, h⟩ := bcl_i h
    refine r_callS hκ (n' := 3) (index := 482) (w_X0_areThere Γ0 l0 h5) (lw_S q2453 q2454 q121 q2455) (by decide +kernel) rfl (by decide) rfl (Nat.le_of_ble_eq_true rfl) dX0_lambda_cut_15_14 ?_
    refine r_bipush hκ (by decide) dX0_lambda_cut_15_17 ?_
    obtain ⟨s3, v4, v5, h6, h⟩ := bclx_i h
    refine r_seq (A := (v5 = -1 → bJ κ s3 22 [(4, (2, v1)), (0, (2, a0)), (1, (0, a1)), (2, (0, a2)), (3, (0, a3))] []) ∧ (¬ v5 = -1 → bT κ s3 19 [(4, (2, v1)), (0, (2, a0)), (1, (0, a1)), (2, (0, a2)), (3, (0, a3))] v4 v5)) ⟨fun h7 => ?_, fun h7 => ?_⟩ (fun k0 => r_xcallS hκ (n' := 2) (index := 196) (w_X0_may Γ0 l0 h6) (lw_S q799 q800 q121 q801) (by decide +kernel) rfl (by decide) rfl (Nat.le_of_ble_eq_true rfl) dX0_lambda_cut_15_19 (r_xj1 k0.1) (r_xj2 k0.2))
    · replace h := (bte_i h).1 h7
      refine r_aload hκ 0 rfl dX0_lambda_cut_15_22 ?_
      refine r_aload hκ 0 rfl dX0_lambda_cut_15_24 ?_
      obtain ⟨h8, h⟩ := bck_i h
      refine r_get hκ (t := 7) (k := 0) (r := 146) h8 rfl in_X9 (by decide) rfl q486 (Or.inl rfl) dX0_lambda_cut_15_26 ?_
      refine r_iload_n hκ 3 rfl rfl dX0_lambda_cut_15_29 ?_
      refine r_iload_n hκ 4 rfl rfl dX0_lambda_cut_15_30 ?_
      obtain ⟨s4, v6, h9, h⟩ := bcl_i h
      refine r_callS hκ (n' := 1) (index := 419) (w_X5_delete Γ0 l0 h9) (lw_S q2456 q1276 q137 q1277) (by decide +kernel) rfl (by decide) rfl (Nat.le_of_ble_eq_true rfl) dX0_lambda_cut_15_31 ?_
      obtain ⟨h10, h⟩ := bck_i h
      obtain ⟨s5, v7, h11, h⟩ := bcl_i h
      refine r_callV hκ (n' := 2) (index := 301) (w_X2_edit Γ0 l0 h11) (lw_V q2438 q2439 q2440 q123 q2441) (by decide +kernel) (t := 2) h10 rfl rfl (by decide) rfl (Nat.le_of_ble_eq_true rfl) dX0_lambda_cut_15_34 ?_
      obtain ⟨s6, v8, v9, h12, h⟩ := bclx_i h
      refine r_seq (A := (v9 = -1 → bJ κ s6 40 [(4, (2, v1)), (0, (2, a0)), (1, (0, a1)), (2, (0, a2)), (3, (0, a3))] [(0, v8)]) ∧ (¬ v9 = -1 → bT κ s6 37 [(4, (2, v1)), (0, (2, a0)), (1, (0, a1)), (2, (0, a2)), (3, (0, a3))] v8 v9)) ⟨fun h13 => ?_, fun h13 => ?_⟩ (fun k0 => r_xcallS hκ (n' := 2) (index := 304) (w_X0_does_2 Γ0 l0 h12) (lw_S q2240 q2241 q121 q2242) (by decide +kernel) rfl (by decide) rfl (Nat.le_of_ble_eq_true rfl) dX0_lambda_cut_15_37 (r_xj1 k0.1) (r_xj2 k0.2))
      · replace h := (bte_i h).1 h13
        exact x_ret hκ hf (x_P h) (fun κ hκ hf => r_iret hκ hf (nar_int _) dX0_lambda_cut_15_40)
      · replace h := (bte_i h).2 h13
        exact r_xout hκ ht hf (by decide) (x_P h)
    · replace h := (bte_i h).2 h7
      exact r_xout hκ ht hf (by decide) (x_P h)
  · replace h := (bte_i h).2 h3
    exact r_xout hκ ht hf (by decide) (x_P h)
/-- EditsMeet.marks(LEditsMeet$Client;IIIZ)I -/
def F_X0_marks_r (b : Nat) (xs : Int × Int × Int × Int × Int × Int × Int × Int) (s0 : bS) : Option (bS × Int × Int) :=
  match b, xs with
  | 0, (x0, x1, x2, x3, x4, x5, x6, _) =>
    bte (i32 (x1 + x2) ≤ i32 x6)
    (bck (bg s0 0 x0 0 = 8) <|
    bte (i32 x4 = 0)
    (F_X0_marks_r 2 (x3, x4, x5, 0, x2, x1, (bg s0 146 x0 0), x0) s0)
    (F_X0_marks_r 2 (x3, x4, x5, (b_ishl 1 x3), x2, x1, (bg s0 146 x0 0), x0) s0))
    (bck (bg s0 0 x0 0 = 8) <|
    bck (bg s0 0 (bg s0 146 x0 0) 0 = 3) <|
    bcl (F_X2_mark s0 (bg s0 146 x0 0) x6) fun s1 v1 =>
    bcl (F_X0_has s1 v1 x3) fun s2 v2 =>
    bte (i32 v2 = i32 x4)
    (F_X0_marks_r 1 (x0, x1, x2, x3, x4, x6, 0, x5) s2)
    (F_X0_marks_r 1 (x0, x1, x2, x3, x4, x6, 1, x5) s2))
  | 1, (x0, x1, x2, x3, x4, x5, x6, x7) =>
    F_X0_marks_r 0 (x0, x1, x2, x3, x4, (x7 + x6), (x5 + 1), 0) s0
  | 2, (x0, x1, x2, x3, x4, x5, x6, x7) =>
    bte (i32 x1 = 0)
    (F_X0_marks_r 3 (x2, (b_ishl 1 x0), x3, x4, x5, x6, x7, 0) s0)
    (F_X0_marks_r 3 (x2, 0, x3, x4, x5, x6, x7, 0) s0)
  | 3, (x0, x1, x2, x3, x4, x5, x6, _) =>
    bcl (F_X5_mark s0 x3 x2 x1) fun s3 v3 =>
    bck (bg s3 0 x5 0 = 3) <|
    bcl (F_X2_edit s3 x5 x4 v3) fun s4 v4 =>
    bclx (F_X0_does_2 s4 x6 v4) fun s5 v5 v6 =>
    bte (v6 = -1)
    (some (s5, x0, -1))
    (some (s5, v5, v6))
  | _, _ => none
partial_fixpoint
def F_X0_marks (s0 : bS) (a0 a1 a2 a3 a4 : Int) : Option (bS × Int × Int) :=
  F_X0_marks_r 0 (a0, a1, a2, a3, a4, 0, a1, 0) s0
set_option maxHeartbeats 4000000 in
set_option maxRecDepth 100000 in
set_option synthInstance.maxHeartbeats 4000000 in
theorem w_X0_marks_r {Γ0 : bG} {l0 : Launch} {κ : bK} {st' : bS} {v xx : Int} (hκ : bOk κ Γ0 l0 cX0_marks RX0 7 16 3142) (hi : bIn κ yX0_marks) (ht : xTab κ []) (hf : xFin κ (some .int) (some 0) (bEq st' v xx)) (b : Nat) (x0 x1 x2 x3 x4 x5 x6 x7 : Int) (s0 : bS) (h : F_X0_marks_r b (x0, x1, x2, x3, x4, x5, x6, x7) s0 = some (st', v, xx)) : match (generalizing := false) b with | 0 => bJ κ s0 6 [(0, (2, x0)), (1, (0, x1)), (2, (0, x2)), (3, (0, x3)), (4, (0, x4)), (5, (0, x5)), (6, (0, x6))] [] | 1 => bJ κ s0 39 [(0, (2, x0)), (1, (0, x1)), (2, (0, x2)), (3, (0, x3)), (4, (0, x4)), (6, (0, x5))] [(0, x6), (0, x7)] | 2 => bJ κ s0 67 [(3, (0, x0)), (4, (0, x1)), (5, (0, x2))] [(0, x3), (0, x4), (0, x5), (2, x6), (2, x7)] | 3 => bJ κ s0 79 [(5, (0, x0))] [(0, x1), (0, x2), (0, x3), (0, x4), (2, x5), (2, x6)] | _ => True := by
  refine F_X0_marks_r.partial_correctness (fun b xs s0 r => r = (st', v, xx) → match (generalizing := false) b with | 0 => bJ κ s0 6 [(0, (2, xs.1)), (1, (0, xs.2.1)), (2, (0, xs.2.2.1)), (3, (0, xs.2.2.2.1)), (4, (0, xs.2.2.2.2.1)), (5, (0, xs.2.2.2.2.2.1)), (6, (0, xs.2.2.2.2.2.2.1))] [] | 1 => bJ κ s0 39 [(0, (2, xs.1)), (1, (0, xs.2.1)), (2, (0, xs.2.2.1)), (3, (0, xs.2.2.2.1)), (4, (0, xs.2.2.2.2.1)), (6, (0, xs.2.2.2.2.2.1))] [(0, xs.2.2.2.2.2.2.1), (0, xs.2.2.2.2.2.2.2)] | 2 => bJ κ s0 67 [(3, (0, xs.1)), (4, (0, xs.2.1)), (5, (0, xs.2.2.1))] [(0, xs.2.2.2.1), (0, xs.2.2.2.2.1), (0, xs.2.2.2.2.2.1), (2, xs.2.2.2.2.2.2.1), (2, xs.2.2.2.2.2.2.2)] | 3 => bJ κ s0 79 [(5, (0, xs.1))] [(0, xs.2.1), (0, xs.2.2.1), (0, xs.2.2.2.1), (0, xs.2.2.2.2.1), (2, xs.2.2.2.2.2.1), (2, xs.2.2.2.2.2.2.1)] | _ => True) ?_ b (x0, x1, x2, x3, x4, x5, x6, x7) s0 _ h rfl
  intro f' ih b xs s0 r h hr
  subst hr
  match b, xs, h with
  | 0, (x0, x1, x2, x3, x4, x5, x6, x7), h =>
      show bJ κ s0 6 [(0, (2, x0)), (1, (0, x1)), (2, (0, x2)), (3, (0, x3)), (4, (0, x4)), (5, (0, x5)), (6, (0, x6))] []
      refine r_iload hκ 6 rfl dX0_marks_6 ?_
      refine r_iload_n hκ 1 rfl rfl dX0_marks_8 ?_
      refine r_iload_n hκ 2 rfl rfl dX0_marks_9 ?_
      refine r_iadd hκ dX0_marks_10 ?_
      refine r_icmp_ge hκ (tgt := 48) (by decide) dX0_marks_11 (fun h1 => ?_) (fun h1 => ?_)
      · replace h := (bte_i h).1 h1
        refine r_aload_n hκ 0 rfl rfl dX0_marks_48 ?_
        refine r_aload_n hκ 0 rfl rfl dX0_marks_49 ?_
        obtain ⟨h2, h⟩ := bck_i h
        refine r_get hκ (t := 7) (k := 0) (r := 146) h2 rfl in_X9 (by decide) rfl q486 (Or.inl rfl) dX0_marks_50 ?_
        refine r_iload_n hκ 1 rfl rfl dX0_marks_53 ?_
        refine r_iload_n hκ 2 rfl rfl dX0_marks_54 ?_
        refine r_iload hκ 4 rfl dX0_marks_55 ?_
        refine r_if_eq hκ (tgt := 66) (by decide) dX0_marks_57 (fun h3 => ?_) (fun h3 => ?_)
        · replace h := (bte_i h).1 h3
          refine r_iconst hκ dX0_marks_66 ?_
          exact r_sub [3, 4, 5] rfl (ih 2 _ _ _ h rfl)
        · replace h := (bte_i h).2 h3
          refine r_iconst hκ dX0_marks_60 ?_
          refine r_iload_n hκ 3 rfl rfl dX0_marks_61 ?_
          refine r_ishl hκ dX0_marks_62 ?_
          refine r_goto hκ (tgt := 67) (by decide) dX0_marks_63 ?_
          exact r_sub [3, 4, 5] rfl (ih 2 _ _ _ h rfl)
      · replace h := (bte_i h).2 h1
        refine r_iload hκ 5 rfl dX0_marks_14 ?_
        refine r_aload_n hκ 0 rfl rfl dX0_marks_16 ?_
        obtain ⟨h4, h⟩ := bck_i h
        refine r_get hκ (t := 7) (k := 0) (r := 146) h4 rfl in_X9 (by decide) rfl q486 (Or.inl rfl) dX0_marks_17 ?_
        refine r_iload hκ 6 rfl dX0_marks_20 ?_
        obtain ⟨h5, h⟩ := bck_i h
        obtain ⟨s1, v1, h6, h⟩ := bcl_i h
        refine r_callV hκ (n' := 1) (index := 309) (w_X2_mark Γ0 l0 h6) (lw_V q2467 q2207 q2208 q123 q2209) (by decide +kernel) (t := 2) h5 rfl rfl (by decide) rfl (Nat.le_of_ble_eq_true rfl) dX0_marks_22 ?_
        refine r_iload_n hκ 3 rfl rfl dX0_marks_25 ?_
        obtain ⟨s2, v2, h7, h⟩ := bcl_i h
        refine r_callS hκ (n' := 2) (index := 312) (w_X0_has Γ0 l0 h7) (lw_S q2468 q2469 q121 q2470) (by decide +kernel) rfl (by decide) rfl (Nat.le_of_ble_eq_true rfl) dX0_marks_26 ?_
        refine r_iload hκ 4 rfl dX0_marks_29 ?_
        refine r_icmp_eq hκ (tgt := 38) (by decide) dX0_marks_31 (fun h8 => ?_) (fun h8 => ?_)
        · replace h := (bte_i h).1 h8
          refine r_iconst hκ dX0_marks_38 ?_
          exact r_sub [0, 1, 2, 3, 4, 6] rfl (ih 1 _ _ _ h rfl)
        · replace h := (bte_i h).2 h8
          refine r_iconst hκ dX0_marks_34 ?_
          refine r_goto hκ (tgt := 39) (by decide) dX0_marks_35 ?_
          exact r_sub [0, 1, 2, 3, 4, 6] rfl (ih 1 _ _ _ h rfl)
  | 1, (x0, x1, x2, x3, x4, x5, x6, x7), h =>
      show bJ κ s0 39 [(0, (2, x0)), (1, (0, x1)), (2, (0, x2)), (3, (0, x3)), (4, (0, x4)), (6, (0, x5))] [(0, x6), (0, x7)]
      refine r_iadd hκ dX0_marks_39 ?_
      refine r_istore hκ (L2 := [(5, (0, (x7 + x6))), (0, (2, x0)), (1, (0, x1)), (2, (0, x2)), (3, (0, x3)), (4, (0, x4)), (6, (0, x5))]) (by decide) rfl dX0_marks_40 ?_
      refine r_iinc hκ (L2 := [(6, (0, (x5 + 1))), (5, (0, (x7 + x6))), (0, (2, x0)), (1, (0, x1)), (2, (0, x2)), (3, (0, x3)), (4, (0, x4))]) 6 rfl (by decide) rfl dX0_marks_42 ?_
      refine r_goto hκ (tgt := 6) (by decide) dX0_marks_45 ?_
      exact r_sub [2, 3, 4, 5, 6, 1, 0] rfl (ih 0 _ _ _ h rfl)
  | 2, (x0, x1, x2, x3, x4, x5, x6, x7), h =>
      show bJ κ s0 67 [(3, (0, x0)), (4, (0, x1)), (5, (0, x2))] [(0, x3), (0, x4), (0, x5), (2, x6), (2, x7)]
      refine r_iload hκ 1 rfl dX0_marks_67 ?_
      refine r_if_eq hκ (tgt := 76) (by decide) dX0_marks_69 (fun h9 => ?_) (fun h9 => ?_)
      · replace h := (bte_i h).1 h9
        refine r_iconst hκ dX0_marks_76 ?_
        refine r_iload_n hκ 0 rfl rfl dX0_marks_77 ?_
        refine r_ishl hκ dX0_marks_78 ?_
        exact r_sub [2] rfl (ih 3 _ _ _ h rfl)
      · replace h := (bte_i h).2 h9
        refine r_iconst hκ dX0_marks_72 ?_
        refine r_goto hκ (tgt := 79) (by decide) dX0_marks_73 ?_
        exact r_sub [2] rfl (ih 3 _ _ _ h rfl)
  | 3, (x0, x1, x2, x3, x4, x5, x6, x7), h =>
      show bJ κ s0 79 [(5, (0, x0))] [(0, x1), (0, x2), (0, x3), (0, x4), (2, x5), (2, x6)]
      obtain ⟨s3, v3, h10, h⟩ := bcl_i h
      refine r_callS hκ (n' := 3) (index := 316) (w_X5_mark Γ0 l0 h10) (lw_S q2471 q1337 q137 q1338) (by decide +kernel) rfl (by decide) rfl (Nat.le_of_ble_eq_true rfl) dX0_marks_79 ?_
      obtain ⟨h11, h⟩ := bck_i h
      obtain ⟨s4, v4, h12, h⟩ := bcl_i h
      refine r_callV hκ (n' := 2) (index := 301) (w_X2_edit Γ0 l0 h12) (lw_V q2438 q2439 q2440 q123 q2441) (by decide +kernel) (t := 2) h11 rfl rfl (by decide) rfl (Nat.le_of_ble_eq_true rfl) dX0_marks_82 ?_
      obtain ⟨s5, v5, v6, h13, h⟩ := bclx_i h
      refine r_seq (A := (v6 = -1 → bJ κ s5 88 [(5, (0, x0))] [(0, v5)]) ∧ (¬ v6 = -1 → bT κ s5 85 [(5, (0, x0))] v5 v6)) ⟨fun h14 => ?_, fun h14 => ?_⟩ (fun k0 => r_xcallS hκ (n' := 2) (index := 304) (w_X0_does_2 Γ0 l0 h13) (lw_S q2240 q2241 q121 q2242) (by decide +kernel) rfl (by decide) rfl (Nat.le_of_ble_eq_true rfl) dX0_marks_85 (r_xj1 k0.1) (r_xj2 k0.2))
      · replace h := (bte_i h).1 h14
        refine r_pop hκ (bd_cat0k _) dX0_marks_88 ?_
        refine r_iload hκ 0 rfl dX0_marks_89 ?_
        exact x_ret hκ hf (x_P h) (fun κ hκ hf => r_iret hκ hf (nar_int _) dX0_marks_91)
      · replace h := (bte_i h).2 h14
        exact r_xout hκ ht hf (by decide) (x_P h)
  | b + 4, _, h => trivial
set_option maxHeartbeats 4000000 in
set_option maxRecDepth 100000 in
theorem w_X0_marks (Γ0 : bG) (l0 : Launch) {s0 st' : bS} {v xx a0 a1 a2 a3 a4 : Int} (h : F_X0_marks s0 a0 a1 a2 a3 a4 = some (st', v, xx)) : bCx Γ0 l0 yX0_marks (ws_ yX0_marks cX0_marks 7 (some .int)) 16 3142 (some 0) [(2, a0), (0, a1), (0, a2), (0, a3), (0, a4)] s0 (bEq st' v xx) := by
  refine xb_ent (own := RX0) (by decide +kernel) rfl (Nat.le_of_ble_eq_true rfl) (L := [(0, (2, a0)), (1, (0, a1)), (2, (0, a2)), (3, (0, a3)), (4, (0, a4))]) rfl ?_
  intro κ hκ hi ht hf
  unfold F_X0_marks at h
  refine r_iconst hκ dX0_marks_0 ?_
  refine r_istore hκ (L2 := [(5, (0, 0)), (0, (2, a0)), (1, (0, a1)), (2, (0, a2)), (3, (0, a3)), (4, (0, a4))]) (by decide) rfl dX0_marks_1 ?_
  refine r_iload_n hκ 2 rfl rfl dX0_marks_3 ?_
  refine r_istore hκ (L2 := [(6, (0, a1)), (5, (0, 0)), (0, (2, a0)), (1, (0, a1)), (2, (0, a2)), (3, (0, a3)), (4, (0, a4))]) (by decide) rfl dX0_marks_4 ?_
  exact r_sub [2, 3, 4, 5, 6, 1, 0] rfl (w_X0_marks_r hκ hi ht hf 0 _ _ _ _ _ _ _ _ _ h)
/-- EditsMeet.lambda$mark$16(IIIII)I -/
def F_X0_lambda_mark_16_r (b : Nat) (x0 x1 x2 x3 x4 x5 : Int) (s0 : bS) : Option (bS × Int × Int) :=
  match b with
  | 0 =>
    F_X0_lambda_mark_16_r 1 x0 x1 x2 x3 x4 0 s0
  | 1 =>
    bclx (F_X0_may s0 x5 (-2)) fun s5 v6 v7 =>
    bte (v7 = -1)
    (bte (i32 x3 = i32 1)
    (bclx (F_X0_marks s5 x4 x0 x1 x2 1) fun s7 v10 v11 =>
    bte (v11 = -1)
    (some (s7, v10, -1))
    (some (s7, v10, v11)))
    (bclx (F_X0_marks s5 x4 x0 x1 x2 0) fun s6 v8 v9 =>
    bte (v9 = -1)
    (some (s6, v8, -1))
    (some (s6, v8, v9))))
    (some (s5, v6, v7))
  | _ => none
partial_fixpoint
def F_X0_lambda_mark_16 (s0 : bS) (a0 a1 a2 a3 a4 a5 : Int) : Option (bS × Int × Int) :=
  bck (bg s0 0 a0 0 = 1) <|
  bclx (F_X0_client s0 a0 a1) fun s1 v1 v2 =>
  bte (v2 = -1)
  (bck (bg s1 0 v1 0 = 8) <|
  bcl (F_X0_areThere s1 (bg s1 146 v1 0) a2 a3) fun s2 v3 =>
  bte (i32 v3 = 0)
  (F_X0_lambda_mark_16_r 0 a2 a3 a4 a5 v1 0 s2)
  (bcl (F_X0_isIn s2 a4 0 3) fun s3 v4 =>
  bte (i32 v4 = 0)
  (F_X0_lambda_mark_16_r 0 a2 a3 a4 a5 v1 0 s3)
  (bcl (F_X0_isIn s3 a5 0 1) fun s4 v5 =>
  bte (i32 v5 = 0)
  (F_X0_lambda_mark_16_r 0 a2 a3 a4 a5 v1 0 s4)
  (F_X0_lambda_mark_16_r 1 a2 a3 a4 a5 v1 1 s4))))
  (some (s1, v1, v2))
set_option maxHeartbeats 4000000 in
set_option maxRecDepth 100000 in
set_option synthInstance.maxHeartbeats 4000000 in
theorem w_X0_lambda_mark_16_r {Γ0 : bG} {l0 : Launch} {κ : bK} {st' : bS} {v xx : Int} (hκ : bOk κ Γ0 l0 cX0_lambda_mark_16 RX0 7 17 3168) (hi : bIn κ yX0_lambda_mark_16) (ht : xTab κ []) (hf : xFin κ (some .int) (some 0) (bEq st' v xx)) (b : Nat) (x0 x1 x2 x3 x4 x5 : Int) (s0 : bS) (h : F_X0_lambda_mark_16_r b x0 x1 x2 x3 x4 x5 s0 = some (st', v, xx)) : match (generalizing := false) b with | 0 => bJ κ s0 44 [(2, (0, x0)), (3, (0, x1)), (4, (0, x2)), (5, (0, x3)), (6, (2, x4))] [] | 1 => bJ κ s0 45 [(2, (0, x0)), (3, (0, x1)), (4, (0, x2)), (5, (0, x3)), (6, (2, x4))] [(0, x5)] | _ => True := by
  refine F_X0_lambda_mark_16_r.partial_correctness x0 x1 x2 x3 x4 s0 (fun b x5 r => r = (st', v, xx) → match (generalizing := false) b with | 0 => bJ κ s0 44 [(2, (0, x0)), (3, (0, x1)), (4, (0, x2)), (5, (0, x3)), (6, (2, x4))] [] | 1 => bJ κ s0 45 [(2, (0, x0)), (3, (0, x1)), (4, (0, x2)), (5, (0, x3)), (6, (2, x4))] [(0, x5)] | _ => True) ?_ b x5 _ h rfl
  intro f' ih b x5 r h hr
  subst hr
  match b, h with
  | 0, h =>
      refine r_iconst hκ dX0_lambda_mark_16_44 ?_
      exact r_sub [0, 1, 2, 3, 4] rfl (ih 1 _ _ h rfl)
  | 1, h =>
      refine r_bipush hκ (by decide) dX0_lambda_mark_16_45 ?_
      obtain ⟨s5, v6, v7, h11, h⟩ := bclx_i h
      refine r_seq (A := (v7 = -1 → bJ κ s5 50 [(2, (0, x0)), (3, (0, x1)), (4, (0, x2)), (5, (0, x3)), (6, (2, x4))] []) ∧ (¬ v7 = -1 → bT κ s5 47 [(2, (0, x0)), (3, (0, x1)), (4, (0, x2)), (5, (0, x3)), (6, (2, x4))] v6 v7)) ⟨fun h12 => ?_, fun h12 => ?_⟩ (fun k0 => r_xcallS hκ (n' := 2) (index := 196) (w_X0_may Γ0 l0 h11) (lw_S q799 q800 q121 q801) (by decide +kernel) rfl (by decide) rfl (Nat.le_of_ble_eq_true rfl) dX0_lambda_mark_16_47 (r_xj1 k0.1) (r_xj2 k0.2))
      · replace h := (bte_i h).1 h12
        refine r_aload hκ 4 rfl dX0_lambda_mark_16_50 ?_
        refine r_iload_n hκ 0 rfl rfl dX0_lambda_mark_16_52 ?_
        refine r_iload_n hκ 1 rfl rfl dX0_lambda_mark_16_53 ?_
        refine r_iload hκ 2 rfl dX0_lambda_mark_16_54 ?_
        refine r_iload hκ 3 rfl dX0_lambda_mark_16_56 ?_
        refine r_iconst hκ dX0_lambda_mark_16_58 ?_
        refine r_icmp_ne hκ (tgt := 66) (by decide) dX0_lambda_mark_16_59 (fun h13 => ?_) (fun h13 => ?_)
        · replace h := (bte_i h).2 h13
          refine r_iconst hκ dX0_lambda_mark_16_66 ?_
          obtain ⟨s6, v8, v9, h14, h⟩ := bclx_i h
          refine r_seq (A := (v9 = -1 → bJ κ s6 70 [(2, (0, x0)), (3, (0, x1)), (4, (0, x2)), (5, (0, x3)), (6, (2, x4))] [(0, v8)]) ∧ (¬ v9 = -1 → bT κ s6 67 [(2, (0, x0)), (3, (0, x1)), (4, (0, x2)), (5, (0, x3)), (6, (2, x4))] v8 v9)) ⟨fun h15 => ?_, fun h15 => ?_⟩ (fun k0 => r_xcallS hκ (n' := 5) (index := 423) (w_X0_marks Γ0 l0 h14) (lw_S q2464 q2465 q121 q2466) (by decide +kernel) rfl (by decide) rfl (Nat.le_of_ble_eq_true rfl) dX0_lambda_mark_16_67 (r_xj1 k0.1) (r_xj2 k0.2))
          · replace h := (bte_i h).1 h15
            exact x_ret hκ hf (x_P h) (fun κ hκ hf => r_iret hκ hf (nar_int _) dX0_lambda_mark_16_70)
          · replace h := (bte_i h).2 h15
            exact r_xout hκ ht hf (by decide) (x_P h)
        · replace h := (bte_i h).1 h13
          refine r_iconst hκ dX0_lambda_mark_16_62 ?_
          refine r_goto hκ (tgt := 67) (by decide) dX0_lambda_mark_16_63 ?_
          obtain ⟨s7, v10, v11, h16, h⟩ := bclx_i h
          refine r_seq (A := (v11 = -1 → bJ κ s7 70 [(2, (0, x0)), (3, (0, x1)), (4, (0, x2)), (5, (0, x3)), (6, (2, x4))] [(0, v10)]) ∧ (¬ v11 = -1 → bT κ s7 67 [(2, (0, x0)), (3, (0, x1)), (4, (0, x2)), (5, (0, x3)), (6, (2, x4))] v10 v11)) ⟨fun h17 => ?_, fun h17 => ?_⟩ (fun k0 => r_xcallS hκ (n' := 5) (index := 423) (w_X0_marks Γ0 l0 h16) (lw_S q2464 q2465 q121 q2466) (by decide +kernel) rfl (by decide) rfl (Nat.le_of_ble_eq_true rfl) dX0_lambda_mark_16_67 (r_xj1 k0.1) (r_xj2 k0.2))
          · replace h := (bte_i h).1 h17
            exact x_ret hκ hf (x_P h) (fun κ hκ hf => r_iret hκ hf (nar_int _) dX0_lambda_mark_16_70)
          · replace h := (bte_i h).2 h17
            exact r_xout hκ ht hf (by decide) (x_P h)
      · replace h := (bte_i h).2 h12
        exact r_xout hκ ht hf (by decide) (x_P h)
  | b + 2, h => trivial
set_option maxHeartbeats 4000000 in
set_option maxRecDepth 100000 in
theorem w_X0_lambda_mark_16 (Γ0 : bG) (l0 : Launch) {s0 st' : bS} {v xx a0 a1 a2 a3 a4 a5 : Int} (h : F_X0_lambda_mark_16 s0 a0 a1 a2 a3 a4 a5 = some (st', v, xx)) : bCx Γ0 l0 yX0_lambda_mark_16 (ws_ yX0_lambda_mark_16 cX0_lambda_mark_16 7 (some .int)) 17 3168 (some 0) [(2, a0), (0, a1), (0, a2), (0, a3), (0, a4), (0, a5)] s0 (bEq st' v xx) := by
  refine xb_ent (own := RX0) (by decide +kernel) rfl (Nat.le_of_ble_eq_true rfl) (L := [(0, (2, a0)), (1, (0, a1)), (2, (0, a2)), (3, (0, a3)), (4, (0, a4)), (5, (0, a5))]) rfl ?_
  intro κ hκ hi ht hf
  unfold F_X0_lambda_mark_16 at h
  refine r_aload_n hκ 0 rfl rfl dX0_lambda_mark_16_0 ?_
  refine r_iload_n hκ 1 rfl rfl dX0_lambda_mark_16_1 ?_
  obtain ⟨h2, h⟩ := bck_i h
  obtain ⟨s1, v1, v2, h1, h⟩ := bclx_i h
  refine r_seq (A := (v2 = -1 → bJ κ s1 5 [(0, (2, a0)), (1, (0, a1)), (2, (0, a2)), (3, (0, a3)), (4, (0, a4)), (5, (0, a5))] [(2, v1)]) ∧ (¬ v2 = -1 → bT κ s1 2 [(0, (2, a0)), (1, (0, a1)), (2, (0, a2)), (3, (0, a3)), (4, (0, a4)), (5, (0, a5))] v1 v2)) ⟨fun h3 => ?_, fun h3 => ?_⟩ (fun k0 => r_xcallV hκ (n' := 1) (index := 322) (w_X0_client Γ0 l0 h1) (lw_V q2421 q2423 qs44 q121 q2424) (by decide +kernel) (t := 0) h2 rfl rfl (by decide) rfl (Nat.le_of_ble_eq_true rfl) dX0_lambda_mark_16_2 (r_xj1 k0.1) (r_xj2 k0.2))
  · replace h := (bte_i h).1 h3
    refine r_astore hκ (L2 := [(6, (2, v1)), (0, (2, a0)), (1, (0, a1)), (2, (0, a2)), (3, (0, a3)), (4, (0, a4)), (5, (0, a5))]) (by decide) rfl dX0_lambda_mark_16_5 ?_
    refine r_aload hκ 0 rfl dX0_lambda_mark_16_7 ?_
    obtain ⟨h4, h⟩ := bck_i h
    refine r_get hκ (t := 7) (k := 0) (r := 146) h4 rfl in_X9 (by decide) rfl q486 (Or.inl rfl) dX0_lambda_mark_16_9 ?_
    refine r_iload_n hκ 3 rfl rfl dX0_lambda_mark_16_12 ?_
    refine r_iload_n hκ 4 rfl rfl dX0_lambda_mark_16_13 ?_
    obtain ⟨s2, v3, h5, h⟩ := bcl_i h
    refine r_callS hκ (n' := 3) (index := 482) (w_X0_areThere Γ0 l0 h5) (lw_S q2453 q2454 q121 q2455) (by decide +kernel) rfl (by decide) rfl (Nat.le_of_ble_eq_true rfl) dX0_lambda_mark_16_14 ?_
    refine r_if_eq hκ (tgt := 44) (by decide) dX0_lambda_mark_16_17 (fun h6 => ?_) (fun h6 => ?_)
    · replace h := (bte_i h).1 h6
      exact r_sub [3, 4, 5, 6, 0] rfl (w_X0_lambda_mark_16_r hκ hi ht hf 0 _ _ _ _ _ _ _ h)
    · replace h := (bte_i h).2 h6
      refine r_iload hκ 5 rfl dX0_lambda_mark_16_20 ?_
      refine r_iconst hκ dX0_lambda_mark_16_22 ?_
      refine r_iconst hκ dX0_lambda_mark_16_23 ?_
      obtain ⟨s3, v4, h7, h⟩ := bcl_i h
      refine r_callS hκ (n' := 3) (index := 45) (w_X0_isIn Γ0 l0 h7) (lw_S q624 q625 q121 q626) (by decide +kernel) rfl (by decide) rfl (Nat.le_of_ble_eq_true rfl) dX0_lambda_mark_16_24 ?_
      refine r_if_eq hκ (tgt := 44) (by decide) dX0_lambda_mark_16_27 (fun h8 => ?_) (fun h8 => ?_)
      · replace h := (bte_i h).1 h8
        exact r_sub [3, 4, 5, 6, 0] rfl (w_X0_lambda_mark_16_r hκ hi ht hf 0 _ _ _ _ _ _ _ h)
      · replace h := (bte_i h).2 h8
        refine r_iload hκ 6 rfl dX0_lambda_mark_16_30 ?_
        refine r_iconst hκ dX0_lambda_mark_16_32 ?_
        refine r_iconst hκ dX0_lambda_mark_16_33 ?_
        obtain ⟨s4, v5, h9, h⟩ := bcl_i h
        refine r_callS hκ (n' := 3) (index := 45) (w_X0_isIn Γ0 l0 h9) (lw_S q624 q625 q121 q626) (by decide +kernel) rfl (by decide) rfl (Nat.le_of_ble_eq_true rfl) dX0_lambda_mark_16_34 ?_
        refine r_if_eq hκ (tgt := 44) (by decide) dX0_lambda_mark_16_37 (fun h10 => ?_) (fun h10 => ?_)
        · replace h := (bte_i h).1 h10
          exact r_sub [3, 4, 5, 6, 0] rfl (w_X0_lambda_mark_16_r hκ hi ht hf 0 _ _ _ _ _ _ _ h)
        · replace h := (bte_i h).2 h10
          refine r_iconst hκ dX0_lambda_mark_16_40 ?_
          refine r_goto hκ (tgt := 45) (by decide) dX0_lambda_mark_16_41 ?_
          exact r_sub [3, 4, 5, 6, 0] rfl (w_X0_lambda_mark_16_r hκ hi ht hf 1 _ _ _ _ _ _ _ h)
  · replace h := (bte_i h).2 h3
    exact r_xout hκ ht hf (by decide) (x_P h)
/-- EditsMeet.serves(I)I -/
def F_X0_serves_r (b : Nat) (x0 x1 x2 : Int) (s0 : bS) : Option (bS × Int × Int) :=
  match b with
  | 0 =>
    bclx (F_X0_may s0 x2 (-6)) fun s5 v7 v8 =>
    bte (v8 = -1)
    (bck (bg s5 0 x0 0 = 1) <|
    bck (bg s5 0 (bg s5 34 x0 0) 0 = 2) <|
    bcl (F_X1_serves s5 (bg s5 34 x0 0) x1) fun s6 v9 =>
    bck (bg s6 0 x0 0 = 1) <|
    bck (bg s6 0 (bg s6 34 x0 0) 0 = 2) <|
    bck (bg s6 0 (bg s6 74 (bg s6 34 x0 0) 0) 0 = 21) <|
    bcl (F_J10_size s6 (bg s6 74 (bg s6 34 x0 0) 0)) fun s7 v10 =>
    some (s7, v10, -1))
    (some (s5, v7, v8))
  | _ => none
def F_X0_serves (s0 : bS) (a0 a1 : Int) : Option (bS × Int × Int) :=
  bck (bg s0 0 a0 0 = 1) <|
  bclx (F_X0_client s0 a0 a1) fun s1 v1 v2 =>
  bte (v2 = -1)
  (bck (bg s1 0 v1 0 = 8) <|
  bcl (F_X9_isDue s1 v1) fun s2 v3 =>
  bclx (F_X0_may s2 v3 (-5)) fun s3 v4 v5 =>
  bte (v5 = -1)
  (bck (bg s3 0 a0 0 = 1) <|
  bck (bg s3 0 (bg s3 34 a0 0) 0 = 2) <|
  bcl (F_X1_isFull s3 (bg s3 34 a0 0)) fun s4 v6 =>
  bte (i32 v6 = 0)
  (F_X0_serves_r 0 a0 a1 1 s4)
  (F_X0_serves_r 0 a0 a1 0 s4))
  (some (s3, v4, v5)))
  (some (s1, v1, v2))
set_option maxHeartbeats 4000000 in
set_option maxRecDepth 100000 in
set_option synthInstance.maxHeartbeats 4000000 in
theorem w_X0_serves_r {Γ0 : bG} {l0 : Launch} {κ : bK} {st' : bS} {v xx : Int} (hκ : bOk κ Γ0 l0 cX0_serves RX0 2 14 337) (hi : bIn κ yX0_serves) (ht : xTab κ []) (hf : xFin κ (some .int) (some 0) (bEq st' v xx)) (b : Nat) (x0 x1 x2 : Int) (s0 : bS) (h : F_X0_serves_r b x0 x1 x2 s0 = some (st', v, xx)) : match (generalizing := false) b with | 0 => bJ κ s0 28 [(0, (2, x0)), (1, (0, x1))] [(0, x2)] | _ => True := by
  unfold F_X0_serves_r at h
  match b, h with
  | 0, h =>
      refine r_bipush hκ (by decide) dX0_serves_28 ?_
      obtain ⟨s5, v7, v8, h12, h⟩ := bclx_i h
      refine r_seq (A := (v8 = -1 → bJ κ s5 33 [(0, (2, x0)), (1, (0, x1))] []) ∧ (¬ v8 = -1 → bT κ s5 30 [(0, (2, x0)), (1, (0, x1))] v7 v8)) ⟨fun h13 => ?_, fun h13 => ?_⟩ (fun k0 => r_xcallS hκ (n' := 2) (index := 196) (w_X0_may Γ0 l0 h12) (lw_S q799 q800 q121 q801) (by decide +kernel) rfl (by decide) rfl (Nat.le_of_ble_eq_true rfl) dX0_serves_30 (r_xj1 k0.1) (r_xj2 k0.2))
      · replace h := (bte_i h).1 h13
        refine r_aload_n hκ 0 rfl rfl dX0_serves_33 ?_
        obtain ⟨h14, h⟩ := bck_i h
        refine r_get hκ (t := 0) (k := 0) (r := 34) h14 rfl in_X0 (by decide) rfl q573 (Or.inl rfl) dX0_serves_34 ?_
        refine r_iload_n hκ 1 rfl rfl dX0_serves_37 ?_
        obtain ⟨h15, h⟩ := bck_i h
        obtain ⟨s6, v9, h16, h⟩ := bcl_i h
        refine r_callV hκ (n' := 1) (index := 332) (w_X1_serves Γ0 l0 h16) (lw_V q2492 q2493 q2494 q122 q2495) (by decide +kernel) (t := 1) h15 rfl rfl (by decide) rfl (Nat.le_of_ble_eq_true rfl) dX0_serves_38 ?_
        refine r_aload_n hκ 0 rfl rfl dX0_serves_41 ?_
        obtain ⟨h17, h⟩ := bck_i h
        refine r_get hκ (t := 0) (k := 0) (r := 34) h17 rfl in_X0 (by decide) rfl q573 (Or.inl rfl) dX0_serves_42 ?_
        obtain ⟨h18, h⟩ := bck_i h
        refine r_get hκ (t := 1) (k := 2) (r := 74) h18 rfl in_X1 (by decide) rfl q544 (Or.inl rfl) dX0_serves_45 ?_
        obtain ⟨h19, h⟩ := bck_i h
        obtain ⟨s7, v10, h20, h⟩ := bcl_i h
        refine r_callV hκ (n' := 0) (index := 339) (w_J10_size Γ0 l0 h20) (lw_V q2531 q811 q812 q134 q813) (by decide +kernel) (t := 20) h19 rfl rfl (by decide) rfl (Nat.le_of_ble_eq_true rfl) dX0_serves_48 ?_
        exact x_ret hκ hf (x_P h) (fun κ hκ hf => r_iret hκ hf (nar_int _) dX0_serves_51)
      · replace h := (bte_i h).2 h13
        exact r_xout hκ ht hf (by decide) (x_P h)
  | b + 1, h => trivial
set_option maxHeartbeats 4000000 in
set_option maxRecDepth 100000 in
theorem w_X0_serves (Γ0 : bG) (l0 : Launch) {s0 st' : bS} {v xx a0 a1 : Int} (h : F_X0_serves s0 a0 a1 = some (st', v, xx)) : bCx Γ0 l0 yX0_serves (ws_ yX0_serves cX0_serves 2 (some .int)) 14 337 (some 0) [(2, a0), (0, a1)] s0 (bEq st' v xx) := by
  refine xb_ent (own := RX0) (by decide +kernel) rfl (Nat.le_of_ble_eq_true rfl) (L := [(0, (2, a0)), (1, (0, a1))]) rfl ?_
  intro κ hκ hi ht hf
  unfold F_X0_serves at h
  refine r_aload_n hκ 0 rfl rfl dX0_serves_0 ?_
  refine r_iload_n hκ 1 rfl rfl dX0_serves_1 ?_
  obtain ⟨h2, h⟩ := bck_i h
  obtain ⟨s1, v1, v2, h1, h⟩ := bclx_i h
  refine r_seq (A := (v2 = -1 → bJ κ s1 5 [(0, (2, a0)), (1, (0, a1))] [(2, v1)]) ∧ (¬ v2 = -1 → bT κ s1 2 [(0, (2, a0)), (1, (0, a1))] v1 v2)) ⟨fun h3 => ?_, fun h3 => ?_⟩ (fun k0 => r_xcallV hκ (n' := 1) (index := 322) (w_X0_client Γ0 l0 h1) (lw_V q2421 q2423 qs44 q121 q2424) (by decide +kernel) (t := 0) h2 rfl rfl (by decide) rfl (Nat.le_of_ble_eq_true rfl) dX0_serves_2 (r_xj1 k0.1) (r_xj2 k0.2))
  · replace h := (bte_i h).1 h3
    obtain ⟨h4, h⟩ := bck_i h
    obtain ⟨s2, v3, h5, h⟩ := bcl_i h
    refine r_callV hκ (n' := 0) (index := 325) (w_X9_isDue Γ0 l0 h5) (lw_V q2483 q2484 q2485 q141 q2486) (by decide +kernel) (t := 7) h4 rfl rfl (by decide) rfl (Nat.le_of_ble_eq_true rfl) dX0_serves_5 ?_
    refine r_bipush hκ (by decide) dX0_serves_8 ?_
    obtain ⟨s3, v4, v5, h6, h⟩ := bclx_i h
    refine r_seq (A := (v5 = -1 → bJ κ s3 13 [(0, (2, a0)), (1, (0, a1))] []) ∧ (¬ v5 = -1 → bT κ s3 10 [(0, (2, a0)), (1, (0, a1))] v4 v5)) ⟨fun h7 => ?_, fun h7 => ?_⟩ (fun k0 => r_xcallS hκ (n' := 2) (index := 196) (w_X0_may Γ0 l0 h6) (lw_S q799 q800 q121 q801) (by decide +kernel) rfl (by decide) rfl (Nat.le_of_ble_eq_true rfl) dX0_serves_10 (r_xj1 k0.1) (r_xj2 k0.2))
    · replace h := (bte_i h).1 h7
      refine r_aload_n hκ 0 rfl rfl dX0_serves_13 ?_
      obtain ⟨h8, h⟩ := bck_i h
      refine r_get hκ (t := 0) (k := 0) (r := 34) h8 rfl in_X0 (by decide) rfl q573 (Or.inl rfl) dX0_serves_14 ?_
      obtain ⟨h9, h⟩ := bck_i h
      obtain ⟨s4, v6, h10, h⟩ := bcl_i h
      refine r_callV hκ (n' := 0) (index := 329) (w_X1_isFull Γ0 l0 h10) (lw_V q2487 q2488 q2489 q122 q2490) (by decide +kernel) (t := 1) h9 rfl rfl (by decide) rfl (Nat.le_of_ble_eq_true rfl) dX0_serves_17 ?_
      refine r_if_ne hκ (tgt := 27) (by decide) dX0_serves_20 (fun h11 => ?_) (fun h11 => ?_)
      · replace h := (bte_i h).2 h11
        refine r_iconst hκ dX0_serves_27 ?_
        exact r_sub [0, 1] rfl (w_X0_serves_r hκ hi ht hf 0 _ _ _ _ h)
      · replace h := (bte_i h).1 h11
        refine r_iconst hκ dX0_serves_23 ?_
        refine r_goto hκ (tgt := 28) (by decide) dX0_serves_24 ?_
        exact r_sub [0, 1] rfl (w_X0_serves_r hκ hi ht hf 0 _ _ _ _ h)
    · replace h := (bte_i h).2 h7
      exact r_xout hκ ht hf (by decide) (x_P h)
  · replace h := (bte_i h).2 h3
    exact r_xout hκ ht hf (by decide) (x_P h)
/-- EditsMeet.lambda$serve$17(I)I -/
def F_X0_lambda_serve_17 (s0 : bS) (a0 a1 : Int) : Option (bS × Int × Int) :=
  bck (bg s0 0 a0 0 = 1) <|
  bclx (F_X0_serves s0 a0 a1) fun s1 v1 v2 =>
  bte (v2 = -1)
  (some (s1, v1, -1))
  (some (s1, v1, v2))
set_option maxHeartbeats 4000000 in
set_option maxRecDepth 100000 in
theorem w_X0_lambda_serve_17 (Γ0 : bG) (l0 : Launch) {s0 st' : bS} {v xx a0 a1 : Int} (h : F_X0_lambda_serve_17 s0 a0 a1 = some (st', v, xx)) : bCx Γ0 l0 yX0_lambda_serve_17 (ws_ yX0_lambda_serve_17 cX0_lambda_serve_17 2 (some .int)) 15 358 (some 0) [(2, a0), (0, a1)] s0 (bEq st' v xx) := by
  refine xb_ent (own := RX0) (by decide +kernel) rfl (Nat.le_of_ble_eq_true rfl) (L := [(0, (2, a0)), (1, (0, a1))]) rfl ?_
  intro κ hκ hi ht hf
  unfold F_X0_lambda_serve_17 at h
  refine r_aload_n hκ 0 rfl rfl dX0_lambda_serve_17_0 ?_
  refine r_iload_n hκ 1 rfl rfl dX0_lambda_serve_17_1 ?_
  obtain ⟨h2, h⟩ := bck_i h
  obtain ⟨s1, v1, v2, h1, h⟩ := bclx_i h
  refine r_seq (A := (v2 = -1 → bJ κ s1 5 [(0, (2, a0)), (1, (0, a1))] [(0, v1)]) ∧ (¬ v2 = -1 → bT κ s1 2 [(0, (2, a0)), (1, (0, a1))] v1 v2)) ⟨fun h3 => ?_, fun h3 => ?_⟩ (fun k0 => r_xcallV hκ (n' := 1) (index := 432) (w_X0_serves Γ0 l0 h1) (lw_V q2479 q2481 qs48 q121 q2482) (by decide +kernel) (t := 0) h2 rfl rfl (by decide) rfl (Nat.le_of_ble_eq_true rfl) dX0_lambda_serve_17_2 (r_xj1 k0.1) (r_xj2 k0.2))
  · replace h := (bte_i h).1 h3
    exact x_ret hκ hf (x_P h) (fun κ hκ hf => r_iret hκ hf (nar_int _) dX0_lambda_serve_17_5)
  · replace h := (bte_i h).2 h3
    exact r_xout hκ ht hf (by decide) (x_P h)
/-- EditsMeet.hears(I)I -/
def F_X0_hears (s0 : bS) (a0 a1 : Int) : Option (bS × Int × Int) :=
  bck (bg s0 0 a0 0 = 1) <|
  bclx (F_X0_client s0 a0 a1) fun s1 v1 v2 =>
  bte (v2 = -1)
  (bck (bg s1 0 a0 0 = 1) <|
  bck (bg s1 0 (bg s1 34 a0 0) 0 = 2) <|
  bcl (F_X1_mayHear s1 (bg s1 34 a0 0) a1) fun s2 v3 =>
  bclx (F_X0_may s2 v3 (-5)) fun s3 v4 v5 =>
  bte (v5 = -1)
  (bck (bg s3 0 a0 0 = 1) <|
  bck (bg s3 0 (bg s3 34 a0 0) 0 = 2) <|
  bcl (F_X1_hears s3 (bg s3 34 a0 0) a1) fun s4 v6 =>
  bck (bg s4 0 v1 0 = 8) <|
  some (s4, (bg s4 164 v1 0), -1))
  (some (s3, v4, v5)))
  (some (s1, v1, v2))
set_option maxHeartbeats 4000000 in
set_option maxRecDepth 100000 in
theorem w_X0_hears (Γ0 : bG) (l0 : Launch) {s0 st' : bS} {v xx a0 a1 : Int} (h : F_X0_hears s0 a0 a1 = some (st', v, xx)) : bCx Γ0 l0 yX0_hears (ws_ yX0_hears cX0_hears 3 (some .int)) 16 380 (some 0) [(2, a0), (0, a1)] s0 (bEq st' v xx) := by
  refine xb_ent (own := RX0) (by decide +kernel) rfl (Nat.le_of_ble_eq_true rfl) (L := [(0, (2, a0)), (1, (0, a1))]) rfl ?_
  intro κ hκ hi ht hf
  unfold F_X0_hears at h
  refine r_aload_n hκ 0 rfl rfl dX0_hears_0 ?_
  refine r_iload_n hκ 1 rfl rfl dX0_hears_1 ?_
  obtain ⟨h2, h⟩ := bck_i h
  obtain ⟨s1, v1, v2, h1, h⟩ := bclx_i h
  refine r_seq (A := (v2 = -1 → bJ κ s1 5 [(0, (2, a0)), (1, (0, a1))] [(2, v1)]) ∧ (¬ v2 = -1 → bT κ s1 2 [(0, (2, a0)), (1, (0, a1))] v1 v2)) ⟨fun h3 => ?_, fun h3 => ?_⟩ (fun k0 => r_xcallV hκ (n' := 1) (index := 322) (w_X0_client Γ0 l0 h1) (lw_V q2421 q2423 qs44 q121 q2424) (by decide +kernel) (t := 0) h2 rfl rfl (by decide) rfl (Nat.le_of_ble_eq_true rfl) dX0_hears_2 (r_xj1 k0.1) (r_xj2 k0.2))
  · replace h := (bte_i h).1 h3
    refine r_astore_n hκ (L2 := [(2, (2, v1)), (0, (2, a0)), (1, (0, a1))]) (by decide) rfl rfl dX0_hears_5 ?_
    refine r_aload_n hκ 1 rfl rfl dX0_hears_6 ?_
    obtain ⟨h4, h⟩ := bck_i h
    refine r_get hκ (t := 0) (k := 0) (r := 34) h4 rfl in_X0 (by decide) rfl q573 (Or.inl rfl) dX0_hears_7 ?_
    refine r_iload_n hκ 2 rfl rfl dX0_hears_10 ?_
    obtain ⟨h5, h⟩ := bck_i h
    obtain ⟨s2, v3, h6, h⟩ := bcl_i h
    refine r_callV hκ (n' := 1) (index := 346) (w_X1_mayHear Γ0 l0 h6) (lw_V q2543 q2544 q2545 q122 q2546) (by decide +kernel) (t := 1) h5 rfl rfl (by decide) rfl (Nat.le_of_ble_eq_true rfl) dX0_hears_11 ?_
    refine r_bipush hκ (by decide) dX0_hears_14 ?_
    obtain ⟨s3, v4, v5, h7, h⟩ := bclx_i h
    refine r_seq (A := (v5 = -1 → bJ κ s3 19 [(2, (2, v1)), (0, (2, a0)), (1, (0, a1))] []) ∧ (¬ v5 = -1 → bT κ s3 16 [(2, (2, v1)), (0, (2, a0)), (1, (0, a1))] v4 v5)) ⟨fun h8 => ?_, fun h8 => ?_⟩ (fun k0 => r_xcallS hκ (n' := 2) (index := 196) (w_X0_may Γ0 l0 h7) (lw_S q799 q800 q121 q801) (by decide +kernel) rfl (by decide) rfl (Nat.le_of_ble_eq_true rfl) dX0_hears_16 (r_xj1 k0.1) (r_xj2 k0.2))
    · replace h := (bte_i h).1 h8
      refine r_aload_n hκ 1 rfl rfl dX0_hears_19 ?_
      obtain ⟨h9, h⟩ := bck_i h
      refine r_get hκ (t := 0) (k := 0) (r := 34) h9 rfl in_X0 (by decide) rfl q573 (Or.inl rfl) dX0_hears_20 ?_
      refine r_iload_n hκ 2 rfl rfl dX0_hears_23 ?_
      obtain ⟨h10, h⟩ := bck_i h
      obtain ⟨s4, v6, h11, h⟩ := bcl_i h
      refine r_callV hκ (n' := 1) (index := 349) (w_X1_hears Γ0 l0 h11) (lw_V q2547 q2548 q2549 q122 q2550) (by decide +kernel) (t := 1) h10 rfl rfl (by decide) rfl (Nat.le_of_ble_eq_true rfl) dX0_hears_24 ?_
      refine r_aload_n hκ 0 rfl rfl dX0_hears_27 ?_
      obtain ⟨h12, h⟩ := bck_i h
      refine r_get hκ (t := 7) (k := 5) (r := 164) h12 rfl in_X9 (by decide) rfl q496 (Or.inl rfl) dX0_hears_28 ?_
      exact x_ret hκ hf (x_P h) (fun κ hκ hf => r_iret hκ hf (nar_int _) dX0_hears_31)
    · replace h := (bte_i h).2 h8
      exact r_xout hκ ht hf (by decide) (x_P h)
  · replace h := (bte_i h).2 h3
    exact r_xout hκ ht hf (by decide) (x_P h)
/-- EditsMeet.lambda$hear$18(I)I -/
def F_X0_lambda_hear_18 (s0 : bS) (a0 a1 : Int) : Option (bS × Int × Int) :=
  bck (bg s0 0 a0 0 = 1) <|
  bclx (F_X0_hears s0 a0 a1) fun s1 v1 v2 =>
  bte (v2 = -1)
  (some (s1, v1, -1))
  (some (s1, v1, v2))
set_option maxHeartbeats 4000000 in
set_option maxRecDepth 100000 in
theorem w_X0_lambda_hear_18 (Γ0 : bG) (l0 : Launch) {s0 st' : bS} {v xx a0 a1 : Int} (h : F_X0_lambda_hear_18 s0 a0 a1 = some (st', v, xx)) : bCx Γ0 l0 yX0_lambda_hear_18 (ws_ yX0_lambda_hear_18 cX0_lambda_hear_18 2 (some .int)) 17 402 (some 0) [(2, a0), (0, a1)] s0 (bEq st' v xx) := by
  refine xb_ent (own := RX0) (by decide +kernel) rfl (Nat.le_of_ble_eq_true rfl) (L := [(0, (2, a0)), (1, (0, a1))]) rfl ?_
  intro κ hκ hi ht hf
  unfold F_X0_lambda_hear_18 at h
  refine r_aload_n hκ 0 rfl rfl dX0_lambda_hear_18_0 ?_
  refine r_iload_n hκ 1 rfl rfl dX0_lambda_hear_18_1 ?_
  obtain ⟨h2, h⟩ := bck_i h
  obtain ⟨s1, v1, v2, h1, h⟩ := bclx_i h
  refine r_seq (A := (v2 = -1 → bJ κ s1 5 [(0, (2, a0)), (1, (0, a1))] [(0, v1)]) ∧ (¬ v2 = -1 → bT κ s1 2 [(0, (2, a0)), (1, (0, a1))] v1 v2)) ⟨fun h3 => ?_, fun h3 => ?_⟩ (fun k0 => r_xcallV hκ (n' := 1) (index := 434) (w_X0_hears Γ0 l0 h1) (lw_V q2539 q2541 qs50 q121 q2542) (by decide +kernel) (t := 0) h2 rfl rfl (by decide) rfl (Nat.le_of_ble_eq_true rfl) dX0_lambda_hear_18_2 (r_xj1 k0.1) (r_xj2 k0.2))
  · replace h := (bte_i h).1 h3
    exact x_ret hκ hf (x_P h) (fun κ hκ hf => r_iret hκ hf (nar_int _) dX0_lambda_hear_18_5)
  · replace h := (bte_i h).2 h3
    exact r_xout hκ ht hf (by decide) (x_P h)
/-- EditsMeet.met()Z -/
def F_X0_met_r (b : Nat) (x0 x1 : Int) (s0 : bS) : Option (bS × Int) :=
  match b with
  | 0 =>
    bte (i32 4 ≤ i32 x1)
    (some (s0, 1))
    (bck (bg s0 0 x0 0 = 1) <|
    bck (bg s0 0 (bg s0 34 x0 0) 0 = 2) <|
    bck (bg s0 0 (bg s0 66 (bg s0 34 x0 0) 0) 0 = 1007 ∧ (0 : Int) ≤ x1 ∧ x1 < bg s0 4 (bg s0 66 (bg s0 34 x0 0) 0) 0) <|
    bck (bg s0 0 (bg s0 10 (bg s0 66 (bg s0 34 x0 0) 0) x1) 0 = 8) <|
    bcl (F_X9_isDue s0 (bg s0 10 (bg s0 66 (bg s0 34 x0 0) 0) x1)) fun s1 v1 =>
    bte (i32 v1 = 0)
    (bck (bg s1 0 x0 0 = 1) <|
    bck (bg s1 0 (bg s1 34 x0 0) 0 = 2) <|
    bcl (F_X1_mayHear s1 (bg s1 34 x0 0) x1) fun s2 v2 =>
    bte (i32 v2 = 0)
    (F_X0_met_r 0 x0 (x1 + 1) s2)
    (some (s2, 0)))
    (some (s1, 0)))
  | _ => none
partial_fixpoint
def F_X0_met (s0 : bS) (a0 : Int) : Option (bS × Int) :=
  F_X0_met_r 0 a0 0 s0
set_option maxHeartbeats 4000000 in
set_option maxRecDepth 100000 in
set_option synthInstance.maxHeartbeats 4000000 in
theorem w_X0_met_r {Γ0 : bG} {l0 : Launch} {κ : bK} {st' : bS} {v : Int} (hκ : bOk κ Γ0 l0 cX0_met RX0 2 2 41) (hi : bIn κ yX0_met) (hf : bFin κ (some .boolean) st' (some (0, v))) (b : Nat) (x0 x1 : Int) (s0 : bS) (h : F_X0_met_r b x0 x1 s0 = some (st', v)) : match (generalizing := false) b with | 0 => bJ κ s0 2 [(0, (2, x0)), (1, (0, x1))] [] | _ => True := by
  refine F_X0_met_r.partial_correctness x0 (fun b x1 s0 r => r = (st', v) → match (generalizing := false) b with | 0 => bJ κ s0 2 [(0, (2, x0)), (1, (0, x1))] [] | _ => True) ?_ b x1 s0 _ h rfl
  intro f' ih b x1 s0 r h hr
  subst hr
  match b, h with
  | 0, h =>
      refine r_iload_n hκ 1 rfl rfl dX0_met_2 ?_
      refine r_iconst hκ dX0_met_3 ?_
      refine r_icmp_ge hκ (tgt := 41) (by decide) dX0_met_4 (fun h1 => ?_) (fun h1 => ?_)
      · replace h := (bte_i h).1 h1
        refine r_iconst hκ dX0_met_41 ?_
        exact r_iretH hκ hf h (nar_bool (by decide)) dX0_met_42
      · replace h := (bte_i h).2 h1
        refine r_aload_n hκ 0 rfl rfl dX0_met_7 ?_
        obtain ⟨h2, h⟩ := bck_i h
        refine r_get hκ (t := 0) (k := 0) (r := 34) h2 rfl in_X0 (by decide) rfl q573 (Or.inl rfl) dX0_met_8 ?_
        obtain ⟨h3, h⟩ := bck_i h
        refine r_get hκ (t := 1) (k := 0) (r := 66) h3 rfl in_X1 (by decide) rfl q540 (Or.inl rfl) dX0_met_11 ?_
        refine r_iload_n hκ 1 rfl rfl dX0_met_14 ?_
        obtain ⟨⟨h4, h5⟩, h⟩ := bck_i h
        refine r_aald hκ (t := 7) (by decide) h4 h5 dX0_met_15 ?_
        obtain ⟨h6, h⟩ := bck_i h
        obtain ⟨s1, v1, h7, h⟩ := bcl_i h
        refine r_callV hκ (n' := 0) (index := 325) (w_X9_isDue Γ0 l0 h7) (lw_V q2483 q2484 q2485 q141 q2486) (by decide +kernel) (t := 7) h6 rfl rfl (by decide) rfl (Nat.le_of_ble_eq_true rfl) dX0_met_16 ?_
        refine r_if_ne hκ (tgt := 33) (by decide) dX0_met_19 (fun h8 => ?_) (fun h8 => ?_)
        · replace h := (bte_i h).2 h8
          refine r_iconst hκ dX0_met_33 ?_
          exact r_iretH hκ hf h (nar_bool (by decide)) dX0_met_34
        · replace h := (bte_i h).1 h8
          refine r_aload_n hκ 0 rfl rfl dX0_met_22 ?_
          obtain ⟨h9, h⟩ := bck_i h
          refine r_get hκ (t := 0) (k := 0) (r := 34) h9 rfl in_X0 (by decide) rfl q573 (Or.inl rfl) dX0_met_23 ?_
          refine r_iload_n hκ 1 rfl rfl dX0_met_26 ?_
          obtain ⟨h10, h⟩ := bck_i h
          obtain ⟨s2, v2, h11, h⟩ := bcl_i h
          refine r_callV hκ (n' := 1) (index := 346) (w_X1_mayHear Γ0 l0 h11) (lw_V q2543 q2544 q2545 q122 q2546) (by decide +kernel) (t := 1) h10 rfl rfl (by decide) rfl (Nat.le_of_ble_eq_true rfl) dX0_met_27 ?_
          refine r_if_eq hκ (tgt := 35) (by decide) dX0_met_30 (fun h12 => ?_) (fun h12 => ?_)
          · replace h := (bte_i h).1 h12
            refine r_iinc hκ (L2 := [(1, (0, (x1 + 1))), (0, (2, x0))]) 1 rfl (by decide) rfl dX0_met_35 ?_
            refine r_goto hκ (tgt := 2) (by decide) dX0_met_38 ?_
            exact r_sub [1, 0] rfl (ih 0 _ _ _ h rfl)
          · replace h := (bte_i h).2 h12
            refine r_iconst hκ dX0_met_33 ?_
            exact r_iretH hκ hf h (nar_bool (by decide)) dX0_met_34
  | b + 1, h => trivial
set_option maxHeartbeats 4000000 in
set_option maxRecDepth 100000 in
theorem w_X0_met (Γ0 : bG) (l0 : Launch) {s0 st' : bS} {v a0 : Int} (h : F_X0_met s0 a0 = some (st', v)) : bCt Γ0 l0 yX0_met cX0_met 2 (some .boolean) 2 41 [(2, a0)] s0 st' (some (0, v)) := by
  refine b_ent (own := RX0) (by decide +kernel) rfl (Nat.le_of_ble_eq_true rfl) (L := [(0, (2, a0))]) rfl ?_
  intro κ hκ hi hf
  unfold F_X0_met at h
  refine r_iconst hκ dX0_met_0 ?_
  refine r_istore_n hκ (L2 := [(1, (0, 0)), (0, (2, a0))]) (by decide) rfl rfl dX0_met_1 ?_
  exact r_sub [1, 0] rfl (w_X0_met_r hκ hi hf 0 _ _ _ h)
/-- EditsMeet.lambda$meet$19()I -/
def F_X0_lambda_meet_19_r (b : Nat) (x0 x1 x2 : Int) (s0 : bS) : Option (bS × Int × Int) :=
  match b with
  | 0 =>
    bck (bg s0 0 x0 0 = 1) <|
    bcl (F_X0_met s0 x0) fun s1 v1 =>
    bte (i32 v1 = 0)
    (F_X0_lambda_meet_19_r 1 x0 0 0 s1)
    (bck (bg s1 0 x0 0 = 1) <|
    bck (bg s1 0 (bg s1 34 x0 0) 0 = 2) <|
    bck (bg s1 0 (bg s1 74 (bg s1 34 x0 0) 0) 0 = 21) <|
    bcl (F_J10_size s1 (bg s1 74 (bg s1 34 x0 0) 0)) fun s2 v2 =>
    some (s2, v2, -1))
  | 1 =>
    bte (i32 4 ≤ i32 x1)
    (F_X0_lambda_meet_19_r 4 x0 0 0 s0)
    (bck (bg s0 0 x0 0 = 1) <|
    bck (bg s0 0 (bg s0 34 x0 0) 0 = 2) <|
    bck (bg s0 0 (bg s0 66 (bg s0 34 x0 0) 0) 0 = 1007 ∧ (0 : Int) ≤ x1 ∧ x1 < bg s0 4 (bg s0 66 (bg s0 34 x0 0) 0) 0) <|
    bck (bg s0 0 (bg s0 10 (bg s0 66 (bg s0 34 x0 0) 0) x1) 0 = 8) <|
    bcl (F_X9_isDue s0 (bg s0 10 (bg s0 66 (bg s0 34 x0 0) 0) x1)) fun s3 v3 =>
    bte (i32 v3 = 0)
    (F_X0_lambda_meet_19_r 3 x0 x1 0 s3)
    (bck (bg s3 0 x0 0 = 1) <|
    bck (bg s3 0 (bg s3 34 x0 0) 0 = 2) <|
    bcl (F_X1_isFull s3 (bg s3 34 x0 0)) fun s4 v4 =>
    bte (i32 v4 = 0)
    (F_X0_lambda_meet_19_r 2 x0 x1 1 s4)
    (F_X0_lambda_meet_19_r 2 x0 x1 0 s4)))
  | 2 =>
    bclx (F_X0_may s0 x2 (-6)) fun s5 v5 v6 =>
    bte (v6 = -1)
    (bck (bg s5 0 x0 0 = 1) <|
    bck (bg s5 0 (bg s5 34 x0 0) 0 = 2) <|
    bcl (F_X1_serves s5 (bg s5 34 x0 0) x1) fun s6 v7 =>
    F_X0_lambda_meet_19_r 3 x0 x1 0 s6)
    (some (s5, v5, v6))
  | 3 =>
    F_X0_lambda_meet_19_r 1 x0 (x1 + 1) 0 s0
  | 4 =>
    bte (i32 4 ≤ i32 x1)
    (F_X0_lambda_meet_19_r 0 x0 0 0 s0)
    (F_X0_lambda_meet_19_r 5 x0 x1 0 s0)
  | 5 =>
    bck (bg s0 0 x0 0 = 1) <|
    bck (bg s0 0 (bg s0 34 x0 0) 0 = 2) <|
    bcl (F_X1_mayHear s0 (bg s0 34 x0 0) x1) fun s7 v8 =>
    bte (i32 v8 = 0)
    (F_X0_lambda_meet_19_r 4 x0 (x1 + 1) 0 s7)
    (bck (bg s7 0 x0 0 = 1) <|
    bck (bg s7 0 (bg s7 34 x0 0) 0 = 2) <|
    bcl (F_X1_hears s7 (bg s7 34 x0 0) x1) fun s8 v9 =>
    F_X0_lambda_meet_19_r 5 x0 x1 0 s8)
  | _ => none
partial_fixpoint
def F_X0_lambda_meet_19 (s0 : bS) (a0 : Int) : Option (bS × Int × Int) :=
  F_X0_lambda_meet_19_r 0 a0 0 0 s0
set_option maxHeartbeats 4000000 in
set_option maxRecDepth 100000 in
set_option synthInstance.maxHeartbeats 4000000 in
theorem w_X0_lambda_meet_19_r {Γ0 : bG} {l0 : Launch} {κ : bK} {st' : bS} {v xx : Int} (hκ : bOk κ Γ0 l0 cX0_lambda_meet_19 RX0 2 16 380) (hi : bIn κ yX0_lambda_meet_19) (ht : xTab κ []) (hf : xFin κ (some .int) (some 0) (bEq st' v xx)) (b : Nat) (x0 x1 x2 : Int) (s0 : bS) (h : F_X0_lambda_meet_19_r b x0 x1 x2 s0 = some (st', v, xx)) : match (generalizing := false) b with | 0 => bJ κ s0 0 [(0, (2, x0))] [] | 1 => bJ κ s0 9 [(0, (2, x0)), (1, (0, x1))] [] | 2 => bJ κ s0 47 [(0, (2, x0)), (1, (0, x1))] [(0, x2)] | 3 => bJ κ s0 60 [(0, (2, x0)), (1, (0, x1))] [] | 4 => bJ κ s0 68 [(0, (2, x0)), (1, (0, x1))] [] | 5 => bJ κ s0 73 [(0, (2, x0)), (1, (0, x1))] [] | _ => True := by
  refine F_X0_lambda_meet_19_r.partial_correctness x0 (fun b x1 x2 s0 r => r = (st', v, xx) → match (generalizing := false) b with | 0 => bJ κ s0 0 [(0, (2, x0))] [] | 1 => bJ κ s0 9 [(0, (2, x0)), (1, (0, x1))] [] | 2 => bJ κ s0 47 [(0, (2, x0)), (1, (0, x1))] [(0, x2)] | 3 => bJ κ s0 60 [(0, (2, x0)), (1, (0, x1))] [] | 4 => bJ κ s0 68 [(0, (2, x0)), (1, (0, x1))] [] | 5 => bJ κ s0 73 [(0, (2, x0)), (1, (0, x1))] [] | _ => True) ?_ b x1 x2 s0 _ h rfl
  intro f' ih b x1 x2 s0 r h hr
  subst hr
  match b, h with
  | 0, h =>
      refine r_aload_n hκ 0 rfl rfl dX0_lambda_meet_19_0 ?_
      obtain ⟨h1, h⟩ := bck_i h
      obtain ⟨s1, v1, h2, h⟩ := bcl_i h
      refine r_callV hκ (n' := 0) (index := 479) (w_X0_met Γ0 l0 h2) (lw_V q2623 q2625 qs52 q121 q2626) (by decide +kernel) (t := 0) h1 rfl rfl (by decide) rfl (Nat.le_of_ble_eq_true rfl) dX0_lambda_meet_19_1 ?_
      refine r_if_ne hκ (tgt := 104) (by decide) dX0_lambda_meet_19_4 (fun h3 => ?_) (fun h3 => ?_)
      · replace h := (bte_i h).2 h3
        refine r_aload_n hκ 0 rfl rfl dX0_lambda_meet_19_104 ?_
        obtain ⟨h4, h⟩ := bck_i h
        refine r_get hκ (t := 0) (k := 0) (r := 34) h4 rfl in_X0 (by decide) rfl q573 (Or.inl rfl) dX0_lambda_meet_19_105 ?_
        obtain ⟨h5, h⟩ := bck_i h
        refine r_get hκ (t := 1) (k := 2) (r := 74) h5 rfl in_X1 (by decide) rfl q544 (Or.inl rfl) dX0_lambda_meet_19_108 ?_
        obtain ⟨h6, h⟩ := bck_i h
        obtain ⟨s2, v2, h7, h⟩ := bcl_i h
        refine r_callV hκ (n' := 0) (index := 339) (w_J10_size Γ0 l0 h7) (lw_V q2531 q811 q812 q134 q813) (by decide +kernel) (t := 20) h6 rfl rfl (by decide) rfl (Nat.le_of_ble_eq_true rfl) dX0_lambda_meet_19_111 ?_
        exact x_ret hκ hf (x_P h) (fun κ hκ hf => r_iret hκ hf (nar_int _) dX0_lambda_meet_19_114)
      · replace h := (bte_i h).1 h3
        refine r_iconst hκ dX0_lambda_meet_19_7 ?_
        refine r_istore_n hκ (L2 := [(1, (0, 0)), (0, (2, x0))]) (by decide) rfl rfl dX0_lambda_meet_19_8 ?_
        exact r_sub [1, 0] rfl (ih 1 _ _ _ _ h rfl)
  | 1, h =>
      refine r_iload_n hκ 1 rfl rfl dX0_lambda_meet_19_9 ?_
      refine r_iconst hκ dX0_lambda_meet_19_10 ?_
      refine r_icmp_ge hκ (tgt := 66) (by decide) dX0_lambda_meet_19_11 (fun h8 => ?_) (fun h8 => ?_)
      · replace h := (bte_i h).1 h8
        refine r_iconst hκ dX0_lambda_meet_19_66 ?_
        refine r_istore_n hκ (L2 := [(1, (0, 0)), (0, (2, x0))]) (by decide) rfl rfl dX0_lambda_meet_19_67 ?_
        exact r_sub [1, 0] rfl (ih 4 _ _ _ _ h rfl)
      · replace h := (bte_i h).2 h8
        refine r_aload_n hκ 0 rfl rfl dX0_lambda_meet_19_14 ?_
        obtain ⟨h9, h⟩ := bck_i h
        refine r_get hκ (t := 0) (k := 0) (r := 34) h9 rfl in_X0 (by decide) rfl q573 (Or.inl rfl) dX0_lambda_meet_19_15 ?_
        obtain ⟨h10, h⟩ := bck_i h
        refine r_get hκ (t := 1) (k := 0) (r := 66) h10 rfl in_X1 (by decide) rfl q540 (Or.inl rfl) dX0_lambda_meet_19_18 ?_
        refine r_iload_n hκ 1 rfl rfl dX0_lambda_meet_19_21 ?_
        obtain ⟨⟨h11, h12⟩, h⟩ := bck_i h
        refine r_aald hκ (t := 7) (by decide) h11 h12 dX0_lambda_meet_19_22 ?_
        obtain ⟨h13, h⟩ := bck_i h
        obtain ⟨s3, v3, h14, h⟩ := bcl_i h
        refine r_callV hκ (n' := 0) (index := 325) (w_X9_isDue Γ0 l0 h14) (lw_V q2483 q2484 q2485 q141 q2486) (by decide +kernel) (t := 7) h13 rfl rfl (by decide) rfl (Nat.le_of_ble_eq_true rfl) dX0_lambda_meet_19_23 ?_
        refine r_if_ne hκ (tgt := 32) (by decide) dX0_lambda_meet_19_26 (fun h15 => ?_) (fun h15 => ?_)
        · replace h := (bte_i h).2 h15
          refine r_aload_n hκ 0 rfl rfl dX0_lambda_meet_19_32 ?_
          obtain ⟨h16, h⟩ := bck_i h
          refine r_get hκ (t := 0) (k := 0) (r := 34) h16 rfl in_X0 (by decide) rfl q573 (Or.inl rfl) dX0_lambda_meet_19_33 ?_
          obtain ⟨h17, h⟩ := bck_i h
          obtain ⟨s4, v4, h18, h⟩ := bcl_i h
          refine r_callV hκ (n' := 0) (index := 329) (w_X1_isFull Γ0 l0 h18) (lw_V q2487 q2488 q2489 q122 q2490) (by decide +kernel) (t := 1) h17 rfl rfl (by decide) rfl (Nat.le_of_ble_eq_true rfl) dX0_lambda_meet_19_36 ?_
          refine r_if_ne hκ (tgt := 46) (by decide) dX0_lambda_meet_19_39 (fun h19 => ?_) (fun h19 => ?_)
          · replace h := (bte_i h).2 h19
            refine r_iconst hκ dX0_lambda_meet_19_46 ?_
            exact r_sub [0, 1] rfl (ih 2 _ _ _ _ h rfl)
          · replace h := (bte_i h).1 h19
            refine r_iconst hκ dX0_lambda_meet_19_42 ?_
            refine r_goto hκ (tgt := 47) (by decide) dX0_lambda_meet_19_43 ?_
            exact r_sub [0, 1] rfl (ih 2 _ _ _ _ h rfl)
        · replace h := (bte_i h).1 h15
          refine r_goto hκ (tgt := 60) (by decide) dX0_lambda_meet_19_29 ?_
          exact r_sub [0, 1] rfl (ih 3 _ _ _ _ h rfl)
  | 2, h =>
      refine r_bipush hκ (by decide) dX0_lambda_meet_19_47 ?_
      obtain ⟨s5, v5, v6, h21, h⟩ := bclx_i h
      refine r_seq (A := (v6 = -1 → bJ κ s5 52 [(0, (2, x0)), (1, (0, x1))] []) ∧ (¬ v6 = -1 → bT κ s5 49 [(0, (2, x0)), (1, (0, x1))] v5 v6)) ⟨fun h22 => ?_, fun h22 => ?_⟩ (fun k0 => r_xcallS hκ (n' := 2) (index := 196) (w_X0_may Γ0 l0 h21) (lw_S q799 q800 q121 q801) (by decide +kernel) rfl (by decide) rfl (Nat.le_of_ble_eq_true rfl) dX0_lambda_meet_19_49 (r_xj1 k0.1) (r_xj2 k0.2))
      · replace h := (bte_i h).1 h22
        refine r_aload_n hκ 0 rfl rfl dX0_lambda_meet_19_52 ?_
        obtain ⟨h23, h⟩ := bck_i h
        refine r_get hκ (t := 0) (k := 0) (r := 34) h23 rfl in_X0 (by decide) rfl q573 (Or.inl rfl) dX0_lambda_meet_19_53 ?_
        refine r_iload_n hκ 1 rfl rfl dX0_lambda_meet_19_56 ?_
        obtain ⟨h24, h⟩ := bck_i h
        obtain ⟨s6, v7, h25, h⟩ := bcl_i h
        refine r_callV hκ (n' := 1) (index := 332) (w_X1_serves Γ0 l0 h25) (lw_V q2492 q2493 q2494 q122 q2495) (by decide +kernel) (t := 1) h24 rfl rfl (by decide) rfl (Nat.le_of_ble_eq_true rfl) dX0_lambda_meet_19_57 ?_
        exact r_sub [0, 1] rfl (ih 3 _ _ _ _ h rfl)
      · replace h := (bte_i h).2 h22
        exact r_xout hκ ht hf (by decide) (x_P h)
  | 3, h =>
      refine r_iinc hκ (L2 := [(1, (0, (x1 + 1))), (0, (2, x0))]) 1 rfl (by decide) rfl dX0_lambda_meet_19_60 ?_
      refine r_goto hκ (tgt := 9) (by decide) dX0_lambda_meet_19_63 ?_
      exact r_sub [1, 0] rfl (ih 1 _ _ _ _ h rfl)
  | 4, h =>
      refine r_iload_n hκ 1 rfl rfl dX0_lambda_meet_19_68 ?_
      refine r_iconst hκ dX0_lambda_meet_19_69 ?_
      refine r_icmp_ge hκ (tgt := 101) (by decide) dX0_lambda_meet_19_70 (fun h20 => ?_) (fun h20 => ?_)
      · replace h := (bte_i h).1 h20
        refine r_goto hκ (tgt := 0) (by decide) dX0_lambda_meet_19_101 ?_
        exact r_sub [0] rfl (ih 0 _ _ _ _ h rfl)
      · replace h := (bte_i h).2 h20
        exact r_sub [0, 1] rfl (ih 5 _ _ _ _ h rfl)
  | 5, h =>
      refine r_aload_n hκ 0 rfl rfl dX0_lambda_meet_19_73 ?_
      obtain ⟨h26, h⟩ := bck_i h
      refine r_get hκ (t := 0) (k := 0) (r := 34) h26 rfl in_X0 (by decide) rfl q573 (Or.inl rfl) dX0_lambda_meet_19_74 ?_
      refine r_iload_n hκ 1 rfl rfl dX0_lambda_meet_19_77 ?_
      obtain ⟨h27, h⟩ := bck_i h
      obtain ⟨s7, v8, h28, h⟩ := bcl_i h
      refine r_callV hκ (n' := 1) (index := 346) (w_X1_mayHear Γ0 l0 h28) (lw_V q2543 q2544 q2545 q122 q2546) (by decide +kernel) (t := 1) h27 rfl rfl (by decide) rfl (Nat.le_of_ble_eq_true rfl) dX0_lambda_meet_19_78 ?_
      refine r_if_eq hκ (tgt := 95) (by decide) dX0_lambda_meet_19_81 (fun h29 => ?_) (fun h29 => ?_)
      · replace h := (bte_i h).1 h29
        refine r_iinc hκ (L2 := [(1, (0, (x1 + 1))), (0, (2, x0))]) 1 rfl (by decide) rfl dX0_lambda_meet_19_95 ?_
        refine r_goto hκ (tgt := 68) (by decide) dX0_lambda_meet_19_98 ?_
        exact r_sub [1, 0] rfl (ih 4 _ _ _ _ h rfl)
      · replace h := (bte_i h).2 h29
        refine r_aload_n hκ 0 rfl rfl dX0_lambda_meet_19_84 ?_
        obtain ⟨h30, h⟩ := bck_i h
        refine r_get hκ (t := 0) (k := 0) (r := 34) h30 rfl in_X0 (by decide) rfl q573 (Or.inl rfl) dX0_lambda_meet_19_85 ?_
        refine r_iload_n hκ 1 rfl rfl dX0_lambda_meet_19_88 ?_
        obtain ⟨h31, h⟩ := bck_i h
        obtain ⟨s8, v9, h32, h⟩ := bcl_i h
        refine r_callV hκ (n' := 1) (index := 349) (w_X1_hears Γ0 l0 h32) (lw_V q2547 q2548 q2549 q122 q2550) (by decide +kernel) (t := 1) h31 rfl rfl (by decide) rfl (Nat.le_of_ble_eq_true rfl) dX0_lambda_meet_19_89 ?_
        refine r_goto hκ (tgt := 73) (by decide) dX0_lambda_meet_19_92 ?_
        exact r_sub [0, 1] rfl (ih 5 _ _ _ _ h rfl)
  | b + 6, h => trivial
set_option maxHeartbeats 4000000 in
set_option maxRecDepth 100000 in
theorem w_X0_lambda_meet_19 (Γ0 : bG) (l0 : Launch) {s0 st' : bS} {v xx a0 : Int} (h : F_X0_lambda_meet_19 s0 a0 = some (st', v, xx)) : bCx Γ0 l0 yX0_lambda_meet_19 (ws_ yX0_lambda_meet_19 cX0_lambda_meet_19 2 (some .int)) 16 380 (some 0) [(2, a0)] s0 (bEq st' v xx) := by
  refine xb_ent (own := RX0) (by decide +kernel) rfl (Nat.le_of_ble_eq_true rfl) (L := [(0, (2, a0))]) rfl ?_
  intro κ hκ hi ht hf
  unfold F_X0_lambda_meet_19 at h
  exact r_sub [0] rfl (w_X0_lambda_meet_19_r hκ hi ht hf 0 _ _ _ _ h)
/-- EditsMeet.turns(LEditsMeet$Client;LEditsMeet$Pile;LEditsMeet$Pile;)I -/
def F_X0_turns_r (b : Nat) (x0 x1 x2 x3 : Int) (s0 : bS) : Option (bS × Int × Int) :=
  match b with
  | 0 =>
    bclx (F_X0_may s0 x3 (-5)) fun s2 v2 v3 =>
    bte (v3 = -1)
    (bck (bg s2 0 x0 0 = 8) <|
    bck (bg s2 0 x1 0 = 9) <|
    bcl (F_X10_latest s2 x1) fun s3 v4 =>
    bcl (F_X0_isTooLong s3 (bg s2 146 x0 0) v4) fun s4 v5 =>
    bte (i32 v5 = 0)
    (F_X0_turns_r 1 x0 x1 x2 1 s4)
    (F_X0_turns_r 1 x0 x1 x2 0 s4))
    (some (s2, v2, v3))
  | 1 =>
    bclx (F_X0_may s0 x3 (-6)) fun s5 v6 v7 =>
    bte (v7 = -1)
    (bck (bg s5 0 x1 0 = 9) <|
    bcl (F_X10_takes s5 x1) fun s6 v8 =>
    bck (bg s6 0 x0 0 = 8) <|
    bcl (F_X9_does s6 x0 v8 x2) fun s7 v9 =>
    bck (bg s7 0 x1 0 = 9) <|
    bcl (F_X10_size s7 x1) fun s8 v10 =>
    some (s8, v10, -1))
    (some (s5, v6, v7))
  | _ => none
partial_fixpoint
def F_X0_turns (s0 : bS) (a0 a1 a2 : Int) : Option (bS × Int × Int) :=
  bck (bg s0 0 a1 0 = 9) <|
  bcl (F_X10_size s0 a1) fun s1 v1 =>
  bte (i32 v1 ≤ 0)
  (F_X0_turns_r 0 a0 a1 a2 0 s1)
  (F_X0_turns_r 0 a0 a1 a2 1 s1)
set_option maxHeartbeats 4000000 in
set_option maxRecDepth 100000 in
set_option synthInstance.maxHeartbeats 4000000 in
theorem w_X0_turns_r {Γ0 : bG} {l0 : Launch} {κ : bK} {st' : bS} {v xx : Int} (hκ : bOk κ Γ0 l0 cX0_turns RX0 3 15 3121) (hi : bIn κ yX0_turns) (ht : xTab κ []) (hf : xFin κ (some .int) (some 0) (bEq st' v xx)) (b : Nat) (x0 x1 x2 x3 : Int) (s0 : bS) (h : F_X0_turns_r b x0 x1 x2 x3 s0 = some (st', v, xx)) : match (generalizing := false) b with | 0 => bJ κ s0 12 [(0, (2, x0)), (1, (2, x1)), (2, (2, x2))] [(0, x3)] | 1 => bJ κ s0 36 [(0, (2, x0)), (1, (2, x1)), (2, (2, x2))] [(0, x3)] | _ => True := by
  refine F_X0_turns_r.partial_correctness x0 x1 x2 (fun b x3 s0 r => r = (st', v, xx) → match (generalizing := false) b with | 0 => bJ κ s0 12 [(0, (2, x0)), (1, (2, x1)), (2, (2, x2))] [(0, x3)] | 1 => bJ κ s0 36 [(0, (2, x0)), (1, (2, x1)), (2, (2, x2))] [(0, x3)] | _ => True) ?_ b x3 s0 _ h rfl
  intro f' ih b x3 s0 r h hr
  subst hr
  match b, h with
  | 0, h =>
      refine r_bipush hκ (by decide) dX0_turns_12 ?_
      obtain ⟨s2, v2, v3, h4, h⟩ := bclx_i h
      refine r_seq (A := (v3 = -1 → bJ κ s2 17 [(0, (2, x0)), (1, (2, x1)), (2, (2, x2))] []) ∧ (¬ v3 = -1 → bT κ s2 14 [(0, (2, x0)), (1, (2, x1)), (2, (2, x2))] v2 v3)) ⟨fun h5 => ?_, fun h5 => ?_⟩ (fun k0 => r_xcallS hκ (n' := 2) (index := 196) (w_X0_may Γ0 l0 h4) (lw_S q799 q800 q121 q801) (by decide +kernel) rfl (by decide) rfl (Nat.le_of_ble_eq_true rfl) dX0_turns_14 (r_xj1 k0.1) (r_xj2 k0.2))
      · replace h := (bte_i h).1 h5
        refine r_aload_n hκ 0 rfl rfl dX0_turns_17 ?_
        obtain ⟨h6, h⟩ := bck_i h
        refine r_get hκ (t := 7) (k := 0) (r := 146) h6 rfl in_X9 (by decide) rfl q486 (Or.inl rfl) dX0_turns_18 ?_
        refine r_aload_n hκ 1 rfl rfl dX0_turns_21 ?_
        obtain ⟨h7, h⟩ := bck_i h
        obtain ⟨s3, v4, h8, h⟩ := bcl_i h
        refine r_callV hκ (n' := 0) (index := 360) (w_X10_latest Γ0 l0 h8) (lw_V q2645 q2646 q2647 q142 q2648) (by decide +kernel) (t := 8) h7 rfl rfl (by decide) rfl (Nat.le_of_ble_eq_true rfl) dX0_turns_22 ?_
        obtain ⟨s4, v5, h9, h⟩ := bcl_i h
        refine r_callS hκ (n' := 2) (index := 256) (w_X0_isTooLong Γ0 l0 h9) (lw_S q2243 q2244 q121 q2245) (by decide +kernel) rfl (by decide) rfl (Nat.le_of_ble_eq_true rfl) dX0_turns_25 ?_
        refine r_if_ne hκ (tgt := 35) (by decide) dX0_turns_28 (fun h10 => ?_) (fun h10 => ?_)
        · replace h := (bte_i h).2 h10
          refine r_iconst hκ dX0_turns_35 ?_
          exact r_sub [0, 1, 2] rfl (ih 1 _ _ _ h rfl)
        · replace h := (bte_i h).1 h10
          refine r_iconst hκ dX0_turns_31 ?_
          refine r_goto hκ (tgt := 36) (by decide) dX0_turns_32 ?_
          exact r_sub [0, 1, 2] rfl (ih 1 _ _ _ h rfl)
      · replace h := (bte_i h).2 h5
        exact r_xout hκ ht hf (by decide) (x_P h)
  | 1, h =>
      refine r_bipush hκ (by decide) dX0_turns_36 ?_
      obtain ⟨s5, v6, v7, h11, h⟩ := bclx_i h
      refine r_seq (A := (v7 = -1 → bJ κ s5 41 [(0, (2, x0)), (1, (2, x1)), (2, (2, x2))] []) ∧ (¬ v7 = -1 → bT κ s5 38 [(0, (2, x0)), (1, (2, x1)), (2, (2, x2))] v6 v7)) ⟨fun h12 => ?_, fun h12 => ?_⟩ (fun k0 => r_xcallS hκ (n' := 2) (index := 196) (w_X0_may Γ0 l0 h11) (lw_S q799 q800 q121 q801) (by decide +kernel) rfl (by decide) rfl (Nat.le_of_ble_eq_true rfl) dX0_turns_38 (r_xj1 k0.1) (r_xj2 k0.2))
      · replace h := (bte_i h).1 h12
        refine r_aload_n hκ 0 rfl rfl dX0_turns_41 ?_
        refine r_aload_n hκ 1 rfl rfl dX0_turns_42 ?_
        obtain ⟨h13, h⟩ := bck_i h
        obtain ⟨s6, v8, h14, h⟩ := bcl_i h
        refine r_callV hκ (n' := 0) (index := 363) (w_X10_takes Γ0 l0 h14) (lw_V q2660 q2661 q2662 q142 q2663) (by decide +kernel) (t := 8) h13 rfl rfl (by decide) rfl (Nat.le_of_ble_eq_true rfl) dX0_turns_43 ?_
        refine r_aload_n hκ 2 rfl rfl dX0_turns_46 ?_
        obtain ⟨h15, h⟩ := bck_i h
        obtain ⟨s7, v9, h16, h⟩ := bcl_i h
        refine r_callV hκ (n' := 2) (index := 272) (w_X9_does Γ0 l0 h16) (lw_V q2276 q2277 q2278 q141 q2279) (by decide +kernel) (t := 7) h15 rfl rfl (by decide) rfl (Nat.le_of_ble_eq_true rfl) dX0_turns_47 ?_
        refine r_aload_n hκ 1 rfl rfl dX0_turns_50 ?_
        obtain ⟨h17, h⟩ := bck_i h
        obtain ⟨s8, v10, h18, h⟩ := bcl_i h
        refine r_callV hκ (n' := 0) (index := 359) (w_X10_size Γ0 l0 h18) (lw_V q2641 q2642 q2643 q142 q2644) (by decide +kernel) (t := 8) h17 rfl rfl (by decide) rfl (Nat.le_of_ble_eq_true rfl) dX0_turns_51 ?_
        exact x_ret hκ hf (x_P h) (fun κ hκ hf => r_iret hκ hf (nar_int _) dX0_turns_54)
      · replace h := (bte_i h).2 h12
        exact r_xout hκ ht hf (by decide) (x_P h)
  | b + 2, h => trivial
set_option maxHeartbeats 4000000 in
set_option maxRecDepth 100000 in
theorem w_X0_turns (Γ0 : bG) (l0 : Launch) {s0 st' : bS} {v xx a0 a1 a2 : Int} (h : F_X0_turns s0 a0 a1 a2 = some (st', v, xx)) : bCx Γ0 l0 yX0_turns (ws_ yX0_turns cX0_turns 3 (some .int)) 15 3121 (some 0) [(2, a0), (2, a1), (2, a2)] s0 (bEq st' v xx) := by
  refine xb_ent (own := RX0) (by decide +kernel) rfl (Nat.le_of_ble_eq_true rfl) (L := [(0, (2, a0)), (1, (2, a1)), (2, (2, a2))]) rfl ?_
  intro κ hκ hi ht hf
  unfold F_X0_turns at h
  refine r_aload_n hκ 1 rfl rfl dX0_turns_0 ?_
  obtain ⟨h1, h⟩ := bck_i h
  obtain ⟨s1, v1, h2, h⟩ := bcl_i h
  refine r_callV hκ (n' := 0) (index := 359) (w_X10_size Γ0 l0 h2) (lw_V q2641 q2642 q2643 q142 q2644) (by decide +kernel) (t := 8) h1 rfl rfl (by decide) rfl (Nat.le_of_ble_eq_true rfl) dX0_turns_1 ?_
  refine r_if_le hκ (tgt := 11) (by decide) dX0_turns_4 (fun h3 => ?_) (fun h3 => ?_)
  · replace h := (bte_i h).1 h3
    refine r_iconst hκ dX0_turns_11 ?_
    exact r_sub [0, 1, 2] rfl (w_X0_turns_r hκ hi ht hf 0 _ _ _ _ _ h)
  · replace h := (bte_i h).2 h3
    refine r_iconst hκ dX0_turns_7 ?_
    refine r_goto hκ (tgt := 12) (by decide) dX0_turns_8 ?_
    exact r_sub [0, 1, 2] rfl (w_X0_turns_r hκ hi ht hf 0 _ _ _ _ _ h)
/-- EditsMeet.undoes(I)I -/
def F_X0_undoes (s0 : bS) (a0 a1 : Int) : Option (bS × Int × Int) :=
  bck (bg s0 0 a0 0 = 1) <|
  bclx (F_X0_client s0 a0 a1) fun s1 v1 v2 =>
  bte (v2 = -1)
  (bck (bg s1 0 v1 0 = 8) <|
  bck (bg s1 0 v1 0 = 8) <|
  bclx (F_X0_turns s1 v1 (bg s1 154 v1 0) (bg s1 158 v1 0)) fun s2 v3 v4 =>
  bte (v4 = -1)
  (some (s2, v3, -1))
  (some (s2, v3, v4)))
  (some (s1, v1, v2))
set_option maxHeartbeats 4000000 in
set_option maxRecDepth 100000 in
theorem w_X0_undoes (Γ0 : bG) (l0 : Launch) {s0 st' : bS} {v xx a0 a1 : Int} (h : F_X0_undoes s0 a0 a1 = some (st', v, xx)) : bCx Γ0 l0 yX0_undoes (ws_ yX0_undoes cX0_undoes 3 (some .int)) 16 3143 (some 0) [(2, a0), (0, a1)] s0 (bEq st' v xx) := by
  refine xb_ent (own := RX0) (by decide +kernel) rfl (Nat.le_of_ble_eq_true rfl) (L := [(0, (2, a0)), (1, (0, a1))]) rfl ?_
  intro κ hκ hi ht hf
  unfold F_X0_undoes at h
  refine r_aload_n hκ 0 rfl rfl dX0_undoes_0 ?_
  refine r_iload_n hκ 1 rfl rfl dX0_undoes_1 ?_
  obtain ⟨h2, h⟩ := bck_i h
  obtain ⟨s1, v1, v2, h1, h⟩ := bclx_i h
  refine r_seq (A := (v2 = -1 → bJ κ s1 5 [(0, (2, a0)), (1, (0, a1))] [(2, v1)]) ∧ (¬ v2 = -1 → bT κ s1 2 [(0, (2, a0)), (1, (0, a1))] v1 v2)) ⟨fun h3 => ?_, fun h3 => ?_⟩ (fun k0 => r_xcallV hκ (n' := 1) (index := 322) (w_X0_client Γ0 l0 h1) (lw_V q2421 q2423 qs44 q121 q2424) (by decide +kernel) (t := 0) h2 rfl rfl (by decide) rfl (Nat.le_of_ble_eq_true rfl) dX0_undoes_2 (r_xj1 k0.1) (r_xj2 k0.2))
  · replace h := (bte_i h).1 h3
    refine r_astore_n hκ (L2 := [(2, (2, v1)), (0, (2, a0)), (1, (0, a1))]) (by decide) rfl rfl dX0_undoes_5 ?_
    refine r_aload_n hκ 0 rfl rfl dX0_undoes_6 ?_
    refine r_aload_n hκ 0 rfl rfl dX0_undoes_7 ?_
    obtain ⟨h4, h⟩ := bck_i h
    refine r_get hκ (t := 7) (k := 2) (r := 154) h4 rfl in_X9 (by decide) rfl q490 (Or.inl rfl) dX0_undoes_8 ?_
    refine r_aload_n hκ 0 rfl rfl dX0_undoes_11 ?_
    obtain ⟨h5, h⟩ := bck_i h
    refine r_get hκ (t := 7) (k := 3) (r := 158) h5 rfl in_X9 (by decide) rfl q492 (Or.inl rfl) dX0_undoes_12 ?_
    obtain ⟨s2, v3, v4, h6, h⟩ := bclx_i h
    refine r_seq (A := (v4 = -1 → bJ κ s2 18 [(2, (2, v1)), (0, (2, a0)), (1, (0, a1))] [(0, v3)]) ∧ (¬ v4 = -1 → bT κ s2 15 [(2, (2, v1)), (0, (2, a0)), (1, (0, a1))] v3 v4)) ⟨fun h7 => ?_, fun h7 => ?_⟩ (fun k0 => r_xcallS hκ (n' := 3) (index := 365) (w_X0_turns Γ0 l0 h6) (lw_S q2638 q2639 q121 q2640) (by decide +kernel) rfl (by decide) rfl (Nat.le_of_ble_eq_true rfl) dX0_undoes_15 (r_xj1 k0.1) (r_xj2 k0.2))
    · replace h := (bte_i h).1 h7
      exact x_ret hκ hf (x_P h) (fun κ hκ hf => r_iret hκ hf (nar_int _) dX0_undoes_18)
    · replace h := (bte_i h).2 h7
      exact r_xout hκ ht hf (by decide) (x_P h)
  · replace h := (bte_i h).2 h3
    exact r_xout hκ ht hf (by decide) (x_P h)
/-- EditsMeet.lambda$undo$20(I)I -/
def F_X0_lambda_undo_20 (s0 : bS) (a0 a1 : Int) : Option (bS × Int × Int) :=
  bck (bg s0 0 a0 0 = 1) <|
  bclx (F_X0_undoes s0 a0 a1) fun s1 v1 v2 =>
  bte (v2 = -1)
  (some (s1, v1, -1))
  (some (s1, v1, v2))
set_option maxHeartbeats 4000000 in
set_option maxRecDepth 100000 in
theorem w_X0_lambda_undo_20 (Γ0 : bG) (l0 : Launch) {s0 st' : bS} {v xx a0 a1 : Int} (h : F_X0_lambda_undo_20 s0 a0 a1 = some (st', v, xx)) : bCx Γ0 l0 yX0_lambda_undo_20 (ws_ yX0_lambda_undo_20 cX0_lambda_undo_20 2 (some .int)) 17 3165 (some 0) [(2, a0), (0, a1)] s0 (bEq st' v xx) := by
  refine xb_ent (own := RX0) (by decide +kernel) rfl (Nat.le_of_ble_eq_true rfl) (L := [(0, (2, a0)), (1, (0, a1))]) rfl ?_
  intro κ hκ hi ht hf
  unfold F_X0_lambda_undo_20 at h
  refine r_aload_n hκ 0 rfl rfl dX0_lambda_undo_20_0 ?_
  refine r_iload_n hκ 1 rfl rfl dX0_lambda_undo_20_1 ?_
  obtain ⟨h2, h⟩ := bck_i h
  obtain ⟨s1, v1, v2, h1, h⟩ := bclx_i h
  refine r_seq (A := (v2 = -1 → bJ κ s1 5 [(0, (2, a0)), (1, (0, a1))] [(0, v1)]) ∧ (¬ v2 = -1 → bT κ s1 2 [(0, (2, a0)), (1, (0, a1))] v1 v2)) ⟨fun h3 => ?_, fun h3 => ?_⟩ (fun k0 => r_xcallV hκ (n' := 1) (index := 429) (w_X0_undoes Γ0 l0 h1) (lw_V q2634 q2636 qs54 q121 q2637) (by decide +kernel) (t := 0) h2 rfl rfl (by decide) rfl (Nat.le_of_ble_eq_true rfl) dX0_lambda_undo_20_2 (r_xj1 k0.1) (r_xj2 k0.2))
  · replace h := (bte_i h).1 h3
    exact x_ret hκ hf (x_P h) (fun κ hκ hf => r_iret hκ hf (nar_int _) dX0_lambda_undo_20_5)
  · replace h := (bte_i h).2 h3
    exact r_xout hκ ht hf (by decide) (x_P h)
/-- EditsMeet.lambda$redo$21(I)I -/
def F_X0_lambda_redo_21 (s0 : bS) (a0 a1 : Int) : Option (bS × Int × Int) :=
  bck (bg s0 0 a0 0 = 1) <|
  bclx (F_X0_client s0 a0 a1) fun s1 v1 v2 =>
  bte (v2 = -1)
  (bck (bg s1 0 v1 0 = 8) <|
  bck (bg s1 0 v1 0 = 8) <|
  bclx (F_X0_turns s1 v1 (bg s1 158 v1 0) (bg s1 154 v1 0)) fun s2 v3 v4 =>
  bte (v4 = -1)
  (some (s2, v3, -1))
  (some (s2, v3, v4)))
  (some (s1, v1, v2))
set_option maxHeartbeats 4000000 in
set_option maxRecDepth 100000 in
theorem w_X0_lambda_redo_21 (Γ0 : bG) (l0 : Launch) {s0 st' : bS} {v xx a0 a1 : Int} (h : F_X0_lambda_redo_21 s0 a0 a1 = some (st', v, xx)) : bCx Γ0 l0 yX0_lambda_redo_21 (ws_ yX0_lambda_redo_21 cX0_lambda_redo_21 3 (some .int)) 16 3143 (some 0) [(2, a0), (0, a1)] s0 (bEq st' v xx) := by
  refine xb_ent (own := RX0) (by decide +kernel) rfl (Nat.le_of_ble_eq_true rfl) (L := [(0, (2, a0)), (1, (0, a1))]) rfl ?_
  intro κ hκ hi ht hf
  unfold F_X0_lambda_redo_21 at h
  refine r_aload_n hκ 0 rfl rfl dX0_lambda_redo_21_0 ?_
  refine r_iload_n hκ 1 rfl rfl dX0_lambda_redo_21_1 ?_
  obtain ⟨h2, h⟩ := bck_i h
  obtain ⟨s1, v1, v2, h1, h⟩ := bclx_i h
  refine r_seq (A := (v2 = -1 → bJ κ s1 5 [(0, (2, a0)), (1, (0, a1))] [(2, v1)]) ∧ (¬ v2 = -1 → bT κ s1 2 [(0, (2, a0)), (1, (0, a1))] v1 v2)) ⟨fun h3 => ?_, fun h3 => ?_⟩ (fun k0 => r_xcallV hκ (n' := 1) (index := 322) (w_X0_client Γ0 l0 h1) (lw_V q2421 q2423 qs44 q121 q2424) (by decide +kernel) (t := 0) h2 rfl rfl (by decide) rfl (Nat.le_of_ble_eq_true rfl) dX0_lambda_redo_21_2 (r_xj1 k0.1) (r_xj2 k0.2))
  · replace h := (bte_i h).1 h3
    refine r_astore_n hκ (L2 := [(2, (2, v1)), (0, (2, a0)), (1, (0, a1))]) (by decide) rfl rfl dX0_lambda_redo_21_5 ?_
    refine r_aload_n hκ 0 rfl rfl dX0_lambda_redo_21_6 ?_
    refine r_aload_n hκ 0 rfl rfl dX0_lambda_redo_21_7 ?_
    obtain ⟨h4, h⟩ := bck_i h
    refine r_get hκ (t := 7) (k := 3) (r := 158) h4 rfl in_X9 (by decide) rfl q492 (Or.inl rfl) dX0_lambda_redo_21_8 ?_
    refine r_aload_n hκ 0 rfl rfl dX0_lambda_redo_21_11 ?_
    obtain ⟨h5, h⟩ := bck_i h
    refine r_get hκ (t := 7) (k := 2) (r := 154) h5 rfl in_X9 (by decide) rfl q490 (Or.inl rfl) dX0_lambda_redo_21_12 ?_
    obtain ⟨s2, v3, v4, h6, h⟩ := bclx_i h
    refine r_seq (A := (v4 = -1 → bJ κ s2 18 [(2, (2, v1)), (0, (2, a0)), (1, (0, a1))] [(0, v3)]) ∧ (¬ v4 = -1 → bT κ s2 15 [(2, (2, v1)), (0, (2, a0)), (1, (0, a1))] v3 v4)) ⟨fun h7 => ?_, fun h7 => ?_⟩ (fun k0 => r_xcallS hκ (n' := 3) (index := 365) (w_X0_turns Γ0 l0 h6) (lw_S q2638 q2639 q121 q2640) (by decide +kernel) rfl (by decide) rfl (Nat.le_of_ble_eq_true rfl) dX0_lambda_redo_21_15 (r_xj1 k0.1) (r_xj2 k0.2))
    · replace h := (bte_i h).1 h7
      exact x_ret hκ hf (x_P h) (fun κ hκ hf => r_iret hκ hf (nar_int _) dX0_lambda_redo_21_18)
    · replace h := (bte_i h).2 h7
      exact r_xout hκ ht hf (by decide) (x_P h)
  · replace h := (bte_i h).2 h3
    exact r_xout hκ ht hf (by decide) (x_P h)
/-- EditsMeet.lambda$point$22(III)I -/
def F_X0_lambda_point_22_r (b : Nat) (x0 x1 x2 x3 : Int) (s0 : bS) : Option (bS × Int × Int) :=
  match b with
  | 0 =>
    F_X0_lambda_point_22_r 1 x0 x1 x2 0 s0
  | 1 =>
    bclx (F_X0_may s0 x3 (-2)) fun s6 v7 v8 =>
    bte (v8 = -1)
    (bck (bg s6 0 x2 0 = 8) <|
    bck (bg s6 0 (bg s6 150 x2 0) 0 = 1003 ∧ (0 : Int) ≤ 0 ∧ 0 < bg s6 4 (bg s6 150 x2 0) 0) <|
    bst (bw s6 20 (bg s6 150 x2 0) 0 x0) fun s7 =>
    bck (bg s7 0 x2 0 = 8) <|
    bck (bg s7 0 (bg s7 150 x2 0) 0 = 1003 ∧ (0 : Int) ≤ 1 ∧ 1 < bg s7 4 (bg s7 150 x2 0) 0) <|
    bst (bw s7 20 (bg s7 150 x2 0) 1 x1) fun s8 =>
    some (s8, 1, -1))
    (some (s6, v7, v8))
  | _ => none
partial_fixpoint
def F_X0_lambda_point_22 (s0 : bS) (a0 a1 a2 a3 : Int) : Option (bS × Int × Int) :=
  bck (bg s0 0 a0 0 = 1) <|
  bclx (F_X0_client s0 a0 a1) fun s1 v1 v2 =>
  bte (v2 = -1)
  (bck (bg s1 0 v1 0 = 8) <|
  bck (bg s1 0 (bg s1 146 v1 0) 0 = 3) <|
  bcl (F_X2_length s1 (bg s1 146 v1 0)) fun s2 v3 =>
  bcl (F_X0_isIn s2 a2 0 v3) fun s3 v4 =>
  bte (i32 v4 = 0)
  (F_X0_lambda_point_22_r 0 a2 a3 v1 0 s3)
  (bck (bg s3 0 v1 0 = 8) <|
  bck (bg s3 0 (bg s3 146 v1 0) 0 = 3) <|
  bcl (F_X2_length s3 (bg s3 146 v1 0)) fun s4 v5 =>
  bcl (F_X0_isIn s4 a3 0 v5) fun s5 v6 =>
  bte (i32 v6 = 0)
  (F_X0_lambda_point_22_r 0 a2 a3 v1 0 s5)
  (F_X0_lambda_point_22_r 1 a2 a3 v1 1 s5)))
  (some (s1, v1, v2))
set_option maxHeartbeats 4000000 in
set_option maxRecDepth 100000 in
set_option synthInstance.maxHeartbeats 4000000 in
theorem w_X0_lambda_point_22_r {Γ0 : bG} {l0 : Launch} {κ : bK} {st' : bS} {v xx : Int} (hκ : bOk κ Γ0 l0 cX0_lambda_point_22 RX0 5 6 134) (hi : bIn κ yX0_lambda_point_22) (ht : xTab κ []) (hf : xFin κ (some .int) (some 0) (bEq st' v xx)) (b : Nat) (x0 x1 x2 x3 : Int) (s0 : bS) (h : F_X0_lambda_point_22_r b x0 x1 x2 x3 s0 = some (st', v, xx)) : match (generalizing := false) b with | 0 => bJ κ s0 43 [(2, (0, x0)), (3, (0, x1)), (4, (2, x2))] [] | 1 => bJ κ s0 44 [(2, (0, x0)), (3, (0, x1)), (4, (2, x2))] [(0, x3)] | _ => True := by
  refine F_X0_lambda_point_22_r.partial_correctness x0 x1 x2 s0 (fun b x3 r => r = (st', v, xx) → match (generalizing := false) b with | 0 => bJ κ s0 43 [(2, (0, x0)), (3, (0, x1)), (4, (2, x2))] [] | 1 => bJ κ s0 44 [(2, (0, x0)), (3, (0, x1)), (4, (2, x2))] [(0, x3)] | _ => True) ?_ b x3 _ h rfl
  intro f' ih b x3 r h hr
  subst hr
  match b, h with
  | 0, h =>
      refine r_iconst hκ dX0_lambda_point_22_43 ?_
      exact r_sub [0, 1, 2] rfl (ih 1 _ _ h rfl)
  | 1, h =>
      refine r_bipush hκ (by decide) dX0_lambda_point_22_44 ?_
      obtain ⟨s6, v7, v8, h14, h⟩ := bclx_i h
      refine r_seq (A := (v8 = -1 → bJ κ s6 49 [(2, (0, x0)), (3, (0, x1)), (4, (2, x2))] []) ∧ (¬ v8 = -1 → bT κ s6 46 [(2, (0, x0)), (3, (0, x1)), (4, (2, x2))] v7 v8)) ⟨fun h15 => ?_, fun h15 => ?_⟩ (fun k0 => r_xcallS hκ (n' := 2) (index := 196) (w_X0_may Γ0 l0 h14) (lw_S q799 q800 q121 q801) (by decide +kernel) rfl (by decide) rfl (Nat.le_of_ble_eq_true rfl) dX0_lambda_point_22_46 (r_xj1 k0.1) (r_xj2 k0.2))
      · replace h := (bte_i h).1 h15
        refine r_aload hκ 2 rfl dX0_lambda_point_22_49 ?_
        obtain ⟨h16, h⟩ := bck_i h
        refine r_get hκ (t := 7) (k := 1) (r := 150) h16 rfl in_X9 (by decide) rfl q488 (Or.inl rfl) dX0_lambda_point_22_51 ?_
        refine r_iconst hκ dX0_lambda_point_22_54 ?_
        refine r_iload_n hκ 0 rfl rfl dX0_lambda_point_22_55 ?_
        obtain ⟨⟨h17, h18⟩, h⟩ := bck_i h
        refine r_iast hκ h17 h18 dX0_lambda_point_22_56 (fun s7 es7 => ?_)
        replace h := bst_i h s7 es7
        refine r_aload hκ 2 rfl dX0_lambda_point_22_57 ?_
        obtain ⟨h19, h⟩ := bck_i h
        refine r_get hκ (t := 7) (k := 1) (r := 150) h19 rfl in_X9 (by decide) rfl q488 (Or.inl rfl) dX0_lambda_point_22_59 ?_
        refine r_iconst hκ dX0_lambda_point_22_62 ?_
        refine r_iload_n hκ 1 rfl rfl dX0_lambda_point_22_63 ?_
        obtain ⟨⟨h20, h21⟩, h⟩ := bck_i h
        refine r_iast hκ h20 h21 dX0_lambda_point_22_64 (fun s8 es8 => ?_)
        replace h := bst_i h s8 es8
        refine r_iconst hκ dX0_lambda_point_22_65 ?_
        exact x_ret hκ hf (x_P h) (fun κ hκ hf => r_iret hκ hf (nar_int _) dX0_lambda_point_22_66)
      · replace h := (bte_i h).2 h15
        exact r_xout hκ ht hf (by decide) (x_P h)
  | b + 2, h => trivial
set_option maxHeartbeats 4000000 in
set_option maxRecDepth 100000 in
theorem w_X0_lambda_point_22 (Γ0 : bG) (l0 : Launch) {s0 st' : bS} {v xx a0 a1 a2 a3 : Int} (h : F_X0_lambda_point_22 s0 a0 a1 a2 a3 = some (st', v, xx)) : bCx Γ0 l0 yX0_lambda_point_22 (ws_ yX0_lambda_point_22 cX0_lambda_point_22 5 (some .int)) 6 134 (some 0) [(2, a0), (0, a1), (0, a2), (0, a3)] s0 (bEq st' v xx) := by
  refine xb_ent (own := RX0) (by decide +kernel) rfl (Nat.le_of_ble_eq_true rfl) (L := [(0, (2, a0)), (1, (0, a1)), (2, (0, a2)), (3, (0, a3))]) rfl ?_
  intro κ hκ hi ht hf
  unfold F_X0_lambda_point_22 at h
  refine r_aload_n hκ 0 rfl rfl dX0_lambda_point_22_0 ?_
  refine r_iload_n hκ 1 rfl rfl dX0_lambda_point_22_1 ?_
  obtain ⟨h2, h⟩ := bck_i h
  obtain ⟨s1, v1, v2, h1, h⟩ := bclx_i h
  refine r_seq (A := (v2 = -1 → bJ κ s1 5 [(0, (2, a0)), (1, (0, a1)), (2, (0, a2)), (3, (0, a3))] [(2, v1)]) ∧ (¬ v2 = -1 → bT κ s1 2 [(0, (2, a0)), (1, (0, a1)), (2, (0, a2)), (3, (0, a3))] v1 v2)) ⟨fun h3 => ?_, fun h3 => ?_⟩ (fun k0 => r_xcallV hκ (n' := 1) (index := 322) (w_X0_client Γ0 l0 h1) (lw_V q2421 q2423 qs44 q121 q2424) (by decide +kernel) (t := 0) h2 rfl rfl (by decide) rfl (Nat.le_of_ble_eq_true rfl) dX0_lambda_point_22_2 (r_xj1 k0.1) (r_xj2 k0.2))
  · replace h := (bte_i h).1 h3
    refine r_astore hκ (L2 := [(4, (2, v1)), (0, (2, a0)), (1, (0, a1)), (2, (0, a2)), (3, (0, a3))]) (by decide) rfl dX0_lambda_point_22_5 ?_
    refine r_iload_n hκ 3 rfl rfl dX0_lambda_point_22_7 ?_
    refine r_iconst hκ dX0_lambda_point_22_8 ?_
    refine r_aload hκ 0 rfl dX0_lambda_point_22_9 ?_
    obtain ⟨h4, h⟩ := bck_i h
    refine r_get hκ (t := 7) (k := 0) (r := 146) h4 rfl in_X9 (by decide) rfl q486 (Or.inl rfl) dX0_lambda_point_22_11 ?_
    obtain ⟨h5, h⟩ := bck_i h
    obtain ⟨s2, v3, h6, h⟩ := bcl_i h
    refine r_callV hκ (n' := 0) (index := 245) (w_X2_length Γ0 l0 h6) (lw_V q2166 q2167 q2168 q123 q2169) (by decide +kernel) (t := 2) h5 rfl rfl (by decide) rfl (Nat.le_of_ble_eq_true rfl) dX0_lambda_point_22_14 ?_
    obtain ⟨s3, v4, h7, h⟩ := bcl_i h
    refine r_callS hκ (n' := 3) (index := 45) (w_X0_isIn Γ0 l0 h7) (lw_S q624 q625 q121 q626) (by decide +kernel) rfl (by decide) rfl (Nat.le_of_ble_eq_true rfl) dX0_lambda_point_22_17 ?_
    refine r_if_eq hκ (tgt := 43) (by decide) dX0_lambda_point_22_20 (fun h8 => ?_) (fun h8 => ?_)
    · replace h := (bte_i h).1 h8
      exact r_sub [3, 4, 0] rfl (w_X0_lambda_point_22_r hκ hi ht hf 0 _ _ _ _ _ h)
    · replace h := (bte_i h).2 h8
      refine r_iload_n hκ 4 rfl rfl dX0_lambda_point_22_23 ?_
      refine r_iconst hκ dX0_lambda_point_22_24 ?_
      refine r_aload hκ 0 rfl dX0_lambda_point_22_25 ?_
      obtain ⟨h9, h⟩ := bck_i h
      refine r_get hκ (t := 7) (k := 0) (r := 146) h9 rfl in_X9 (by decide) rfl q486 (Or.inl rfl) dX0_lambda_point_22_27 ?_
      obtain ⟨h10, h⟩ := bck_i h
      obtain ⟨s4, v5, h11, h⟩ := bcl_i h
      refine r_callV hκ (n' := 0) (index := 245) (w_X2_length Γ0 l0 h11) (lw_V q2166 q2167 q2168 q123 q2169) (by decide +kernel) (t := 2) h10 rfl rfl (by decide) rfl (Nat.le_of_ble_eq_true rfl) dX0_lambda_point_22_30 ?_
      obtain ⟨s5, v6, h12, h⟩ := bcl_i h
      refine r_callS hκ (n' := 3) (index := 45) (w_X0_isIn Γ0 l0 h12) (lw_S q624 q625 q121 q626) (by decide +kernel) rfl (by decide) rfl (Nat.le_of_ble_eq_true rfl) dX0_lambda_point_22_33 ?_
      refine r_if_eq hκ (tgt := 43) (by decide) dX0_lambda_point_22_36 (fun h13 => ?_) (fun h13 => ?_)
      · replace h := (bte_i h).1 h13
        exact r_sub [3, 4, 0] rfl (w_X0_lambda_point_22_r hκ hi ht hf 0 _ _ _ _ _ h)
      · replace h := (bte_i h).2 h13
        refine r_iconst hκ dX0_lambda_point_22_39 ?_
        refine r_goto hκ (tgt := 44) (by decide) dX0_lambda_point_22_40 ?_
        exact r_sub [3, 4, 0] rfl (w_X0_lambda_point_22_r hκ hi ht hf 1 _ _ _ _ _ h)
  · replace h := (bte_i h).2 h3
    exact r_xout hκ ht hf (by decide) (x_P h)
/-- EditsMeet.lambda$takes$23(III)I -/
def F_X0_lambda_takes_23_r (b : Nat) (x0 x1 x2 x3 x4 : Int) (s0 : bS) : Option (bS × Int × Int) :=
  match b with
  | 0 =>
    F_X0_lambda_takes_23_r 1 x0 x1 x2 x3 0 s0
  | 1 =>
    bclx (F_X0_may s0 x4 (-2)) fun s4 v4 v5 =>
    bte (v5 = -1)
    (bck (bg s4 0 x0 0 = 1) <|
    bck (bg s4 0 (bg s4 34 x0 0) 0 = 2) <|
    bck (bg s4 0 (bg s4 66 (bg s4 34 x0 0) 0) 0 = 1007 ∧ (0 : Int) ≤ x2 ∧ x2 < bg s4 4 (bg s4 66 (bg s4 34 x0 0) 0) 0) <|
    bte (b_t x3 = 0) (bck (bg s4 0 (bg s4 10 (bg s4 66 (bg s4 34 x0 0) 0) x2) 0 = 8) <|
    bcl (F_X9_sent s4 (bg s4 10 (bg s4 66 (bg s4 34 x0 0) 0) x2)) fun s5 v6 =>
    F_X0_lambda_takes_23_r 2 x0 x1 v6 0 0 s5) (bte (b_t x3 = 1) (bck (bg s4 0 (bg s4 10 (bg s4 66 (bg s4 34 x0 0) 0) x2) 0 = 8) <|
    bcl (F_X9_waits s4 (bg s4 10 (bg s4 66 (bg s4 34 x0 0) 0) x2)) fun s6 v7 =>
    F_X0_lambda_takes_23_r 2 x0 x1 v7 0 0 s6) (bte (b_t x3 = 2) (bck (bg s4 0 (bg s4 10 (bg s4 66 (bg s4 34 x0 0) 0) x2) 0 = 8) <|
    bck (bg s4 0 (bg s4 154 (bg s4 10 (bg s4 66 (bg s4 34 x0 0) 0) x2) 0) 0 = 9) <|
    bcl (F_X10_latest s4 (bg s4 154 (bg s4 10 (bg s4 66 (bg s4 34 x0 0) 0) x2) 0)) fun s7 v8 =>
    F_X0_lambda_takes_23_r 2 x0 x1 v8 0 0 s7) (bck (bg s4 0 (bg s4 10 (bg s4 66 (bg s4 34 x0 0) 0) x2) 0 = 8) <|
    bck (bg s4 0 (bg s4 158 (bg s4 10 (bg s4 66 (bg s4 34 x0 0) 0) x2) 0) 0 = 9) <|
    bcl (F_X10_latest s4 (bg s4 158 (bg s4 10 (bg s4 66 (bg s4 34 x0 0) 0) x2) 0)) fun s8 v9 =>
    F_X0_lambda_takes_23_r 2 x0 x1 v9 0 0 s8))))
    (some (s4, v4, v5))
  | 2 =>
    bte (x2 < 0)
    (F_X0_lambda_takes_23_r 3 x0 x1 x2 0 0 s0)
    (F_X0_lambda_takes_23_r 3 x0 x1 x2 1 0 s0)
  | 3 =>
    bclx (F_X0_may s0 x3 (-5)) fun s9 v10 v11 =>
    bte (v11 = -1)
    (bck (bg s9 0 x2 0 = 7) <|
    bcl (F_X8_copied s9 x2) fun s10 v12 =>
    bck (bg s10 0 x0 0 = 1) <|
    bcl (F_X0_becomes s10 x0 x1 v12) fun s11 v13 =>
    some (s11, v13, -1))
    (some (s9, v10, v11))
  | _ => none
partial_fixpoint
def F_X0_lambda_takes_23 (s0 : bS) (a0 a1 a2 a3 : Int) : Option (bS × Int × Int) :=
  bcl (F_X0_isEdit s0 a1) fun s1 v1 =>
  bte (i32 v1 = 0)
  (F_X0_lambda_takes_23_r 0 a0 a1 a2 a3 0 s1)
  (bcl (F_X0_isClient s1 a2) fun s2 v2 =>
  bte (i32 v2 = 0)
  (F_X0_lambda_takes_23_r 0 a0 a1 a2 a3 0 s2)
  (bcl (F_X0_isIn s2 a3 0 3) fun s3 v3 =>
  bte (i32 v3 = 0)
  (F_X0_lambda_takes_23_r 0 a0 a1 a2 a3 0 s3)
  (F_X0_lambda_takes_23_r 1 a0 a1 a2 a3 1 s3)))
set_option maxHeartbeats 4000000 in
set_option maxRecDepth 100000 in
set_option synthInstance.maxHeartbeats 4000000 in
theorem w_X0_lambda_takes_23_r {Γ0 : bG} {l0 : Launch} {κ : bK} {st' : bS} {v xx : Int} (hκ : bOk κ Γ0 l0 cX0_lambda_takes_23 RX0 6 9 213) (hi : bIn κ yX0_lambda_takes_23) (ht : xTab κ []) (hf : xFin κ (some .int) (some 0) (bEq st' v xx)) (b : Nat) (x0 x1 x2 x3 x4 : Int) (s0 : bS) (h : F_X0_lambda_takes_23_r b x0 x1 x2 x3 x4 s0 = some (st', v, xx)) : match (generalizing := false) b with | 0 => bJ κ s0 27 [(0, (2, x0)), (1, (0, x1)), (2, (0, x2)), (3, (0, x3))] [] | 1 => bJ κ s0 28 [(0, (2, x0)), (1, (0, x1)), (2, (0, x2)), (3, (0, x3))] [(0, x4)] | 2 => bJ κ s0 107 [(0, (2, x0)), (1, (0, x1))] [(2, x2)] | 3 => bJ κ s0 119 [(0, (2, x0)), (1, (0, x1)), (5, (2, x2))] [(0, x3)] | _ => True := by
  refine F_X0_lambda_takes_23_r.partial_correctness x0 x1 (fun b x2 x3 x4 s0 r => r = (st', v, xx) → match (generalizing := false) b with | 0 => bJ κ s0 27 [(0, (2, x0)), (1, (0, x1)), (2, (0, x2)), (3, (0, x3))] [] | 1 => bJ κ s0 28 [(0, (2, x0)), (1, (0, x1)), (2, (0, x2)), (3, (0, x3))] [(0, x4)] | 2 => bJ κ s0 107 [(0, (2, x0)), (1, (0, x1))] [(2, x2)] | 3 => bJ κ s0 119 [(0, (2, x0)), (1, (0, x1)), (5, (2, x2))] [(0, x3)] | _ => True) ?_ b x2 x3 x4 s0 _ h rfl
  intro f' ih b x2 x3 x4 s0 r h hr
  subst hr
  match b, h with
  | 0, h =>
      refine r_iconst hκ dX0_lambda_takes_23_27 ?_
      exact r_sub [0, 1, 2, 3] rfl (ih 1 _ _ _ _ _ h rfl)
  | 1, h =>
      refine r_bipush hκ (by decide) dX0_lambda_takes_23_28 ?_
      obtain ⟨s4, v4, v5, h7, h⟩ := bclx_i h
      refine r_seq (A := (v5 = -1 → bJ κ s4 33 [(0, (2, x0)), (1, (0, x1)), (2, (0, x2)), (3, (0, x3))] []) ∧ (¬ v5 = -1 → bT κ s4 30 [(0, (2, x0)), (1, (0, x1)), (2, (0, x2)), (3, (0, x3))] v4 v5)) ⟨fun h8 => ?_, fun h8 => ?_⟩ (fun k0 => r_xcallS hκ (n' := 2) (index := 196) (w_X0_may Γ0 l0 h7) (lw_S q799 q800 q121 q801) (by decide +kernel) rfl (by decide) rfl (Nat.le_of_ble_eq_true rfl) dX0_lambda_takes_23_30 (r_xj1 k0.1) (r_xj2 k0.2))
      · replace h := (bte_i h).1 h8
        refine r_aload_n hκ 0 rfl rfl dX0_lambda_takes_23_33 ?_
        obtain ⟨h9, h⟩ := bck_i h
        refine r_get hκ (t := 0) (k := 0) (r := 34) h9 rfl in_X0 (by decide) rfl q573 (Or.inl rfl) dX0_lambda_takes_23_34 ?_
        obtain ⟨h10, h⟩ := bck_i h
        refine r_get hκ (t := 1) (k := 0) (r := 66) h10 rfl in_X1 (by decide) rfl q540 (Or.inl rfl) dX0_lambda_takes_23_37 ?_
        refine r_iload_n hκ 2 rfl rfl dX0_lambda_takes_23_40 ?_
        obtain ⟨⟨h11, h12⟩, h⟩ := bck_i h
        refine r_aald hκ (t := 7) (by decide) h11 h12 dX0_lambda_takes_23_41 ?_
        refine r_astore hκ (L2 := [(4, (2, (bg s4 10 (bg s4 66 (bg s4 34 x0 0) 0) x2))), (0, (2, x0)), (1, (0, x1)), (2, (0, x2)), (3, (0, x3))]) (by decide) rfl dX0_lambda_takes_23_42 ?_
        refine r_iload_n hκ 4 rfl rfl dX0_lambda_takes_23_44 ?_
        by_cases h13 : b_t x3 = 0
        · replace h := (bte_i h).1 h13
          refine r_tswIn hκ (kk := 0) (tgt := 72) h13 (by decide) (by decide) rfl (by decide) dX0_lambda_takes_23_45 ?_
          refine r_aload hκ 0 rfl dX0_lambda_takes_23_72 ?_
          obtain ⟨h14, h⟩ := bck_i h
          obtain ⟨s5, v6, h15, h⟩ := bcl_i h
          refine r_callV hκ (n' := 0) (index := 374) (w_X9_sent Γ0 l0 h15) (lw_V q2696 q2697 q2698 q141 q2699) (by decide +kernel) (t := 7) h14 rfl rfl (by decide) rfl (Nat.le_of_ble_eq_true rfl) dX0_lambda_takes_23_74 ?_
          refine r_goto hκ (tgt := 107) (by decide) dX0_lambda_takes_23_77 ?_
          exact r_sub [1, 2] rfl (ih 2 _ _ _ _ _ h rfl)
        replace h := (bte_i h).2 h13
        by_cases h16 : b_t x3 = 1
        · replace h := (bte_i h).1 h16
          refine r_tswIn hκ (kk := 1) (tgt := 80) h16 (by decide) (by decide) rfl (by decide) dX0_lambda_takes_23_45 ?_
          refine r_aload hκ 0 rfl dX0_lambda_takes_23_80 ?_
          obtain ⟨h17, h⟩ := bck_i h
          obtain ⟨s6, v7, h18, h⟩ := bcl_i h
          refine r_callV hκ (n' := 0) (index := 388) (w_X9_waits Γ0 l0 h18) (lw_V q2703 q2704 q2705 q141 q2706) (by decide +kernel) (t := 7) h17 rfl rfl (by decide) rfl (Nat.le_of_ble_eq_true rfl) dX0_lambda_takes_23_82 ?_
          refine r_goto hκ (tgt := 107) (by decide) dX0_lambda_takes_23_85 ?_
          exact r_sub [1, 2] rfl (ih 2 _ _ _ _ _ h rfl)
        replace h := (bte_i h).2 h16
        by_cases h19 : b_t x3 = 2
        · replace h := (bte_i h).1 h19
          refine r_tswIn hκ (kk := 2) (tgt := 88) h19 (by decide) (by decide) rfl (by decide) dX0_lambda_takes_23_45 ?_
          refine r_aload hκ 0 rfl dX0_lambda_takes_23_88 ?_
          obtain ⟨h20, h⟩ := bck_i h
          refine r_get hκ (t := 7) (k := 2) (r := 154) h20 rfl in_X9 (by decide) rfl q490 (Or.inl rfl) dX0_lambda_takes_23_90 ?_
          obtain ⟨h21, h⟩ := bck_i h
          obtain ⟨s7, v8, h22, h⟩ := bcl_i h
          refine r_callV hκ (n' := 0) (index := 360) (w_X10_latest Γ0 l0 h22) (lw_V q2645 q2646 q2647 q142 q2648) (by decide +kernel) (t := 8) h21 rfl rfl (by decide) rfl (Nat.le_of_ble_eq_true rfl) dX0_lambda_takes_23_93 ?_
          refine r_goto hκ (tgt := 107) (by decide) dX0_lambda_takes_23_96 ?_
          exact r_sub [1, 2] rfl (ih 2 _ _ _ _ _ h rfl)
        replace h := (bte_i h).2 h19
        refine r_tswOut hκ (tgt := 99) (by omega) (by decide) dX0_lambda_takes_23_45 ?_
        refine r_aload hκ 0 rfl dX0_lambda_takes_23_99 ?_
        obtain ⟨h23, h⟩ := bck_i h
        refine r_get hκ (t := 7) (k := 3) (r := 158) h23 rfl in_X9 (by decide) rfl q492 (Or.inl rfl) dX0_lambda_takes_23_101 ?_
        obtain ⟨h24, h⟩ := bck_i h
        obtain ⟨s8, v9, h25, h⟩ := bcl_i h
        refine r_callV hκ (n' := 0) (index := 360) (w_X10_latest Γ0 l0 h25) (lw_V q2645 q2646 q2647 q142 q2648) (by decide +kernel) (t := 8) h24 rfl rfl (by decide) rfl (Nat.le_of_ble_eq_true rfl) dX0_lambda_takes_23_104 ?_
        exact r_sub [1, 2] rfl (ih 2 _ _ _ _ _ h rfl)
      · replace h := (bte_i h).2 h8
        exact r_xout hκ ht hf (by decide) (x_P h)
  | 2, h =>
      refine r_astore hκ (L2 := [(5, (2, x2)), (0, (2, x0)), (1, (0, x1))]) (by decide) rfl dX0_lambda_takes_23_107 ?_
      refine r_aload hκ 0 rfl dX0_lambda_takes_23_109 ?_
      refine r_ifnull hκ (tgt := 118) (by decide) dX0_lambda_takes_23_111 (fun h26 => ?_) (fun h26 => ?_)
      · replace h := (bte_i h).1 h26
        refine r_iconst hκ dX0_lambda_takes_23_118 ?_
        exact r_sub [1, 2, 0] rfl (ih 3 _ _ _ _ _ h rfl)
      · replace h := (bte_i h).2 h26
        refine r_iconst hκ dX0_lambda_takes_23_114 ?_
        refine r_goto hκ (tgt := 119) (by decide) dX0_lambda_takes_23_115 ?_
        exact r_sub [1, 2, 0] rfl (ih 3 _ _ _ _ _ h rfl)
  | 3, h =>
      refine r_bipush hκ (by decide) dX0_lambda_takes_23_119 ?_
      obtain ⟨s9, v10, v11, h27, h⟩ := bclx_i h
      refine r_seq (A := (v11 = -1 → bJ κ s9 124 [(0, (2, x0)), (1, (0, x1)), (5, (2, x2))] []) ∧ (¬ v11 = -1 → bT κ s9 121 [(0, (2, x0)), (1, (0, x1)), (5, (2, x2))] v10 v11)) ⟨fun h28 => ?_, fun h28 => ?_⟩ (fun k0 => r_xcallS hκ (n' := 2) (index := 196) (w_X0_may Γ0 l0 h27) (lw_S q799 q800 q121 q801) (by decide +kernel) rfl (by decide) rfl (Nat.le_of_ble_eq_true rfl) dX0_lambda_takes_23_121 (r_xj1 k0.1) (r_xj2 k0.2))
      · replace h := (bte_i h).1 h28
        refine r_aload_n hκ 0 rfl rfl dX0_lambda_takes_23_124 ?_
        refine r_iload_n hκ 1 rfl rfl dX0_lambda_takes_23_125 ?_
        refine r_aload hκ 2 rfl dX0_lambda_takes_23_126 ?_
        obtain ⟨h29, h⟩ := bck_i h
        obtain ⟨s10, v12, h30, h⟩ := bcl_i h
        refine r_callV hκ (n' := 0) (index := 476) (w_X8_copied Γ0 l0 h30) (lw_V q2714 q2505 q2506 q140 q2507) (by decide +kernel) (t := 6) h29 rfl rfl (by decide) rfl (Nat.le_of_ble_eq_true rfl) dX0_lambda_takes_23_128 ?_
        obtain ⟨h31, h⟩ := bck_i h
        obtain ⟨s11, v13, h32, h⟩ := bcl_i h
        refine r_callV hκ (n' := 2) (index := 200) (w_X0_becomes Γ0 l0 h32) (lw_V q1546 q1548 qs20 q121 q1549) (by decide +kernel) (t := 0) h31 rfl rfl (by decide) rfl (Nat.le_of_ble_eq_true rfl) dX0_lambda_takes_23_131 ?_
        exact x_ret hκ hf (x_P h) (fun κ hκ hf => r_iret hκ hf (nar_int _) dX0_lambda_takes_23_134)
      · replace h := (bte_i h).2 h28
        exact r_xout hκ ht hf (by decide) (x_P h)
  | b + 4, h => trivial
set_option maxHeartbeats 4000000 in
set_option maxRecDepth 100000 in
theorem w_X0_lambda_takes_23 (Γ0 : bG) (l0 : Launch) {s0 st' : bS} {v xx a0 a1 a2 a3 : Int} (h : F_X0_lambda_takes_23 s0 a0 a1 a2 a3 = some (st', v, xx)) : bCx Γ0 l0 yX0_lambda_takes_23 (ws_ yX0_lambda_takes_23 cX0_lambda_takes_23 6 (some .int)) 9 213 (some 0) [(2, a0), (0, a1), (0, a2), (0, a3)] s0 (bEq st' v xx) := by
  refine xb_ent (own := RX0) (by decide +kernel) rfl (Nat.le_of_ble_eq_true rfl) (L := [(0, (2, a0)), (1, (0, a1)), (2, (0, a2)), (3, (0, a3))]) rfl ?_
  intro κ hκ hi ht hf
  unfold F_X0_lambda_takes_23 at h
  refine r_iload_n hκ 1 rfl rfl dX0_lambda_takes_23_0 ?_
  obtain ⟨s1, v1, h1, h⟩ := bcl_i h
  refine r_callS hκ (n' := 1) (index := 49) (w_X0_isEdit Γ0 l0 h1) (lw_S q796 q797 q121 q798) (by decide +kernel) rfl (by decide) rfl (Nat.le_of_ble_eq_true rfl) dX0_lambda_takes_23_1 ?_
  refine r_if_eq hκ (tgt := 27) (by decide) dX0_lambda_takes_23_4 (fun h2 => ?_) (fun h2 => ?_)
  · replace h := (bte_i h).1 h2
    exact r_sub [0, 1, 2, 3] rfl (w_X0_lambda_takes_23_r hκ hi ht hf 0 _ _ _ _ _ _ h)
  · replace h := (bte_i h).2 h2
    refine r_iload_n hκ 2 rfl rfl dX0_lambda_takes_23_7 ?_
    obtain ⟨s2, v2, h3, h⟩ := bcl_i h
    refine r_callS hκ (n' := 1) (index := 62) (w_X0_isClient Γ0 l0 h3) (lw_S q2159 q2160 q121 q2161) (by decide +kernel) rfl (by decide) rfl (Nat.le_of_ble_eq_true rfl) dX0_lambda_takes_23_8 ?_
    refine r_if_eq hκ (tgt := 27) (by decide) dX0_lambda_takes_23_11 (fun h4 => ?_) (fun h4 => ?_)
    · replace h := (bte_i h).1 h4
      exact r_sub [0, 1, 2, 3] rfl (w_X0_lambda_takes_23_r hκ hi ht hf 0 _ _ _ _ _ _ h)
    · replace h := (bte_i h).2 h4
      refine r_iload_n hκ 3 rfl rfl dX0_lambda_takes_23_14 ?_
      refine r_iconst hκ dX0_lambda_takes_23_15 ?_
      refine r_iconst hκ dX0_lambda_takes_23_16 ?_
      obtain ⟨s3, v3, h5, h⟩ := bcl_i h
      refine r_callS hκ (n' := 3) (index := 45) (w_X0_isIn Γ0 l0 h5) (lw_S q624 q625 q121 q626) (by decide +kernel) rfl (by decide) rfl (Nat.le_of_ble_eq_true rfl) dX0_lambda_takes_23_17 ?_
      refine r_if_eq hκ (tgt := 27) (by decide) dX0_lambda_takes_23_20 (fun h6 => ?_) (fun h6 => ?_)
      · replace h := (bte_i h).1 h6
        exact r_sub [0, 1, 2, 3] rfl (w_X0_lambda_takes_23_r hκ hi ht hf 0 _ _ _ _ _ _ h)
      · replace h := (bte_i h).2 h6
        refine r_iconst hκ dX0_lambda_takes_23_23 ?_
        refine r_goto hκ (tgt := 28) (by decide) dX0_lambda_takes_23_24 ?_
        exact r_sub [0, 1, 2, 3] rfl (w_X0_lambda_takes_23_r hκ hi ht hf 1 _ _ _ _ _ _ h)
/-- EditsMeet.lambda$revision$24(II)I -/
def F_X0_lambda_revision_24_r (b : Nat) (x0 x1 x2 x3 : Int) (s0 : bS) : Option (bS × Int × Int) :=
  match b with
  | 0 =>
    F_X0_lambda_revision_24_r 1 x0 x1 x2 0 s0
  | 1 =>
    bclx (F_X0_may s0 x3 (-2)) fun s4 v4 v5 =>
    bte (v5 = -1)
    (bck (bg s4 0 x0 0 = 1) <|
    bck (bg s4 0 (bg s4 34 x0 0) 0 = 2) <|
    bck (bg s4 0 (bg s4 74 (bg s4 34 x0 0) 0) 0 = 21) <|
    bcl (F_J10_get s4 (bg s4 74 (bg s4 34 x0 0) 0) (x2 - 1)) fun s5 v6 =>
    bck (v6 < 0 ∨ bg s5 0 v6 0 = 18) <|
    bck (bg s5 0 v6 0 = 18) <|
    bck (bg s5 0 x0 0 = 1) <|
    bcl (F_X0_becomes s5 x0 x1 (bg s5 402 v6 0)) fun s6 v7 =>
    bck (bg s6 0 x0 0 = 1) <|
    bck (bg s6 0 (bg s6 34 x0 0) 0 = 2) <|
    bck (bg s6 0 (bg s6 74 (bg s6 34 x0 0) 0) 0 = 21) <|
    bcl (F_J10_get s6 (bg s6 74 (bg s6 34 x0 0) 0) (x2 - 1)) fun s7 v8 =>
    bck (v8 < 0 ∨ bg s7 0 v8 0 = 18) <|
    bck (bg s7 0 v8 0 = 18) <|
    some (s7, (bg s7 404 v8 0), -1))
    (some (s4, v4, v5))
  | _ => none
partial_fixpoint
def F_X0_lambda_revision_24 (s0 : bS) (a0 a1 a2 : Int) : Option (bS × Int × Int) :=
  bcl (F_X0_isEdit s0 a1) fun s1 v1 =>
  bte (i32 v1 = 0)
  (F_X0_lambda_revision_24_r 0 a0 a1 a2 0 s1)
  (bck (bg s1 0 a0 0 = 1) <|
  bck (bg s1 0 (bg s1 34 a0 0) 0 = 2) <|
  bck (bg s1 0 (bg s1 74 (bg s1 34 a0 0) 0) 0 = 21) <|
  bcl (F_J10_size s1 (bg s1 74 (bg s1 34 a0 0) 0)) fun s2 v2 =>
  bcl (F_X0_isIn s2 a2 1 v2) fun s3 v3 =>
  bte (i32 v3 = 0)
  (F_X0_lambda_revision_24_r 0 a0 a1 a2 0 s3)
  (F_X0_lambda_revision_24_r 1 a0 a1 a2 1 s3))
set_option maxHeartbeats 4000000 in
set_option maxRecDepth 100000 in
set_option synthInstance.maxHeartbeats 4000000 in
theorem w_X0_lambda_revision_24_r {Γ0 : bG} {l0 : Launch} {κ : bK} {st' : bS} {v xx : Int} (hκ : bOk κ Γ0 l0 cX0_lambda_revision_24 RX0 3 6 134) (hi : bIn κ yX0_lambda_revision_24) (ht : xTab κ []) (hf : xFin κ (some .int) (some 0) (bEq st' v xx)) (b : Nat) (x0 x1 x2 x3 : Int) (s0 : bS) (h : F_X0_lambda_revision_24_r b x0 x1 x2 x3 s0 = some (st', v, xx)) : match (generalizing := false) b with | 0 => bJ κ s0 29 [(0, (2, x0)), (1, (0, x1)), (2, (0, x2))] [] | 1 => bJ κ s0 30 [(0, (2, x0)), (1, (0, x1)), (2, (0, x2))] [(0, x3)] | _ => True := by
  refine F_X0_lambda_revision_24_r.partial_correctness x0 x1 x2 s0 (fun b x3 r => r = (st', v, xx) → match (generalizing := false) b with | 0 => bJ κ s0 29 [(0, (2, x0)), (1, (0, x1)), (2, (0, x2))] [] | 1 => bJ κ s0 30 [(0, (2, x0)), (1, (0, x1)), (2, (0, x2))] [(0, x3)] | _ => True) ?_ b x3 _ h rfl
  intro f' ih b x3 r h hr
  subst hr
  match b, h with
  | 0, h =>
      refine r_iconst hκ dX0_lambda_revision_24_29 ?_
      exact r_sub [0, 1, 2] rfl (ih 1 _ _ h rfl)
  | 1, h =>
      refine r_bipush hκ (by decide) dX0_lambda_revision_24_30 ?_
      obtain ⟨s4, v4, v5, h9, h⟩ := bclx_i h
      refine r_seq (A := (v5 = -1 → bJ κ s4 35 [(0, (2, x0)), (1, (0, x1)), (2, (0, x2))] []) ∧ (¬ v5 = -1 → bT κ s4 32 [(0, (2, x0)), (1, (0, x1)), (2, (0, x2))] v4 v5)) ⟨fun h10 => ?_, fun h10 => ?_⟩ (fun k0 => r_xcallS hκ (n' := 2) (index := 196) (w_X0_may Γ0 l0 h9) (lw_S q799 q800 q121 q801) (by decide +kernel) rfl (by decide) rfl (Nat.le_of_ble_eq_true rfl) dX0_lambda_revision_24_32 (r_xj1 k0.1) (r_xj2 k0.2))
      · replace h := (bte_i h).1 h10
        refine r_aload_n hκ 0 rfl rfl dX0_lambda_revision_24_35 ?_
        refine r_iload_n hκ 1 rfl rfl dX0_lambda_revision_24_36 ?_
        refine r_aload_n hκ 0 rfl rfl dX0_lambda_revision_24_37 ?_
        obtain ⟨h11, h⟩ := bck_i h
        refine r_get hκ (t := 0) (k := 0) (r := 34) h11 rfl in_X0 (by decide) rfl q573 (Or.inl rfl) dX0_lambda_revision_24_38 ?_
        obtain ⟨h12, h⟩ := bck_i h
        refine r_get hκ (t := 1) (k := 2) (r := 74) h12 rfl in_X1 (by decide) rfl q544 (Or.inl rfl) dX0_lambda_revision_24_41 ?_
        refine r_iload_n hκ 2 rfl rfl dX0_lambda_revision_24_44 ?_
        refine r_iconst hκ dX0_lambda_revision_24_45 ?_
        refine r_isub hκ dX0_lambda_revision_24_46 ?_
        obtain ⟨h13, h⟩ := bck_i h
        obtain ⟨s5, v6, h14, h⟩ := bcl_i h
        refine r_callV hκ (n' := 1) (index := 467) (w_J10_get Γ0 l0 h14) (lw_V q2722 q819 q820 q134 q821) (by decide +kernel) (t := 20) h13 rfl rfl (by decide) rfl (Nat.le_of_ble_eq_true rfl) dX0_lambda_revision_24_47 ?_
        obtain ⟨h15, h⟩ := bck_i h
        refine r_cast hκ q2723 (Or.elim h15 (fun h15 => Or.inl h15) (fun h15 => Or.inr ⟨17, _, h15, rfl, Or.inl rfl⟩)) dX0_lambda_revision_24_50 ?_
        obtain ⟨h16, h⟩ := bck_i h
        refine r_get hκ (t := 17) (k := 0) (r := 402) h16 rfl in_X19 (by decide) rfl q2521 (Or.inl rfl) dX0_lambda_revision_24_53 ?_
        obtain ⟨h17, h⟩ := bck_i h
        obtain ⟨s6, v7, h18, h⟩ := bcl_i h
        refine r_callV hκ (n' := 2) (index := 200) (w_X0_becomes Γ0 l0 h18) (lw_V q1546 q1548 qs20 q121 q1549) (by decide +kernel) (t := 0) h17 rfl rfl (by decide) rfl (Nat.le_of_ble_eq_true rfl) dX0_lambda_revision_24_56 ?_
        refine r_pop hκ (bd_cat0k _) dX0_lambda_revision_24_59 ?_
        refine r_aload_n hκ 0 rfl rfl dX0_lambda_revision_24_60 ?_
        obtain ⟨h19, h⟩ := bck_i h
        refine r_get hκ (t := 0) (k := 0) (r := 34) h19 rfl in_X0 (by decide) rfl q573 (Or.inl rfl) dX0_lambda_revision_24_61 ?_
        obtain ⟨h20, h⟩ := bck_i h
        refine r_get hκ (t := 1) (k := 2) (r := 74) h20 rfl in_X1 (by decide) rfl q544 (Or.inl rfl) dX0_lambda_revision_24_64 ?_
        refine r_iload_n hκ 2 rfl rfl dX0_lambda_revision_24_67 ?_
        refine r_iconst hκ dX0_lambda_revision_24_68 ?_
        refine r_isub hκ dX0_lambda_revision_24_69 ?_
        obtain ⟨h21, h⟩ := bck_i h
        obtain ⟨s7, v8, h22, h⟩ := bcl_i h
        refine r_callV hκ (n' := 1) (index := 467) (w_J10_get Γ0 l0 h22) (lw_V q2722 q819 q820 q134 q821) (by decide +kernel) (t := 20) h21 rfl rfl (by decide) rfl (Nat.le_of_ble_eq_true rfl) dX0_lambda_revision_24_70 ?_
        obtain ⟨h23, h⟩ := bck_i h
        refine r_cast hκ q2723 (Or.elim h23 (fun h23 => Or.inl h23) (fun h23 => Or.inr ⟨17, _, h23, rfl, Or.inl rfl⟩)) dX0_lambda_revision_24_73 ?_
        obtain ⟨h24, h⟩ := bck_i h
        refine r_get hκ (t := 17) (k := 1) (r := 404) h24 rfl in_X19 (by decide) rfl q2524 (Or.inl rfl) dX0_lambda_revision_24_76 ?_
        exact x_ret hκ hf (x_P h) (fun κ hκ hf => r_iret hκ hf (nar_int _) dX0_lambda_revision_24_79)
      · replace h := (bte_i h).2 h10
        exact r_xout hκ ht hf (by decide) (x_P h)
  | b + 2, h => trivial
set_option maxHeartbeats 4000000 in
set_option maxRecDepth 100000 in
theorem w_X0_lambda_revision_24 (Γ0 : bG) (l0 : Launch) {s0 st' : bS} {v xx a0 a1 a2 : Int} (h : F_X0_lambda_revision_24 s0 a0 a1 a2 = some (st', v, xx)) : bCx Γ0 l0 yX0_lambda_revision_24 (ws_ yX0_lambda_revision_24 cX0_lambda_revision_24 3 (some .int)) 6 134 (some 0) [(2, a0), (0, a1), (0, a2)] s0 (bEq st' v xx) := by
  refine xb_ent (own := RX0) (by decide +kernel) rfl (Nat.le_of_ble_eq_true rfl) (L := [(0, (2, a0)), (1, (0, a1)), (2, (0, a2))]) rfl ?_
  intro κ hκ hi ht hf
  unfold F_X0_lambda_revision_24 at h
  refine r_iload_n hκ 1 rfl rfl dX0_lambda_revision_24_0 ?_
  obtain ⟨s1, v1, h1, h⟩ := bcl_i h
  refine r_callS hκ (n' := 1) (index := 49) (w_X0_isEdit Γ0 l0 h1) (lw_S q796 q797 q121 q798) (by decide +kernel) rfl (by decide) rfl (Nat.le_of_ble_eq_true rfl) dX0_lambda_revision_24_1 ?_
  refine r_if_eq hκ (tgt := 29) (by decide) dX0_lambda_revision_24_4 (fun h2 => ?_) (fun h2 => ?_)
  · replace h := (bte_i h).1 h2
    exact r_sub [0, 1, 2] rfl (w_X0_lambda_revision_24_r hκ hi ht hf 0 _ _ _ _ _ h)
  · replace h := (bte_i h).2 h2
    refine r_iload_n hκ 2 rfl rfl dX0_lambda_revision_24_7 ?_
    refine r_iconst hκ dX0_lambda_revision_24_8 ?_
    refine r_aload_n hκ 0 rfl rfl dX0_lambda_revision_24_9 ?_
    obtain ⟨h3, h⟩ := bck_i h
    refine r_get hκ (t := 0) (k := 0) (r := 34) h3 rfl in_X0 (by decide) rfl q573 (Or.inl rfl) dX0_lambda_revision_24_10 ?_
    obtain ⟨h4, h⟩ := bck_i h
    refine r_get hκ (t := 1) (k := 2) (r := 74) h4 rfl in_X1 (by decide) rfl q544 (Or.inl rfl) dX0_lambda_revision_24_13 ?_
    obtain ⟨h5, h⟩ := bck_i h
    obtain ⟨s2, v2, h6, h⟩ := bcl_i h
    refine r_callV hκ (n' := 0) (index := 339) (w_J10_size Γ0 l0 h6) (lw_V q2531 q811 q812 q134 q813) (by decide +kernel) (t := 20) h5 rfl rfl (by decide) rfl (Nat.le_of_ble_eq_true rfl) dX0_lambda_revision_24_16 ?_
    obtain ⟨s3, v3, h7, h⟩ := bcl_i h
    refine r_callS hκ (n' := 3) (index := 45) (w_X0_isIn Γ0 l0 h7) (lw_S q624 q625 q121 q626) (by decide +kernel) rfl (by decide) rfl (Nat.le_of_ble_eq_true rfl) dX0_lambda_revision_24_19 ?_
    refine r_if_eq hκ (tgt := 29) (by decide) dX0_lambda_revision_24_22 (fun h8 => ?_) (fun h8 => ?_)
    · replace h := (bte_i h).1 h8
      exact r_sub [0, 1, 2] rfl (w_X0_lambda_revision_24_r hκ hi ht hf 0 _ _ _ _ _ h)
    · replace h := (bte_i h).2 h8
      refine r_iconst hκ dX0_lambda_revision_24_25 ?_
      refine r_goto hκ (tgt := 30) (by decide) dX0_lambda_revision_24_26 ?_
      exact r_sub [0, 1, 2] rfl (w_X0_lambda_revision_24_r hκ hi ht hf 1 _ _ _ _ _ h)
/-- EditsMeet.isText(I)Z -/
def F_X0_isText (s0 : bS) (a0 : Int) : Option (bS × Int) :=
  bcl (F_X0_isIn s0 a0 0 4) fun s1 v1 =>
  bck (v1 = 0 ∨ v1 = 1) <|
  some (s1, v1)
set_option maxHeartbeats 4000000 in
set_option maxRecDepth 100000 in
theorem w_X0_isText (Γ0 : bG) (l0 : Launch) {s0 st' : bS} {v a0 : Int} (h : F_X0_isText s0 a0 = some (st', v)) : bCt Γ0 l0 yX0_isText cX0_isText 1 (some .boolean) 1 22 [(0, a0)] s0 st' (some (0, v)) := by
  refine b_ent (own := RX0) (by decide +kernel) rfl (Nat.le_of_ble_eq_true rfl) (L := [(0, (0, a0))]) rfl ?_
  intro κ hκ hi hf
  unfold F_X0_isText at h
  refine r_iload_n hκ 0 rfl rfl dX0_isText_0 ?_
  refine r_iconst hκ dX0_isText_1 ?_
  refine r_iconst hκ dX0_isText_2 ?_
  obtain ⟨s1, v1, h1, h⟩ := bcl_i h
  refine r_callS hκ (n' := 3) (index := 45) (w_X0_isIn Γ0 l0 h1) (lw_S q624 q625 q121 q626) (by decide +kernel) rfl (by decide) rfl (Nat.le_of_ble_eq_true rfl) dX0_isText_3 ?_
  obtain ⟨h2, h⟩ := bck_i h
  exact r_iretH hκ hf h (nar_bool h2) dX0_isText_6
/-- EditsMeet.elementsIn(Ljava/lang/Object;I)[J -/
def F_X0_elementsIn_r (b : Nat) (x0 x1 x2 x3 : Int) (s0 : bS) : Option (bS × Int × Int) :=
  match b with
  | 0 =>
    bte (i32 x1 ≤ i32 x3)
    (some (s0, x2, -1))
    (bcl (F_X0_elementOf s0 x0 x3) fun s2 v1 =>
    bck (bg s2 0 x2 0 = 1005 ∧ (0 : Int) ≤ x3 ∧ x3 < bg s2 4 x2 0) <|
    bst (bw s2 9 x2 x3 v1) fun s3 =>
    F_X0_elementsIn_r 0 x0 x1 x2 (x3 + 1) s3)
  | _ => none
partial_fixpoint
def F_X0_elementsIn (s0 : bS) (a0 a1 : Int) : Option (bS × Int × Int) :=
  bck (((0 : Int) ≤ a1 ∧ (a1 : Int) ≤ 67108864) ∧ bc s0 + 1 ≤ bCM ∧ bk s0 + (a1 : Int).toNat ≤ bKM) <|
  bst (bnw s0 1005 a1 (a1 : Int).toNat) fun s1 =>
  F_X0_elementsIn_r 0 a0 a1 (bnx s0 : Int) 0 s1
set_option maxHeartbeats 4000000 in
set_option maxRecDepth 100000 in
set_option synthInstance.maxHeartbeats 4000000 in
theorem w_X0_elementsIn_r {Γ0 : bG} {l0 : Launch} {κ : bK} {st' : bS} {v xx : Int} (hκ : bOk κ Γ0 l0 cX0_elementsIn RX0 4 2 41) (hi : bIn κ yX0_elementsIn) (ht : xTab κ [(4, 25, 28, 118)]) (hf : xFin κ (some (.array .long)) (some 2) (bEq st' v xx)) (b : Nat) (x0 x1 x2 x3 : Int) (s0 : bS) (h : F_X0_elementsIn_r b x0 x1 x2 x3 s0 = some (st', v, xx)) : match (generalizing := false) b with | 0 => bJ κ s0 6 [(0, (2, x0)), (1, (0, x1)), (2, (2, x2)), (3, (0, x3))] [] | _ => True := by
  refine F_X0_elementsIn_r.partial_correctness x0 x1 x2 (fun b x3 s0 r => r = (st', v, xx) → match (generalizing := false) b with | 0 => bJ κ s0 6 [(0, (2, x0)), (1, (0, x1)), (2, (2, x2)), (3, (0, x3))] [] | _ => True) ?_ b x3 s0 _ h rfl
  intro f' ih b x3 s0 r h hr
  subst hr
  match b, h with
  | 0, h =>
      refine r_iload_n hκ 3 rfl rfl dX0_elementsIn_6 ?_
      refine r_iload_n hκ 1 rfl rfl dX0_elementsIn_7 ?_
      refine r_icmp_ge hκ (tgt := 25) (by decide) dX0_elementsIn_8 (fun h3 => ?_) (fun h3 => ?_)
      · replace h := (bte_i h).1 h3
        refine r_goto hκ (tgt := 39) (by decide) dX0_elementsIn_25 ?_
        refine r_aload_n hκ 2 rfl rfl dX0_elementsIn_39 ?_
        exact x_ret hκ hf (x_P h) (fun κ hκ hf => r_aret hκ hf rt_a dX0_elementsIn_40)
      · replace h := (bte_i h).2 h3
        refine r_aload_n hκ 2 rfl rfl dX0_elementsIn_11 ?_
        refine r_iload_n hκ 3 rfl rfl dX0_elementsIn_12 ?_
        refine r_aload_n hκ 0 rfl rfl dX0_elementsIn_13 ?_
        refine r_iload_n hκ 3 rfl rfl dX0_elementsIn_14 ?_
        obtain ⟨s2, v1, h4, h⟩ := bcl_i h
        refine r_callS hκ (n' := 2) (index := 132) (w_X0_elementOf Γ0 l0 h4) (lw_S q748 q749 q121 q750) (by decide +kernel) rfl (by decide) rfl (Nat.le_of_ble_eq_true rfl) dX0_elementsIn_15 ?_
        obtain ⟨⟨h5, h6⟩, h⟩ := bck_i h
        refine r_last hκ h5 h6 dX0_elementsIn_18 (fun s3 es3 => ?_)
        replace h := bst_i h s3 es3
        refine r_iinc hκ (L2 := [(3, (0, (x3 + 1))), (0, (2, x0)), (1, (0, x1)), (2, (2, x2))]) 3 rfl (by decide) rfl dX0_elementsIn_19 ?_
        refine r_goto hκ (tgt := 6) (by decide) dX0_elementsIn_22 ?_
        exact r_sub [1, 2, 3, 0] rfl (ih 0 _ _ _ h rfl)
  | b + 1, h => trivial
set_option maxHeartbeats 4000000 in
set_option maxRecDepth 100000 in
theorem w_X0_elementsIn (Γ0 : bG) (l0 : Launch) {s0 st' : bS} {v xx a0 a1 : Int} (h : F_X0_elementsIn s0 a0 a1 = some (st', v, xx)) : bCx Γ0 l0 yX0_elementsIn (wsW_ yX0_elementsIn cX0_elementsIn 4 (some (.array .long)) [(4, 25, 28, 118)]) 2 41 (some 2) [(2, a0), (0, a1)] s0 (bEq st' v xx) := by
  refine xb_entW (own := RX0) (by decide +kernel) rfl (Nat.le_of_ble_eq_true rfl) (L := [(0, (2, a0)), (1, (0, a1))]) rfl ?_
  intro κ hκ hi ht hf
  unfold F_X0_elementsIn at h
  refine r_iload_n hκ 1 rfl rfl dX0_elementsIn_0 ?_
  obtain ⟨⟨h1, h2⟩, h⟩ := bck_i h
  refine r_new_long hκ q635 h1 h2 dX0_elementsIn_1 (fun s1 es1 => ?_)
  replace h := bst_i h s1 es1
  refine r_astore_n hκ (L2 := [(2, (2, (bnx s0 : Int))), (0, (2, a0)), (1, (0, a1))]) (by decide) rfl rfl dX0_elementsIn_3 ?_
  refine r_iconst hκ dX0_elementsIn_4 ?_
  refine r_istore_n hκ (L2 := [(3, (0, 0)), (2, (2, (bnx s0 : Int))), (0, (2, a0)), (1, (0, a1))]) (by decide) rfl rfl dX0_elementsIn_5 ?_
  exact r_sub [2, 3, 1, 0] rfl (w_X0_elementsIn_r hκ hi ht hf 0 _ _ _ _ _ h)
/-- EditsMeet.toldIn(ZIIII)[J -/
def F_X0_toldIn_r (b : Nat) (s0 : bS) : Option (bS × Int × Int) :=
  match b with
  | 0 =>
    bck (bc s0 + 1 ≤ bCM ∧ bk s0 + 7 ≤ bKM) <|
    bst (bnw s0 12 0 7) fun s5 =>
    bck (bg s5 0 (bnx s0 : Int) 0 = 12) <|
    bcl (F_X13_init s5 (bnx s0 : Int) (-2)) fun s6 v7 =>
    bck (bg s6 0 (bnx s0 : Int) 0 = 12) <|
    some (s6, (bnx s0 : Int), 0)
  | _ => none
def F_X0_toldIn (s0 : bS) (a0 a1 a2 a3 a4 a5 : Int) : Option (bS × Int × Int) :=
  bte (i32 a1 = 0)
  (F_X0_toldIn_r 0  s0)
  (bcl (F_X0_isShelf s0 a2) fun s1 v1 =>
  bte (i32 v1 = 0)
  (F_X0_toldIn_r 0  s1)
  (bcl (F_X0_isIn s1 a3 0 a4) fun s2 v2 =>
  bte (i32 v2 = 0)
  (F_X0_toldIn_r 0  s2)
  (bck (bg s2 0 a0 0 = 1) <|
  bclx (F_X0_rowIn s2 a0 a2) fun s3 v3 v4 =>
  bte (v4 = -1)
  (bclx (F_X0_elementsIn s3 v3 (a5 * a3)) fun s4 v5 v6 =>
  bck (v6 = -1) <|
  some (s4, v5, -1))
  (some (s3, v3, v4)))))
set_option maxHeartbeats 4000000 in
set_option maxRecDepth 100000 in
set_option synthInstance.maxHeartbeats 4000000 in
theorem w_X0_toldIn_r {Γ0 : bG} {l0 : Launch} {κ : bK} {st' : bS} {v xx : Int} (hκ : bOk κ Γ0 l0 cX0_toldIn RX0 6 6 135) (hi : bIn κ yX0_toldIn) (ht : xTab κ []) (hf : xFin κ (some (.array .long)) (some 2) (bEq st' v xx)) (b : Nat) (s0 : bS) (h : F_X0_toldIn_r b s0 = some (st', v, xx)) : match (generalizing := false) b with | 0 => bJ κ s0 21 [] [] | _ => True := by
  unfold F_X0_toldIn_r at h
  match b, h with
  | 0, h =>
      obtain ⟨h11, h⟩ := bck_i h
      refine r_new hκ (t := 11) tyX13 tyX13_ok dfX13 rfl in_X13 q641 q666 q149 h11 dX0_toldIn_21 (fun s5 es5 => ?_)
      replace h := bst_i h s5 es5
      refine r_dup hκ (bd_cat2k _) dX0_toldIn_24 ?_
      refine r_bipush hκ (by decide) dX0_toldIn_25 ?_
      obtain ⟨h12, h⟩ := bck_i h
      obtain ⟨s6, v7, h13, h⟩ := bcl_i h
      refine r_callI hκ (n' := 1) (index := 55) (w_X13_init Γ0 l0 h13) (lw_meth q676) q149 q674 q675 rfl (by decide +kernel) (t := 11) h12 rfl rfl (by decide) rfl (Nat.le_of_ble_eq_true rfl) dX0_toldIn_27 ?_
      obtain ⟨h14, h⟩ := bck_i h
      refine r_athrow hκ (t := 11) (jn := 0) h14 rfl rfl dX0_toldIn_30 ?_
      exact r_xout hκ ht hf (by decide) (x_P h)
  | b + 1, h => trivial
set_option maxHeartbeats 4000000 in
set_option maxRecDepth 100000 in
theorem w_X0_toldIn (Γ0 : bG) (l0 : Launch) {s0 st' : bS} {v xx a0 a1 a2 a3 a4 a5 : Int} (h : F_X0_toldIn s0 a0 a1 a2 a3 a4 a5 = some (st', v, xx)) : bCx Γ0 l0 yX0_toldIn (ws_ yX0_toldIn cX0_toldIn 6 (some (.array .long))) 6 135 (some 2) [(2, a0), (0, a1), (0, a2), (0, a3), (0, a4), (0, a5)] s0 (bEq st' v xx) := by
  refine xb_ent (own := RX0) (by decide +kernel) rfl (Nat.le_of_ble_eq_true rfl) (L := [(0, (2, a0)), (1, (0, a1)), (2, (0, a2)), (3, (0, a3)), (4, (0, a4)), (5, (0, a5))]) rfl ?_
  intro κ hκ hi ht hf
  unfold F_X0_toldIn at h
  refine r_iload_n hκ 1 rfl rfl dX0_toldIn_0 ?_
  refine r_if_eq hκ (tgt := 21) (by decide) dX0_toldIn_1 (fun h1 => ?_) (fun h1 => ?_)
  · replace h := (bte_i h).1 h1
    exact r_sub [] rfl (w_X0_toldIn_r hκ hi ht hf 0  _ h)
  · replace h := (bte_i h).2 h1
    refine r_iload_n hκ 2 rfl rfl dX0_toldIn_4 ?_
    obtain ⟨s1, v1, h2, h⟩ := bcl_i h
    refine r_callS hκ (n' := 1) (index := 95) (w_X0_isShelf Γ0 l0 h2) (lw_S q621 q622 q121 q623) (by decide +kernel) rfl (by decide) rfl (Nat.le_of_ble_eq_true rfl) dX0_toldIn_5 ?_
    refine r_if_eq hκ (tgt := 21) (by decide) dX0_toldIn_8 (fun h3 => ?_) (fun h3 => ?_)
    · replace h := (bte_i h).1 h3
      exact r_sub [] rfl (w_X0_toldIn_r hκ hi ht hf 0  _ h)
    · replace h := (bte_i h).2 h3
      refine r_iload_n hκ 3 rfl rfl dX0_toldIn_11 ?_
      refine r_iconst hκ dX0_toldIn_12 ?_
      refine r_iload hκ 4 rfl dX0_toldIn_13 ?_
      obtain ⟨s2, v2, h4, h⟩ := bcl_i h
      refine r_callS hκ (n' := 3) (index := 45) (w_X0_isIn Γ0 l0 h4) (lw_S q624 q625 q121 q626) (by decide +kernel) rfl (by decide) rfl (Nat.le_of_ble_eq_true rfl) dX0_toldIn_15 ?_
      refine r_if_ne hκ (tgt := 31) (by decide) dX0_toldIn_18 (fun h5 => ?_) (fun h5 => ?_)
      · replace h := (bte_i h).2 h5
        refine r_aload_n hκ 0 rfl rfl dX0_toldIn_31 ?_
        refine r_iload_n hκ 2 rfl rfl dX0_toldIn_32 ?_
        obtain ⟨h7, h⟩ := bck_i h
        obtain ⟨s3, v3, v4, h6, h⟩ := bclx_i h
        refine r_seq (A := (v4 = -1 → bJ κ s3 36 [(0, (2, a0)), (1, (0, a1)), (2, (0, a2)), (3, (0, a3)), (4, (0, a4)), (5, (0, a5))] [(2, v3)]) ∧ (¬ v4 = -1 → bT κ s3 33 [(0, (2, a0)), (1, (0, a1)), (2, (0, a2)), (3, (0, a3)), (4, (0, a4)), (5, (0, a5))] v3 v4)) ⟨fun h8 => ?_, fun h8 => ?_⟩ (fun k0 => r_xcallV hκ (n' := 1) (index := 110) (w_X0_rowIn Γ0 l0 h6) (lw_V q661 q663 qs3 q121 q664) (by decide +kernel) (t := 0) h7 rfl rfl (by decide) rfl (Nat.le_of_ble_eq_true rfl) dX0_toldIn_33 (r_xj1 k0.1) (r_xj2 k0.2))
        · replace h := (bte_i h).1 h8
          refine r_iload hκ 5 rfl dX0_toldIn_36 ?_
          refine r_iload_n hκ 3 rfl rfl dX0_toldIn_38 ?_
          refine r_imul hκ dX0_toldIn_39 ?_
          obtain ⟨s4, v5, v6, h9, h⟩ := bclx_i h
          obtain ⟨h10, h⟩ := bck_i h
          refine r_seq (A := bJ κ s4 43 [(0, (2, a0)), (1, (0, a1)), (2, (0, a2)), (3, (0, a3)), (4, (0, a4)), (5, (0, a5))] [(2, v5)]) ?_ (fun k0 => r_xcallSW hκ (n' := 2) (index := 407) (w_X0_elementsIn Γ0 l0 h9) (lw_SW q2769 q2770 q121 q2771) (by decide +kernel) rfl (by decide) rfl (Nat.le_of_ble_eq_true rfl) dX0_toldIn_40 (r_xj1 (fun _ => k0)) (r_xj2 (fun hn => absurd h10 hn)))
          exact x_ret hκ hf (x_P h) (fun κ hκ hf => r_aret hκ hf rt_a dX0_toldIn_43)
        · replace h := (bte_i h).2 h8
          exact r_xout hκ ht hf (by decide) (x_P h)
      · replace h := (bte_i h).1 h5
        exact r_sub [] rfl (w_X0_toldIn_r hκ hi ht hf 0  _ h)
/-- EditsMeet.lambda$judge$25(III)I -/
def F_X0_lambda_judge_25_r (b : Nat) (x0 x1 x2 x3 : Int) (s0 : bS) : Option (bS × Int × Int) :=
  match b with
  | 0 =>
    bte (i32 x0 ≤ i32 x3)
    (bck (bg s0 0 x2 0 = 3) <|
    bcl (F_X2_length s0 x2) fun s4 v5 =>
    bte (i32 v5 ≤ i32 x0)
    (some (s4, (-1), -1))
    (some (s4, x0, -1)))
    (bck (bg s0 0 x2 0 = 3) <|
    bcl (F_X2_length s0 x2) fun s5 v6 =>
    bte (i32 v6 ≤ i32 x3)
    (some (s5, x3, -1))
    (bck (bg s5 0 x2 0 = 3) <|
    bcl (F_X2_letter s5 x2 x3) fun s6 v7 =>
    bck (bg s6 0 x1 0 = 1005 ∧ (0 : Int) ≤ (2 * x3) ∧ (2 * x3) < bg s6 4 x1 0) <|
    bte (i32 (b_lcmp (b_i2l v7) (bg s6 9 x1 (2 * x3))) = 0)
    (bck (bg s6 0 x2 0 = 3) <|
    bcl (F_X2_mark s6 x2 x3) fun s7 v8 =>
    bck (bg s7 0 x1 0 = 1005 ∧ (0 : Int) ≤ ((2 * x3) + 1) ∧ ((2 * x3) + 1) < bg s7 4 x1 0) <|
    bte (i32 (b_lcmp (b_i2l v8) (bg s7 9 x1 ((2 * x3) + 1))) = 0)
    (F_X0_lambda_judge_25_r 0 x0 x1 x2 (x3 + 1) s7)
    (some (s7, x3, -1)))
    (some (s6, x3, -1))))
  | _ => none
partial_fixpoint
def F_X0_lambda_judge_25 (s0 : bS) (a0 a1 a2 a3 : Int) : Option (bS × Int × Int) :=
  bcl (F_X0_isText s0 a1) fun s1 v1 =>
  bck (bg s1 0 a0 0 = 1) <|
  bclx (F_X0_toldIn s1 a0 v1 a2 a3 20 2) fun s2 v2 v3 =>
  bte (v3 = -1)
  (bck (bg s2 0 a0 0 = 1) <|
  bck (bg s2 0 (bg s2 34 a0 0) 0 = 2) <|
  bcl (F_X1_text s2 (bg s2 34 a0 0) a1) fun s3 v4 =>
  F_X0_lambda_judge_25_r 0 a3 v2 v4 0 s3)
  (some (s2, v2, v3))
set_option maxHeartbeats 4000000 in
set_option maxRecDepth 100000 in
set_option synthInstance.maxHeartbeats 4000000 in
theorem w_X0_lambda_judge_25_r {Γ0 : bG} {l0 : Launch} {κ : bK} {st' : bS} {v xx : Int} (hκ : bOk κ Γ0 l0 cX0_lambda_judge_25 RX0 7 7 160) (hi : bIn κ yX0_lambda_judge_25) (ht : xTab κ []) (hf : xFin κ (some .int) (some 0) (bEq st' v xx)) (b : Nat) (x0 x1 x2 x3 : Int) (s0 : bS) (h : F_X0_lambda_judge_25_r b x0 x1 x2 x3 s0 = some (st', v, xx)) : match (generalizing := false) b with | 0 => bJ κ s0 28 [(3, (0, x0)), (4, (2, x1)), (5, (2, x2)), (6, (0, x3))] [] | _ => True := by
  refine F_X0_lambda_judge_25_r.partial_correctness x0 x1 x2 (fun b x3 s0 r => r = (st', v, xx) → match (generalizing := false) b with | 0 => bJ κ s0 28 [(3, (0, x0)), (4, (2, x1)), (5, (2, x2)), (6, (0, x3))] [] | _ => True) ?_ b x3 s0 _ h rfl
  intro f' ih b x3 s0 r h hr
  subst hr
  match b, h with
  | 0, h =>
      refine r_iload hκ 3 rfl dX0_lambda_judge_25_28 ?_
      refine r_iload_n hκ 0 rfl rfl dX0_lambda_judge_25_30 ?_
      refine r_icmp_ge hκ (tgt := 93) (by decide) dX0_lambda_judge_25_31 (fun h8 => ?_) (fun h8 => ?_)
      · replace h := (bte_i h).1 h8
        refine r_aload hκ 2 rfl dX0_lambda_judge_25_93 ?_
        obtain ⟨h9, h⟩ := bck_i h
        obtain ⟨s4, v5, h10, h⟩ := bcl_i h
        refine r_callV hκ (n' := 0) (index := 245) (w_X2_length Γ0 l0 h10) (lw_V q2166 q2167 q2168 q123 q2169) (by decide +kernel) (t := 2) h9 rfl rfl (by decide) rfl (Nat.le_of_ble_eq_true rfl) dX0_lambda_judge_25_95 ?_
        refine r_iload_n hκ 0 rfl rfl dX0_lambda_judge_25_98 ?_
        refine r_icmp_le hκ (tgt := 106) (by decide) dX0_lambda_judge_25_99 (fun h11 => ?_) (fun h11 => ?_)
        · replace h := (bte_i h).1 h11
          refine r_iconst hκ dX0_lambda_judge_25_106 ?_
          exact x_ret hκ hf (x_P h) (fun κ hκ hf => r_iret hκ hf (nar_int _) dX0_lambda_judge_25_107)
        · replace h := (bte_i h).2 h11
          refine r_iload_n hκ 0 rfl rfl dX0_lambda_judge_25_102 ?_
          refine r_goto hκ (tgt := 107) (by decide) dX0_lambda_judge_25_103 ?_
          exact x_ret hκ hf (x_P h) (fun κ hκ hf => r_iret hκ hf (nar_int _) dX0_lambda_judge_25_107)
      · replace h := (bte_i h).2 h8
        refine r_iload hκ 3 rfl dX0_lambda_judge_25_34 ?_
        refine r_aload hκ 2 rfl dX0_lambda_judge_25_36 ?_
        obtain ⟨h12, h⟩ := bck_i h
        obtain ⟨s5, v6, h13, h⟩ := bcl_i h
        refine r_callV hκ (n' := 0) (index := 245) (w_X2_length Γ0 l0 h13) (lw_V q2166 q2167 q2168 q123 q2169) (by decide +kernel) (t := 2) h12 rfl rfl (by decide) rfl (Nat.le_of_ble_eq_true rfl) dX0_lambda_judge_25_38 ?_
        refine r_icmp_ge hκ (tgt := 84) (by decide) dX0_lambda_judge_25_41 (fun h14 => ?_) (fun h14 => ?_)
        · replace h := (bte_i h).1 h14
          refine r_iload hκ 3 rfl dX0_lambda_judge_25_84 ?_
          exact x_ret hκ hf (x_P h) (fun κ hκ hf => r_iret hκ hf (nar_int _) dX0_lambda_judge_25_86)
        · replace h := (bte_i h).2 h14
          refine r_aload hκ 2 rfl dX0_lambda_judge_25_44 ?_
          refine r_iload hκ 3 rfl dX0_lambda_judge_25_46 ?_
          obtain ⟨h15, h⟩ := bck_i h
          obtain ⟨s6, v7, h16, h⟩ := bcl_i h
          refine r_callV hκ (n' := 1) (index := 402) (w_X2_letter Γ0 l0 h16) (lw_V q2740 q2741 q2742 q123 q2743) (by decide +kernel) (t := 2) h15 rfl rfl (by decide) rfl (Nat.le_of_ble_eq_true rfl) dX0_lambda_judge_25_48 ?_
          refine r_i2l hκ dX0_lambda_judge_25_51 ?_
          refine r_aload hκ 1 rfl dX0_lambda_judge_25_52 ?_
          refine r_iconst hκ dX0_lambda_judge_25_54 ?_
          refine r_iload hκ 3 rfl dX0_lambda_judge_25_55 ?_
          refine r_imul hκ dX0_lambda_judge_25_57 ?_
          obtain ⟨⟨h17, h18⟩, h⟩ := bck_i h
          refine r_lald hκ h17 h18 dX0_lambda_judge_25_58 ?_
          refine r_lcmp hκ dX0_lambda_judge_25_59 ?_
          refine r_if_ne hκ (tgt := 84) (by decide) dX0_lambda_judge_25_60 (fun h19 => ?_) (fun h19 => ?_)
          · replace h := (bte_i h).2 h19
            refine r_iload hκ 3 rfl dX0_lambda_judge_25_84 ?_
            exact x_ret hκ hf (x_P h) (fun κ hκ hf => r_iret hκ hf (nar_int _) dX0_lambda_judge_25_86)
          · replace h := (bte_i h).1 h19
            refine r_aload hκ 2 rfl dX0_lambda_judge_25_63 ?_
            refine r_iload hκ 3 rfl dX0_lambda_judge_25_65 ?_
            obtain ⟨h20, h⟩ := bck_i h
            obtain ⟨s7, v8, h21, h⟩ := bcl_i h
            refine r_callV hκ (n' := 1) (index := 309) (w_X2_mark Γ0 l0 h21) (lw_V q2467 q2207 q2208 q123 q2209) (by decide +kernel) (t := 2) h20 rfl rfl (by decide) rfl (Nat.le_of_ble_eq_true rfl) dX0_lambda_judge_25_67 ?_
            refine r_i2l hκ dX0_lambda_judge_25_70 ?_
            refine r_aload hκ 1 rfl dX0_lambda_judge_25_71 ?_
            refine r_iconst hκ dX0_lambda_judge_25_73 ?_
            refine r_iload hκ 3 rfl dX0_lambda_judge_25_74 ?_
            refine r_imul hκ dX0_lambda_judge_25_76 ?_
            refine r_iconst hκ dX0_lambda_judge_25_77 ?_
            refine r_iadd hκ dX0_lambda_judge_25_78 ?_
            obtain ⟨⟨h22, h23⟩, h⟩ := bck_i h
            refine r_lald hκ h22 h23 dX0_lambda_judge_25_79 ?_
            refine r_lcmp hκ dX0_lambda_judge_25_80 ?_
            refine r_if_eq hκ (tgt := 87) (by decide) dX0_lambda_judge_25_81 (fun h24 => ?_) (fun h24 => ?_)
            · replace h := (bte_i h).1 h24
              refine r_iinc hκ (L2 := [(6, (0, (x3 + 1))), (3, (0, x0)), (4, (2, x1)), (5, (2, x2))]) 3 rfl (by decide) rfl dX0_lambda_judge_25_87 ?_
              refine r_goto hκ (tgt := 28) (by decide) dX0_lambda_judge_25_90 ?_
              exact r_sub [1, 2, 3, 0] rfl (ih 0 _ _ _ h rfl)
            · replace h := (bte_i h).2 h24
              refine r_iload hκ 3 rfl dX0_lambda_judge_25_84 ?_
              exact x_ret hκ hf (x_P h) (fun κ hκ hf => r_iret hκ hf (nar_int _) dX0_lambda_judge_25_86)
  | b + 1, h => trivial
set_option maxHeartbeats 4000000 in
set_option maxRecDepth 100000 in
theorem w_X0_lambda_judge_25 (Γ0 : bG) (l0 : Launch) {s0 st' : bS} {v xx a0 a1 a2 a3 : Int} (h : F_X0_lambda_judge_25 s0 a0 a1 a2 a3 = some (st', v, xx)) : bCx Γ0 l0 yX0_lambda_judge_25 (ws_ yX0_lambda_judge_25 cX0_lambda_judge_25 7 (some .int)) 7 160 (some 0) [(2, a0), (0, a1), (0, a2), (0, a3)] s0 (bEq st' v xx) := by
  refine xb_ent (own := RX0) (by decide +kernel) rfl (Nat.le_of_ble_eq_true rfl) (L := [(0, (2, a0)), (1, (0, a1)), (2, (0, a2)), (3, (0, a3))]) rfl ?_
  intro κ hκ hi ht hf
  unfold F_X0_lambda_judge_25 at h
  refine r_aload_n hκ 0 rfl rfl dX0_lambda_judge_25_0 ?_
  refine r_iload_n hκ 1 rfl rfl dX0_lambda_judge_25_1 ?_
  obtain ⟨s1, v1, h1, h⟩ := bcl_i h
  refine r_callS hκ (n' := 1) (index := 393) (w_X0_isText Γ0 l0 h1) (lw_S q2728 q2729 q121 q2730) (by decide +kernel) rfl (by decide) rfl (Nat.le_of_ble_eq_true rfl) dX0_lambda_judge_25_2 ?_
  refine r_iload_n hκ 2 rfl rfl dX0_lambda_judge_25_5 ?_
  refine r_iload_n hκ 3 rfl rfl dX0_lambda_judge_25_6 ?_
  refine r_bipush hκ (by decide) dX0_lambda_judge_25_7 ?_
  refine r_iconst hκ dX0_lambda_judge_25_9 ?_
  obtain ⟨h3, h⟩ := bck_i h
  obtain ⟨s2, v2, v3, h2, h⟩ := bclx_i h
  refine r_seq (A := (v3 = -1 → bJ κ s2 13 [(0, (2, a0)), (1, (0, a1)), (2, (0, a2)), (3, (0, a3))] [(2, v2)]) ∧ (¬ v3 = -1 → bT κ s2 10 [(0, (2, a0)), (1, (0, a1)), (2, (0, a2)), (3, (0, a3))] v2 v3)) ⟨fun h4 => ?_, fun h4 => ?_⟩ (fun k0 => r_xcallV hκ (n' := 5) (index := 463) (w_X0_toldIn Γ0 l0 h2) (lw_V q2765 q2767 qs61 q121 q2768) (by decide +kernel) (t := 0) h3 rfl rfl (by decide) rfl (Nat.le_of_ble_eq_true rfl) dX0_lambda_judge_25_10 (r_xj1 k0.1) (r_xj2 k0.2))
  · replace h := (bte_i h).1 h4
    refine r_astore hκ (L2 := [(4, (2, v2)), (0, (2, a0)), (1, (0, a1)), (2, (0, a2)), (3, (0, a3))]) (by decide) rfl dX0_lambda_judge_25_13 ?_
    refine r_aload_n hκ 1 rfl rfl dX0_lambda_judge_25_15 ?_
    obtain ⟨h5, h⟩ := bck_i h
    refine r_get hκ (t := 0) (k := 0) (r := 34) h5 rfl in_X0 (by decide) rfl q573 (Or.inl rfl) dX0_lambda_judge_25_16 ?_
    refine r_iload_n hκ 2 rfl rfl dX0_lambda_judge_25_19 ?_
    obtain ⟨h6, h⟩ := bck_i h
    obtain ⟨s3, v4, h7, h⟩ := bcl_i h
    refine r_callV hκ (n' := 1) (index := 396) (w_X1_text Γ0 l0 h7) (lw_V q2162 q2163 q2164 q122 q2165) (by decide +kernel) (t := 1) h6 rfl rfl (by decide) rfl (Nat.le_of_ble_eq_true rfl) dX0_lambda_judge_25_20 ?_
    refine r_astore hκ (L2 := [(5, (2, v4)), (4, (2, v2)), (0, (2, a0)), (1, (0, a1)), (2, (0, a2)), (3, (0, a3))]) (by decide) rfl dX0_lambda_judge_25_23 ?_
    refine r_iconst hκ dX0_lambda_judge_25_25 ?_
    refine r_istore hκ (L2 := [(6, (0, 0)), (5, (2, v4)), (4, (2, v2)), (0, (2, a0)), (1, (0, a1)), (2, (0, a2)), (3, (0, a3))]) (by decide) rfl dX0_lambda_judge_25_26 ?_
    exact r_sub [6, 2, 1, 0] rfl (w_X0_lambda_judge_25_r hκ hi ht hf 0 _ _ _ _ _ h)
  · replace h := (bte_i h).2 h4
    exact r_xout hκ ht hf (by decide) (x_P h)
/-- EditsMeet.told(LEditsMeet$Asked;)I -/
def F_X0_told (s0 : bS) (a0 a1 : Int) : Option (bS × Int × Int) :=
  bclx (bte (bg s0 0 a1 0 = 500) (bck (bg s0 0 (bg s0 2402 a1 0) 0 = 1) <| F_X0_lambda_show_0 s0 (bg s0 2402 a1 0) (bg s0 2404 a1 0) (bg s0 2408 a1 0) (bg s0 2412 a1 0)) (bte (bg s0 0 a1 0 = 501) (bck (bg s0 0 (bg s0 2402 a1 0) 0 = 1) <| F_X0_lambda_of_5 s0 (bg s0 2402 a1 0) (bg s0 2404 a1 0) (bg s0 2408 a1 0)) (bte (bg s0 0 a1 0 = 507) (bck (bg s0 0 (bg s0 2402 a1 0) 0 = 1) <| F_X0_lambda_part_6 s0 (bg s0 2402 a1 0) (bg s0 2404 a1 0) (bg s0 2408 a1 0) (bg s0 2412 a1 0)) (bte (bg s0 0 a1 0 = 508) (bck (bg s0 0 (bg s0 2402 a1 0) 0 = 1) <| F_X0_lambda_letter_7 s0 (bg s0 2402 a1 0) (bg s0 2404 a1 0) (bg s0 2408 a1 0) (bg s0 2412 a1 0)) (bte (bg s0 0 a1 0 = 509) (bck (bg s0 0 (bg s0 2402 a1 0) 0 = 1) <| F_X0_lambda_spelled_8 s0 (bg s0 2402 a1 0) (bg s0 2404 a1 0) (bg s0 2408 a1 0)) (bte (bg s0 0 a1 0 = 510) (bck (bg s0 0 (bg s0 2402 a1 0) 0 = 1) <| F_X0_lambda_behind_9 s0 (bg s0 2402 a1 0) (bg s0 2404 a1 0) (bg s0 2408 a1 0) (bg s0 2412 a1 0)) (bte (bg s0 0 a1 0 = 512) (bck (bg s0 0 (bg s0 2402 a1 0) 0 = 1) <| F_X0_lambda_over_10 s0 (bg s0 2402 a1 0) (bg s0 2404 a1 0) (bg s0 2408 a1 0) (bg s0 2412 a1 0) (bg s0 2416 a1 0)) (bte (bg s0 0 a1 0 = 513) (bck (bg s0 0 (bg s0 2402 a1 0) 0 = 1) <| F_X0_lambda_turned_11 s0 (bg s0 2402 a1 0) (bg s0 2404 a1 0) (bg s0 2408 a1 0) (bg s0 2412 a1 0)) (bte (bg s0 0 a1 0 = 514) (bck (bg s0 0 (bg s0 2402 a1 0) 0 = 1) <| F_X0_lambda_differ_12 s0 (bg s0 2402 a1 0) (bg s0 2404 a1 0) (bg s0 2408 a1 0)) (bte (bg s0 0 a1 0 = 515) (bck (bg s0 0 (bg s0 2402 a1 0) 0 = 1) <| F_X0_lambda_does_13 s0 (bg s0 2402 a1 0) (bg s0 2404 a1 0) (bg s0 2408 a1 0)) (bte (bg s0 0 a1 0 = 516) (bck (bg s0 0 (bg s0 2402 a1 0) 0 = 1) <| F_X0_lambda_insert_14 s0 (bg s0 2402 a1 0) (bg s0 2404 a1 0) (bg s0 2408 a1 0) (bg s0 2412 a1 0) (bg s0 2416 a1 0)) (bte (bg s0 0 a1 0 = 517) (bck (bg s0 0 (bg s0 2402 a1 0) 0 = 1) <| F_X0_lambda_cut_15 s0 (bg s0 2402 a1 0) (bg s0 2404 a1 0) (bg s0 2408 a1 0) (bg s0 2412 a1 0)) (bte (bg s0 0 a1 0 = 518) (bck (bg s0 0 (bg s0 2402 a1 0) 0 = 1) <| F_X0_lambda_mark_16 s0 (bg s0 2402 a1 0) (bg s0 2404 a1 0) (bg s0 2408 a1 0) (bg s0 2412 a1 0) (bg s0 2416 a1 0) (bg s0 2420 a1 0)) (bte (bg s0 0 a1 0 = 519) (bck (bg s0 0 (bg s0 2402 a1 0) 0 = 1) <| F_X0_lambda_serve_17 s0 (bg s0 2402 a1 0) (bg s0 2404 a1 0)) (bte (bg s0 0 a1 0 = 520) (bck (bg s0 0 (bg s0 2402 a1 0) 0 = 1) <| F_X0_lambda_hear_18 s0 (bg s0 2402 a1 0) (bg s0 2404 a1 0)) (bte (bg s0 0 a1 0 = 521) (bck (bg s0 0 (bg s0 2402 a1 0) 0 = 1) <| F_X0_lambda_meet_19 s0 (bg s0 2402 a1 0)) (bte (bg s0 0 a1 0 = 522) (bck (bg s0 0 (bg s0 2402 a1 0) 0 = 1) <| F_X0_lambda_undo_20 s0 (bg s0 2402 a1 0) (bg s0 2404 a1 0)) (bte (bg s0 0 a1 0 = 523) (bck (bg s0 0 (bg s0 2402 a1 0) 0 = 1) <| F_X0_lambda_redo_21 s0 (bg s0 2402 a1 0) (bg s0 2404 a1 0)) (bte (bg s0 0 a1 0 = 524) (bck (bg s0 0 (bg s0 2402 a1 0) 0 = 1) <| F_X0_lambda_point_22 s0 (bg s0 2402 a1 0) (bg s0 2404 a1 0) (bg s0 2408 a1 0) (bg s0 2412 a1 0)) (bte (bg s0 0 a1 0 = 525) (bck (bg s0 0 (bg s0 2402 a1 0) 0 = 1) <| F_X0_lambda_takes_23 s0 (bg s0 2402 a1 0) (bg s0 2404 a1 0) (bg s0 2408 a1 0) (bg s0 2412 a1 0)) (bte (bg s0 0 a1 0 = 526) (bck (bg s0 0 (bg s0 2402 a1 0) 0 = 1) <| F_X0_lambda_revision_24 s0 (bg s0 2402 a1 0) (bg s0 2404 a1 0) (bg s0 2408 a1 0)) (bte (bg s0 0 a1 0 = 527) (bck (bg s0 0 (bg s0 2402 a1 0) 0 = 1) <| F_X0_lambda_judge_25 s0 (bg s0 2402 a1 0) (bg s0 2404 a1 0) (bg s0 2408 a1 0) (bg s0 2412 a1 0)) (none))))))))))))))))))))))) fun s1 v1 v2 =>
  bte (v2 = -1)
  (some (s1, v1, -1))
  (bte (v2 = 0) (bck (bg s1 0 v1 0 = 12) <|
  bck (bg s1 0 a0 0 = 1) <|
  bcl (F_X0_no s1 a0 (bg s1 368 v1 0)) fun s2 v3 =>
  some (s2, v3, -1)) (none))
set_option maxHeartbeats 4000000 in
set_option maxRecDepth 100000 in
theorem w_X0_told (Γ0 : bG) (l0 : Launch) {s0 st' : bS} {v xx a0 a1 : Int} (h : F_X0_told s0 a0 a1 = some (st', v, xx)) : bCx Γ0 l0 yX0_told (wsW_ yX0_told cX0_told 3 (some .int) [(0, 6, 7, 53)]) 19 3214 (some 0) [(2, a0), (2, a1)] s0 (bEq st' v xx) := by
  refine xb_entW (own := RX0) (by decide +kernel) rfl (Nat.le_of_ble_eq_true rfl) (L := [(0, (2, a0)), (1, (2, a1))]) rfl ?_
  intro κ hκ hi ht hf
  unfold F_X0_told at h
  refine r_aload_n hκ 1 rfl rfl dX0_told_0 ?_
  obtain ⟨s1, v1, v2, h1, h⟩ := bclx_i h
  refine r_seq (A := (v2 = -1 → bJ κ s1 6 [(0, (2, a0)), (1, (2, a1))] [(0, v1)]) ∧ (¬ v2 = -1 → bT κ s1 1 [(0, (2, a0)), (1, (2, a1))] v1 v2)) ⟨fun h2 => ?_, fun h2 => ?_⟩ (fun k0 => ?_)
  case refine_3 =>
    by_cases h3 : bg s0 0 a1 0 = 500
    · have hq0 := (bte_i h1).1 h3
      obtain ⟨hq1, hq0⟩ := bck_i hq0
      exact r_callL5 hκ (k := 0) (xi := ⟨"EditsMeet$Asked", "told", "()I"⟩) rfl (lams_0 rfl) q3683 (v0 := (bg s0 2402 a1 0)) (xs := [(bg s0 2404 a1 0), (bg s0 2408 a1 0), (bg s0 2412 a1 0)]) (ps := []) rfl rfl (by decide) h3 rfl (fun j hj => by
      match j, hj with
      | 0, _ => rfl
      | 1, _ => rfl
      | 2, _ => rfl
      | j + 3, hj => exact absurd hj (by simp)) ⟨rfl, rfl, by decide +kernel, rfl⟩ (y := yX0_lambda_show_0) rfl (by decide +kernel) rfl (Nat.le_of_ble_eq_true rfl) rfl lmd4_0 (fun h9 => absurd h9 (by decide)) lmi4_0 lmr4_0 (w_X0_lambda_show_0 Γ0 l0 hq0) hq1 q838 (by decide +kernel) (by decide +kernel) q794 qs4 q121 q795 (by decide) (by decide) (Eq.trans (b := some 0) (by decide +kernel) rfl) (Eq.trans (b := some 3) (by decide +kernel) rfl) (by decide) rfl (Nat.le_of_ble_eq_true rfl) dX0_told_1 (r_xj1L k0.1) (r_xj2 k0.2)
    replace h1 := (bte_i h1).2 h3
    by_cases h4 : bg s0 0 a1 0 = 501
    · have hq0 := (bte_i h1).1 h4
      obtain ⟨hq1, hq0⟩ := bck_i hq0
      exact r_callL5 hκ (k := 1) (xi := ⟨"EditsMeet$Asked", "told", "()I"⟩) rfl (lams_1 rfl) q3683 (v0 := (bg s0 2402 a1 0)) (xs := [(bg s0 2404 a1 0), (bg s0 2408 a1 0)]) (ps := []) rfl rfl (by decide) h4 rfl (fun j hj => by
      match j, hj with
      | 0, _ => rfl
      | 1, _ => rfl
      | j + 2, hj => exact absurd hj (by simp)) ⟨rfl, rfl, by decide +kernel, rfl⟩ (y := yX0_lambda_of_5) rfl (by decide +kernel) rfl (Nat.le_of_ble_eq_true rfl) rfl lmd3_0 (fun h9 => absurd h9 (by decide)) lmi3_0 lmr3_0 (w_X0_lambda_of_5 Γ0 l0 hq0) hq1 q838 (by decide +kernel) (by decide +kernel) q1555 qs21 q121 q1556 (by decide) (by decide) (Eq.trans (b := some 0) (by decide +kernel) rfl) (Eq.trans (b := some 2) (by decide +kernel) rfl) (by decide) rfl (Nat.le_of_ble_eq_true rfl) dX0_told_1 (r_xj1L k0.1) (r_xj2 k0.2)
    replace h1 := (bte_i h1).2 h4
    by_cases h5 : bg s0 0 a1 0 = 507
    · have hq0 := (bte_i h1).1 h5
      obtain ⟨hq1, hq0⟩ := bck_i hq0
      exact r_callL5 hκ (k := 7) (xi := ⟨"EditsMeet$Asked", "told", "()I"⟩) rfl (lams_7 rfl) q3683 (v0 := (bg s0 2402 a1 0)) (xs := [(bg s0 2404 a1 0), (bg s0 2408 a1 0), (bg s0 2412 a1 0)]) (ps := []) rfl rfl (by decide) h5 rfl (fun j hj => by
      match j, hj with
      | 0, _ => rfl
      | 1, _ => rfl
      | 2, _ => rfl
      | j + 3, hj => exact absurd hj (by simp)) ⟨rfl, rfl, by decide +kernel, rfl⟩ (y := yX0_lambda_part_6) rfl (by decide +kernel) rfl (Nat.le_of_ble_eq_true rfl) rfl lmd4_0 (fun h9 => absurd h9 (by decide)) lmi4_0 lmr4_0 (w_X0_lambda_part_6 Γ0 l0 hq0) hq1 q838 (by decide +kernel) (by decide +kernel) q1630 qs23 q121 q1631 (by decide) (by decide) (Eq.trans (b := some 0) (by decide +kernel) rfl) (Eq.trans (b := some 3) (by decide +kernel) rfl) (by decide) rfl (Nat.le_of_ble_eq_true rfl) dX0_told_1 (r_xj1L k0.1) (r_xj2 k0.2)
    replace h1 := (bte_i h1).2 h5
    by_cases h6 : bg s0 0 a1 0 = 508
    · have hq0 := (bte_i h1).1 h6
      obtain ⟨hq1, hq0⟩ := bck_i hq0
      exact r_callL5 hκ (k := 8) (xi := ⟨"EditsMeet$Asked", "told", "()I"⟩) rfl (lams_8 rfl) q3683 (v0 := (bg s0 2402 a1 0)) (xs := [(bg s0 2404 a1 0), (bg s0 2408 a1 0), (bg s0 2412 a1 0)]) (ps := []) rfl rfl (by decide) h6 rfl (fun j hj => by
      match j, hj with
      | 0, _ => rfl
      | 1, _ => rfl
      | 2, _ => rfl
      | j + 3, hj => exact absurd hj (by simp)) ⟨rfl, rfl, by decide +kernel, rfl⟩ (y := yX0_lambda_letter_7) rfl (by decide +kernel) rfl (Nat.le_of_ble_eq_true rfl) rfl lmd4_0 (fun h9 => absurd h9 (by decide)) lmi4_0 lmr4_0 (w_X0_lambda_letter_7 Γ0 l0 hq0) hq1 q838 (by decide +kernel) (by decide +kernel) q1641 qs24 q121 q1642 (by decide) (by decide) (Eq.trans (b := some 0) (by decide +kernel) rfl) (Eq.trans (b := some 3) (by decide +kernel) rfl) (by decide) rfl (Nat.le_of_ble_eq_true rfl) dX0_told_1 (r_xj1L k0.1) (r_xj2 k0.2)
    replace h1 := (bte_i h1).2 h6
    by_cases h7 : bg s0 0 a1 0 = 509
    · have hq0 := (bte_i h1).1 h7
      obtain ⟨hq1, hq0⟩ := bck_i hq0
      exact r_callL5 hκ (k := 9) (xi := ⟨"EditsMeet$Asked", "told", "()I"⟩) rfl (lams_9 rfl) q3683 (v0 := (bg s0 2402 a1 0)) (xs := [(bg s0 2404 a1 0), (bg s0 2408 a1 0)]) (ps := []) rfl rfl (by decide) h7 rfl (fun j hj => by
      match j, hj with
      | 0, _ => rfl
      | 1, _ => rfl
      | j + 2, hj => exact absurd hj (by simp)) ⟨rfl, rfl, by decide +kernel, rfl⟩ (y := yX0_lambda_spelled_8) rfl (by decide +kernel) rfl (Nat.le_of_ble_eq_true rfl) rfl lmd3_0 (fun h9 => absurd h9 (by decide)) lmi3_0 lmr3_0 (w_X0_lambda_spelled_8 Γ0 l0 hq0) hq1 q838 (by decide +kernel) (by decide +kernel) q1653 qs25 q121 q1654 (by decide) (by decide) (Eq.trans (b := some 0) (by decide +kernel) rfl) (Eq.trans (b := some 2) (by decide +kernel) rfl) (by decide) rfl (Nat.le_of_ble_eq_true rfl) dX0_told_1 (r_xj1L k0.1) (r_xj2 k0.2)
    replace h1 := (bte_i h1).2 h7
    by_cases h8 : bg s0 0 a1 0 = 510
    · have hq0 := (bte_i h1).1 h8
      obtain ⟨hq1, hq0⟩ := bck_i hq0
      exact r_callL5 hκ (k := 10) (xi := ⟨"EditsMeet$Asked", "told", "()I"⟩) rfl (lams_10 rfl) q3683 (v0 := (bg s0 2402 a1 0)) (xs := [(bg s0 2404 a1 0), (bg s0 2408 a1 0), (bg s0 2412 a1 0)]) (ps := []) rfl rfl (by decide) h8 rfl (fun j hj => by
      match j, hj with
      | 0, _ => rfl
      | 1, _ => rfl
      | 2, _ => rfl
      | j + 3, hj => exact absurd hj (by simp)) ⟨rfl, rfl, by decide +kernel, rfl⟩ (y := yX0_lambda_behind_9) rfl (by decide +kernel) rfl (Nat.le_of_ble_eq_true rfl) rfl lmd4_0 (fun h9 => absurd h9 (by decide)) lmi4_0 lmr4_0 (w_X0_lambda_behind_9 Γ0 l0 hq0) hq1 q838 (by decide +kernel) (by decide +kernel) q2048 qs29 q121 q2049 (by decide) (by decide) (Eq.trans (b := some 0) (by decide +kernel) rfl) (Eq.trans (b := some 3) (by decide +kernel) rfl) (by decide) rfl (Nat.le_of_ble_eq_true rfl) dX0_told_1 (r_xj1L k0.1) (r_xj2 k0.2)
    replace h1 := (bte_i h1).2 h8
    by_cases h9 : bg s0 0 a1 0 = 512
    · have hq0 := (bte_i h1).1 h9
      obtain ⟨hq1, hq0⟩ := bck_i hq0
      exact r_callL5 hκ (k := 12) (xi := ⟨"EditsMeet$Asked", "told", "()I"⟩) rfl (lams_12 rfl) q3683 (v0 := (bg s0 2402 a1 0)) (xs := [(bg s0 2404 a1 0), (bg s0 2408 a1 0), (bg s0 2412 a1 0), (bg s0 2416 a1 0)]) (ps := []) rfl rfl (by decide) h9 rfl (fun j hj => by
      match j, hj with
      | 0, _ => rfl
      | 1, _ => rfl
      | 2, _ => rfl
      | 3, _ => rfl
      | j + 4, hj => exact absurd hj (by simp)) ⟨rfl, rfl, by decide +kernel, rfl⟩ (y := yX0_lambda_over_10) rfl (by decide +kernel) rfl (Nat.le_of_ble_eq_true rfl) rfl lmd5_0 (fun h9 => absurd h9 (by decide)) lmi5_0 lmr5_0 (w_X0_lambda_over_10 Γ0 l0 hq0) hq1 q838 (by decide +kernel) (by decide +kernel) q2139 qs32 q121 q2140 (by decide) (by decide) (Eq.trans (b := some 0) (by decide +kernel) rfl) (Eq.trans (b := some 4) (by decide +kernel) rfl) (by decide) rfl (Nat.le_of_ble_eq_true rfl) dX0_told_1 (r_xj1L k0.1) (r_xj2 k0.2)
    replace h1 := (bte_i h1).2 h9
    by_cases h10 : bg s0 0 a1 0 = 513
    · have hq0 := (bte_i h1).1 h10
      obtain ⟨hq1, hq0⟩ := bck_i hq0
      exact r_callL5 hκ (k := 13) (xi := ⟨"EditsMeet$Asked", "told", "()I"⟩) rfl (lams_13 rfl) q3683 (v0 := (bg s0 2402 a1 0)) (xs := [(bg s0 2404 a1 0), (bg s0 2408 a1 0), (bg s0 2412 a1 0)]) (ps := []) rfl rfl (by decide) h10 rfl (fun j hj => by
      match j, hj with
      | 0, _ => rfl
      | 1, _ => rfl
      | 2, _ => rfl
      | j + 3, hj => exact absurd hj (by simp)) ⟨rfl, rfl, by decide +kernel, rfl⟩ (y := yX0_lambda_turned_11) rfl (by decide +kernel) rfl (Nat.le_of_ble_eq_true rfl) rfl lmd4_0 (fun h9 => absurd h9 (by decide)) lmi4_0 lmr4_0 (w_X0_lambda_turned_11 Γ0 l0 hq0) hq1 q838 (by decide +kernel) (by decide +kernel) q2157 qs34 q121 q2158 (by decide) (by decide) (Eq.trans (b := some 0) (by decide +kernel) rfl) (Eq.trans (b := some 3) (by decide +kernel) rfl) (by decide) rfl (Nat.le_of_ble_eq_true rfl) dX0_told_1 (r_xj1L k0.1) (r_xj2 k0.2)
    replace h1 := (bte_i h1).2 h10
    by_cases h11 : bg s0 0 a1 0 = 514
    · have hq0 := (bte_i h1).1 h11
      obtain ⟨hq1, hq0⟩ := bck_i hq0
      exact r_callL5 hκ (k := 14) (xi := ⟨"EditsMeet$Asked", "told", "()I"⟩) rfl (lams_14 rfl) q3683 (v0 := (bg s0 2402 a1 0)) (xs := [(bg s0 2404 a1 0), (bg s0 2408 a1 0)]) (ps := []) rfl rfl (by decide) h11 rfl (fun j hj => by
      match j, hj with
      | 0, _ => rfl
      | 1, _ => rfl
      | j + 2, hj => exact absurd hj (by simp)) ⟨rfl, rfl, by decide +kernel, rfl⟩ (y := yX0_lambda_differ_12) rfl (by decide +kernel) rfl (Nat.le_of_ble_eq_true rfl) rfl lmd3_0 (fun h9 => absurd h9 (by decide)) lmi3_0 lmr3_0 (w_X0_lambda_differ_12 Γ0 l0 hq0) hq1 q838 (by decide +kernel) (by decide +kernel) q2226 qs35 q121 q2227 (by decide) (by decide) (Eq.trans (b := some 0) (by decide +kernel) rfl) (Eq.trans (b := some 2) (by decide +kernel) rfl) (by decide) rfl (Nat.le_of_ble_eq_true rfl) dX0_told_1 (r_xj1L k0.1) (r_xj2 k0.2)
    replace h1 := (bte_i h1).2 h11
    by_cases h12 : bg s0 0 a1 0 = 515
    · have hq0 := (bte_i h1).1 h12
      obtain ⟨hq1, hq0⟩ := bck_i hq0
      exact r_callL5 hκ (k := 15) (xi := ⟨"EditsMeet$Asked", "told", "()I"⟩) rfl (lams_15 rfl) q3683 (v0 := (bg s0 2402 a1 0)) (xs := [(bg s0 2404 a1 0), (bg s0 2408 a1 0)]) (ps := []) rfl rfl (by decide) h12 rfl (fun j hj => by
      match j, hj with
      | 0, _ => rfl
      | 1, _ => rfl
      | j + 2, hj => exact absurd hj (by simp)) ⟨rfl, rfl, by decide +kernel, rfl⟩ (y := yX0_lambda_does_13) rfl (by decide +kernel) rfl (Nat.le_of_ble_eq_true rfl) rfl lmd3_0 (fun h9 => absurd h9 (by decide)) lmi3_0 lmr3_0 (w_X0_lambda_does_13 Γ0 l0 hq0) hq1 q838 (by decide +kernel) (by decide +kernel) q2238 qs36 q121 q2239 (by decide) (by decide) (Eq.trans (b := some 0) (by decide +kernel) rfl) (Eq.trans (b := some 2) (by decide +kernel) rfl) (by decide) rfl (Nat.le_of_ble_eq_true rfl) dX0_told_1 (r_xj1L k0.1) (r_xj2 k0.2)
    replace h1 := (bte_i h1).2 h12
    by_cases h13 : bg s0 0 a1 0 = 516
    · have hq0 := (bte_i h1).1 h13
      obtain ⟨hq1, hq0⟩ := bck_i hq0
      exact r_callL5 hκ (k := 16) (xi := ⟨"EditsMeet$Asked", "told", "()I"⟩) rfl (lams_16 rfl) q3683 (v0 := (bg s0 2402 a1 0)) (xs := [(bg s0 2404 a1 0), (bg s0 2408 a1 0), (bg s0 2412 a1 0), (bg s0 2416 a1 0)]) (ps := []) rfl rfl (by decide) h13 rfl (fun j hj => by
      match j, hj with
      | 0, _ => rfl
      | 1, _ => rfl
      | 2, _ => rfl
      | 3, _ => rfl
      | j + 4, hj => exact absurd hj (by simp)) ⟨rfl, rfl, by decide +kernel, rfl⟩ (y := yX0_lambda_insert_14) rfl (by decide +kernel) rfl (Nat.le_of_ble_eq_true rfl) rfl lmd5_0 (fun h9 => absurd h9 (by decide)) lmi5_0 lmr5_0 (w_X0_lambda_insert_14 Γ0 l0 hq0) hq1 q838 (by decide +kernel) (by decide +kernel) q2419 qs43 q121 q2420 (by decide) (by decide) (Eq.trans (b := some 0) (by decide +kernel) rfl) (Eq.trans (b := some 4) (by decide +kernel) rfl) (by decide) rfl (Nat.le_of_ble_eq_true rfl) dX0_told_1 (r_xj1L k0.1) (r_xj2 k0.2)
    replace h1 := (bte_i h1).2 h13
    by_cases h14 : bg s0 0 a1 0 = 517
    · have hq0 := (bte_i h1).1 h14
      obtain ⟨hq1, hq0⟩ := bck_i hq0
      exact r_callL5 hκ (k := 17) (xi := ⟨"EditsMeet$Asked", "told", "()I"⟩) rfl (lams_17 rfl) q3683 (v0 := (bg s0 2402 a1 0)) (xs := [(bg s0 2404 a1 0), (bg s0 2408 a1 0), (bg s0 2412 a1 0)]) (ps := []) rfl rfl (by decide) h14 rfl (fun j hj => by
      match j, hj with
      | 0, _ => rfl
      | 1, _ => rfl
      | 2, _ => rfl
      | j + 3, hj => exact absurd hj (by simp)) ⟨rfl, rfl, by decide +kernel, rfl⟩ (y := yX0_lambda_cut_15) rfl (by decide +kernel) rfl (Nat.le_of_ble_eq_true rfl) rfl lmd4_0 (fun h9 => absurd h9 (by decide)) lmi4_0 lmr4_0 (w_X0_lambda_cut_15 Γ0 l0 hq0) hq1 q838 (by decide +kernel) (by decide +kernel) q2451 qs45 q121 q2452 (by decide) (by decide) (Eq.trans (b := some 0) (by decide +kernel) rfl) (Eq.trans (b := some 3) (by decide +kernel) rfl) (by decide) rfl (Nat.le_of_ble_eq_true rfl) dX0_told_1 (r_xj1L k0.1) (r_xj2 k0.2)
    replace h1 := (bte_i h1).2 h14
    by_cases h15 : bg s0 0 a1 0 = 518
    · have hq0 := (bte_i h1).1 h15
      obtain ⟨hq1, hq0⟩ := bck_i hq0
      exact r_callL5 hκ (k := 18) (xi := ⟨"EditsMeet$Asked", "told", "()I"⟩) rfl (lams_18 rfl) q3683 (v0 := (bg s0 2402 a1 0)) (xs := [(bg s0 2404 a1 0), (bg s0 2408 a1 0), (bg s0 2412 a1 0), (bg s0 2416 a1 0), (bg s0 2420 a1 0)]) (ps := []) rfl rfl (by decide) h15 rfl (fun j hj => by
      match j, hj with
      | 0, _ => rfl
      | 1, _ => rfl
      | 2, _ => rfl
      | 3, _ => rfl
      | 4, _ => rfl
      | j + 5, hj => exact absurd hj (by simp)) ⟨rfl, rfl, by decide +kernel, rfl⟩ (y := yX0_lambda_mark_16) rfl (by decide +kernel) rfl (Nat.le_of_ble_eq_true rfl) rfl lmd6_0 (fun h9 => absurd h9 (by decide)) lmi6_0 lmr6_0 (w_X0_lambda_mark_16 Γ0 l0 hq0) hq1 q838 (by decide +kernel) (by decide +kernel) q2462 qs46 q121 q2463 (by decide) (by decide) (Eq.trans (b := some 0) (by decide +kernel) rfl) (Eq.trans (b := some 5) (by decide +kernel) rfl) (by decide) rfl (Nat.le_of_ble_eq_true rfl) dX0_told_1 (r_xj1L k0.1) (r_xj2 k0.2)
    replace h1 := (bte_i h1).2 h15
    by_cases h16 : bg s0 0 a1 0 = 519
    · have hq0 := (bte_i h1).1 h16
      obtain ⟨hq1, hq0⟩ := bck_i hq0
      exact r_callL5 hκ (k := 19) (xi := ⟨"EditsMeet$Asked", "told", "()I"⟩) rfl (lams_19 rfl) q3683 (v0 := (bg s0 2402 a1 0)) (xs := [(bg s0 2404 a1 0)]) (ps := []) rfl rfl (by decide) h16 rfl (fun j hj => by
      match j, hj with
      | 0, _ => rfl
      | j + 1, hj => exact absurd hj (by simp)) ⟨rfl, rfl, by decide +kernel, rfl⟩ (y := yX0_lambda_serve_17) rfl (by decide +kernel) rfl (Nat.le_of_ble_eq_true rfl) rfl lmd2_0 (fun h9 => absurd h9 (by decide)) lmi2_0 lmr2_0 (w_X0_lambda_serve_17 Γ0 l0 hq0) hq1 q838 (by decide +kernel) (by decide +kernel) q2477 qs47 q121 q2478 (by decide) (by decide) (Eq.trans (b := some 0) (by decide +kernel) rfl) (Eq.trans (b := some 1) (by decide +kernel) rfl) (by decide) rfl (Nat.le_of_ble_eq_true rfl) dX0_told_1 (r_xj1L k0.1) (r_xj2 k0.2)
    replace h1 := (bte_i h1).2 h16
    by_cases h17 : bg s0 0 a1 0 = 520
    · have hq0 := (bte_i h1).1 h17
      obtain ⟨hq1, hq0⟩ := bck_i hq0
      exact r_callL5 hκ (k := 20) (xi := ⟨"EditsMeet$Asked", "told", "()I"⟩) rfl (lams_20 rfl) q3683 (v0 := (bg s0 2402 a1 0)) (xs := [(bg s0 2404 a1 0)]) (ps := []) rfl rfl (by decide) h17 rfl (fun j hj => by
      match j, hj with
      | 0, _ => rfl
      | j + 1, hj => exact absurd hj (by simp)) ⟨rfl, rfl, by decide +kernel, rfl⟩ (y := yX0_lambda_hear_18) rfl (by decide +kernel) rfl (Nat.le_of_ble_eq_true rfl) rfl lmd2_0 (fun h9 => absurd h9 (by decide)) lmi2_0 lmr2_0 (w_X0_lambda_hear_18 Γ0 l0 hq0) hq1 q838 (by decide +kernel) (by decide +kernel) q2537 qs49 q121 q2538 (by decide) (by decide) (Eq.trans (b := some 0) (by decide +kernel) rfl) (Eq.trans (b := some 1) (by decide +kernel) rfl) (by decide) rfl (Nat.le_of_ble_eq_true rfl) dX0_told_1 (r_xj1L k0.1) (r_xj2 k0.2)
    replace h1 := (bte_i h1).2 h17
    by_cases h18 : bg s0 0 a1 0 = 521
    · have hq0 := (bte_i h1).1 h18
      obtain ⟨hq1, hq0⟩ := bck_i hq0
      exact r_callL5 hκ (k := 21) (xi := ⟨"EditsMeet$Asked", "told", "()I"⟩) rfl (lams_21 rfl) q3683 (v0 := (bg s0 2402 a1 0)) (xs := []) (ps := []) rfl rfl (by decide) h18 rfl (fun j hj => by
      match j, hj with
      | j + 0, hj => exact absurd hj (by simp)) ⟨rfl, rfl, by decide +kernel, rfl⟩ (y := yX0_lambda_meet_19) rfl (by decide +kernel) rfl (Nat.le_of_ble_eq_true rfl) rfl lmd1_0 (fun h9 => absurd h9 (by decide)) lmi1_0 lmr1_0 (w_X0_lambda_meet_19 Γ0 l0 hq0) hq1 q838 (by decide +kernel) (by decide +kernel) q2621 qs51 q121 q2622 (by decide) (by decide) (Eq.trans (b := some 0) (by decide +kernel) rfl) (Eq.trans (b := some 0) (by decide +kernel) rfl) (by decide) rfl (Nat.le_of_ble_eq_true rfl) dX0_told_1 (r_xj1L k0.1) (r_xj2 k0.2)
    replace h1 := (bte_i h1).2 h18
    by_cases h19 : bg s0 0 a1 0 = 522
    · have hq0 := (bte_i h1).1 h19
      obtain ⟨hq1, hq0⟩ := bck_i hq0
      exact r_callL5 hκ (k := 22) (xi := ⟨"EditsMeet$Asked", "told", "()I"⟩) rfl (lams_22 rfl) q3683 (v0 := (bg s0 2402 a1 0)) (xs := [(bg s0 2404 a1 0)]) (ps := []) rfl rfl (by decide) h19 rfl (fun j hj => by
      match j, hj with
      | 0, _ => rfl
      | j + 1, hj => exact absurd hj (by simp)) ⟨rfl, rfl, by decide +kernel, rfl⟩ (y := yX0_lambda_undo_20) rfl (by decide +kernel) rfl (Nat.le_of_ble_eq_true rfl) rfl lmd2_0 (fun h9 => absurd h9 (by decide)) lmi2_0 lmr2_0 (w_X0_lambda_undo_20 Γ0 l0 hq0) hq1 q838 (by decide +kernel) (by decide +kernel) q2632 qs53 q121 q2633 (by decide) (by decide) (Eq.trans (b := some 0) (by decide +kernel) rfl) (Eq.trans (b := some 1) (by decide +kernel) rfl) (by decide) rfl (Nat.le_of_ble_eq_true rfl) dX0_told_1 (r_xj1L k0.1) (r_xj2 k0.2)
    replace h1 := (bte_i h1).2 h19
    by_cases h20 : bg s0 0 a1 0 = 523
    · have hq0 := (bte_i h1).1 h20
      obtain ⟨hq1, hq0⟩ := bck_i hq0
      exact r_callL5 hκ (k := 23) (xi := ⟨"EditsMeet$Asked", "told", "()I"⟩) rfl (lams_23 rfl) q3683 (v0 := (bg s0 2402 a1 0)) (xs := [(bg s0 2404 a1 0)]) (ps := []) rfl rfl (by decide) h20 rfl (fun j hj => by
      match j, hj with
      | 0, _ => rfl
      | j + 1, hj => exact absurd hj (by simp)) ⟨rfl, rfl, by decide +kernel, rfl⟩ (y := yX0_lambda_redo_21) rfl (by decide +kernel) rfl (Nat.le_of_ble_eq_true rfl) rfl lmd2_0 (fun h9 => absurd h9 (by decide)) lmi2_0 lmr2_0 (w_X0_lambda_redo_21 Γ0 l0 hq0) hq1 q838 (by decide +kernel) (by decide +kernel) q2679 qs56 q121 q2680 (by decide) (by decide) (Eq.trans (b := some 0) (by decide +kernel) rfl) (Eq.trans (b := some 1) (by decide +kernel) rfl) (by decide) rfl (Nat.le_of_ble_eq_true rfl) dX0_told_1 (r_xj1L k0.1) (r_xj2 k0.2)
    replace h1 := (bte_i h1).2 h20
    by_cases h21 : bg s0 0 a1 0 = 524
    · have hq0 := (bte_i h1).1 h21
      obtain ⟨hq1, hq0⟩ := bck_i hq0
      exact r_callL5 hκ (k := 24) (xi := ⟨"EditsMeet$Asked", "told", "()I"⟩) rfl (lams_24 rfl) q3683 (v0 := (bg s0 2402 a1 0)) (xs := [(bg s0 2404 a1 0), (bg s0 2408 a1 0), (bg s0 2412 a1 0)]) (ps := []) rfl rfl (by decide) h21 rfl (fun j hj => by
      match j, hj with
      | 0, _ => rfl
      | 1, _ => rfl
      | 2, _ => rfl
      | j + 3, hj => exact absurd hj (by simp)) ⟨rfl, rfl, by decide +kernel, rfl⟩ (y := yX0_lambda_point_22) rfl (by decide +kernel) rfl (Nat.le_of_ble_eq_true rfl) rfl lmd4_0 (fun h9 => absurd h9 (by decide)) lmi4_0 lmr4_0 (w_X0_lambda_point_22 Γ0 l0 hq0) hq1 q838 (by decide +kernel) (by decide +kernel) q2686 qs57 q121 q2687 (by decide) (by decide) (Eq.trans (b := some 0) (by decide +kernel) rfl) (Eq.trans (b := some 3) (by decide +kernel) rfl) (by decide) rfl (Nat.le_of_ble_eq_true rfl) dX0_told_1 (r_xj1L k0.1) (r_xj2 k0.2)
    replace h1 := (bte_i h1).2 h21
    by_cases h22 : bg s0 0 a1 0 = 525
    · have hq0 := (bte_i h1).1 h22
      obtain ⟨hq1, hq0⟩ := bck_i hq0
      exact r_callL5 hκ (k := 25) (xi := ⟨"EditsMeet$Asked", "told", "()I"⟩) rfl (lams_25 rfl) q3683 (v0 := (bg s0 2402 a1 0)) (xs := [(bg s0 2404 a1 0), (bg s0 2408 a1 0), (bg s0 2412 a1 0)]) (ps := []) rfl rfl (by decide) h22 rfl (fun j hj => by
      match j, hj with
      | 0, _ => rfl
      | 1, _ => rfl
      | 2, _ => rfl
      | j + 3, hj => exact absurd hj (by simp)) ⟨rfl, rfl, by decide +kernel, rfl⟩ (y := yX0_lambda_takes_23) rfl (by decide +kernel) rfl (Nat.le_of_ble_eq_true rfl) rfl lmd4_0 (fun h9 => absurd h9 (by decide)) lmi4_0 lmr4_0 (w_X0_lambda_takes_23 Γ0 l0 hq0) hq1 q838 (by decide +kernel) (by decide +kernel) q2712 qs58 q121 q2713 (by decide) (by decide) (Eq.trans (b := some 0) (by decide +kernel) rfl) (Eq.trans (b := some 3) (by decide +kernel) rfl) (by decide) rfl (Nat.le_of_ble_eq_true rfl) dX0_told_1 (r_xj1L k0.1) (r_xj2 k0.2)
    replace h1 := (bte_i h1).2 h22
    by_cases h23 : bg s0 0 a1 0 = 526
    · have hq0 := (bte_i h1).1 h23
      obtain ⟨hq1, hq0⟩ := bck_i hq0
      exact r_callL5 hκ (k := 26) (xi := ⟨"EditsMeet$Asked", "told", "()I"⟩) rfl (lams_26 rfl) q3683 (v0 := (bg s0 2402 a1 0)) (xs := [(bg s0 2404 a1 0), (bg s0 2408 a1 0)]) (ps := []) rfl rfl (by decide) h23 rfl (fun j hj => by
      match j, hj with
      | 0, _ => rfl
      | 1, _ => rfl
      | j + 2, hj => exact absurd hj (by simp)) ⟨rfl, rfl, by decide +kernel, rfl⟩ (y := yX0_lambda_revision_24) rfl (by decide +kernel) rfl (Nat.le_of_ble_eq_true rfl) rfl lmd3_0 (fun h9 => absurd h9 (by decide)) lmi3_0 lmr3_0 (w_X0_lambda_revision_24 Γ0 l0 hq0) hq1 q838 (by decide +kernel) (by decide +kernel) q2720 qs59 q121 q2721 (by decide) (by decide) (Eq.trans (b := some 0) (by decide +kernel) rfl) (Eq.trans (b := some 2) (by decide +kernel) rfl) (by decide) rfl (Nat.le_of_ble_eq_true rfl) dX0_told_1 (r_xj1L k0.1) (r_xj2 k0.2)
    replace h1 := (bte_i h1).2 h23
    by_cases h24 : bg s0 0 a1 0 = 527
    · have hq0 := (bte_i h1).1 h24
      obtain ⟨hq1, hq0⟩ := bck_i hq0
      exact r_callL5 hκ (k := 27) (xi := ⟨"EditsMeet$Asked", "told", "()I"⟩) rfl (lams_27 rfl) q3683 (v0 := (bg s0 2402 a1 0)) (xs := [(bg s0 2404 a1 0), (bg s0 2408 a1 0), (bg s0 2412 a1 0)]) (ps := []) rfl rfl (by decide) h24 rfl (fun j hj => by
      match j, hj with
      | 0, _ => rfl
      | 1, _ => rfl
      | 2, _ => rfl
      | j + 3, hj => exact absurd hj (by simp)) ⟨rfl, rfl, by decide +kernel, rfl⟩ (y := yX0_lambda_judge_25) rfl (by decide +kernel) rfl (Nat.le_of_ble_eq_true rfl) rfl lmd4_0 (fun h9 => absurd h9 (by decide)) lmi4_0 lmr4_0 (w_X0_lambda_judge_25 Γ0 l0 hq0) hq1 q838 (by decide +kernel) (by decide +kernel) q2763 qs60 q121 q2764 (by decide) (by decide) (Eq.trans (b := some 0) (by decide +kernel) rfl) (Eq.trans (b := some 3) (by decide +kernel) rfl) (by decide) rfl (Nat.le_of_ble_eq_true rfl) dX0_told_1 (r_xj1L k0.1) (r_xj2 k0.2)
    replace h1 := (bte_i h1).2 h24
    cases h1
  · replace h := (bte_i h).1 h2
    exact x_ret hκ hf (x_P h) (fun κ hκ hf => r_iret hκ hf (nar_int _) dX0_told_6)
  · replace h := (bte_i h).2 h2
    by_cases h25 : v2 = 0
    · replace h := (bte_i h).1 h25
      refine r_xcatchE hκ ht (jn := 0) (ih := 0) (E := "EditsMeet$Refused") (name := "EditsMeet$Refused") h25 rfl rfl (fun z hz => nomatch hz) (by decide) (by decide) q641 (by decide +kernel) ?_
      refine r_astore_n hκ (L2 := [(2, (2, v1)), (0, (2, a0)), (1, (2, a1))]) (by decide) rfl rfl dX0_told_7 ?_
      refine r_aload_n hκ 1 rfl rfl dX0_told_8 ?_
      refine r_aload_n hκ 0 rfl rfl dX0_told_9 ?_
      obtain ⟨h26, h⟩ := bck_i h
      refine r_get hκ (t := 11) (k := 6) (r := 368) h26 rfl in_X13 (by decide) rfl q687 (Or.inl rfl) dX0_told_10 ?_
      obtain ⟨h27, h⟩ := bck_i h
      obtain ⟨s2, v3, h28, h⟩ := bcl_i h
      refine r_callV hκ (n' := 1) (index := 79) (w_X0_no Γ0 l0 h28) (lw_V q627 q629 qs2 q121 q630) (by decide +kernel) (t := 0) h27 rfl rfl (by decide) rfl (Nat.le_of_ble_eq_true rfl) dX0_told_13 ?_
      exact x_ret hκ hf (x_P h) (fun κ hκ hf => r_iret hκ hf (nar_int _) dX0_told_16)
    replace h := (bte_i h).2 h25
    cases h
/-- EditsMeet.show(III)I -/
def F_X0_show (s0 : bS) (a0 a1 a2 a3 : Int) : Option (bS × Int) :=
  bck (bc s0 + 1 ≤ bCM ∧ bk s0 + 4 ≤ bKM) <|
  bst (blm s0 (500 + 0) [a0, a1, a2, a3]) fun s1 =>
  bck (bg s1 0 a0 0 = 1) <|
  bclx (F_X0_told s1 a0 (bnx s0 : Int)) fun s2 v1 v2 =>
  bck (v2 = -1) <|
  some (s2, v1)
set_option maxHeartbeats 4000000 in
set_option maxRecDepth 100000 in
theorem w_X0_show (Γ0 : bG) (l0 : Launch) {s0 st' : bS} {v a0 a1 a2 a3 : Int} (h : F_X0_show s0 a0 a1 a2 a3 = some (st', v)) : bCt Γ0 l0 yX0_show cX0_show 4 (some .int) 20 3236 [(2, a0), (0, a1), (0, a2), (0, a3)] s0 st' (some (0, v)) := by
  refine b_ent (own := RX0) (by decide +kernel) rfl (Nat.le_of_ble_eq_true rfl) (L := [(0, (2, a0)), (1, (0, a1)), (2, (0, a2)), (3, (0, a3))]) rfl ?_
  intro κ hκ hi hf
  unfold F_X0_show at h
  refine r_aload_n hκ 0 rfl rfl dX0_show_0 ?_
  refine r_aload_n hκ 0 rfl rfl dX0_show_1 ?_
  refine r_iload_n hκ 1 rfl rfl dX0_show_2 ?_
  refine r_iload_n hκ 2 rfl rfl dX0_show_3 ?_
  refine r_iload_n hκ 3 rfl rfl dX0_show_4 ?_
  obtain ⟨h1, h⟩ := bck_i h
  refine r_indyM hκ hi (k := 0) rfl rfl rfl rfl (lams_0 rfl) q3683 (v0 := a0) (xs := [a1, a2, a3]) rfl rfl (by decide) h1 rfl (Nat.le_of_ble_eq_true rfl) (Nat.le_of_ble_eq_true rfl) dX0_show_5 (fun s1 es1 => ?_)
  replace h := bst_i h s1 es1
  obtain ⟨h3, h⟩ := bck_i h
  obtain ⟨s2, v1, v2, h2, h⟩ := bclx_i h
  obtain ⟨h4, h⟩ := bck_i h
  refine r_seq (A := bJ κ s2 13 [(0, (2, a0)), (1, (0, a1)), (2, (0, a2)), (3, (0, a3))] [(0, v1)]) ?_ (fun k0 => r_xcallVW hκ (n' := 1) (index := 142) (w_X0_told Γ0 l0 h2) (lw_VW q833 q835 qs6 q121 q836) (by decide +kernel) (t := 0) h3 rfl rfl (by decide) rfl (Nat.le_of_ble_eq_true rfl) dX0_show_10 (r_xj1 (fun _ => k0)) (r_xj2 (fun hn => absurd h4 hn)))
  exact r_iretH hκ hf h (nar_int _) dX0_show_13
/-- EditsMeet.says(II)I -/
def F_X0_says_r (b : Nat) (x0 : Int) (s0 : bS) : Option (bS × Int × Int) :=
  match b with
  | 0 =>
    bck (bg s0 0 x0 0 = 1) <|
    bcl (F_X0_no s0 x0 (-2)) fun s11 v11 =>
    some (s11, v11, -1)
  | _ => none
def F_X0_says (s0 : bS) (a0 a1 a2 : Int) : Option (bS × Int × Int) :=
  bcl (F_X0_isShelf s0 a1) fun s1 v1 =>
  bte (i32 v1 = 0)
  (F_X0_says_r 0 a0 s1)
  (bcl (F_X0_isIn s1 a2 0 5) fun s2 v2 =>
  bte (i32 v2 = 0)
  (F_X0_says_r 0 a0 s2)
  (bck (bg s2 0 a0 0 = 1) <|
  bck (bg s2 0 (bg s2 50 a0 0) 0 = 1009 ∧ (0 : Int) ≤ a1 ∧ a1 < bg s2 4 (bg s2 50 a0 0) 0) <|
  bck (bg s2 0 (bg s2 10 (bg s2 50 a0 0) a1) 0 = 10) <|
  bte ((bg s2 210 (bg s2 10 (bg s2 50 a0 0) a1) 0) < 0)
  (bck (bg s2 0 a0 0 = 1) <|
  bcl (F_X0_no s2 a0 (-4)) fun s10 v10 =>
  some (s10, v10, -1))
  (bte (b_t a2 = 0) (bck ((bg s2 210 (bg s2 10 (bg s2 50 a0 0) a1) 0) < 0 ∨ bg s2 0 (bg s2 210 (bg s2 10 (bg s2 50 a0 0) a1) 0) 0 = 6 ∨ bg s2 0 (bg s2 210 (bg s2 10 (bg s2 50 a0 0) a1) 0) 0 = 15 ∨ bg s2 0 (bg s2 210 (bg s2 10 (bg s2 50 a0 0) a1) 0) 0 = 16 ∨ bg s2 0 (bg s2 210 (bg s2 10 (bg s2 50 a0 0) a1) 0) 0 = 17) <|
  bcl (bte (bg s2 0 (bg s2 210 (bg s2 10 (bg s2 50 a0 0) a1) 0) 0 = 6) (F_X6_n s2 (bg s2 210 (bg s2 10 (bg s2 50 a0 0) a1) 0)) (bte (bg s2 0 (bg s2 210 (bg s2 10 (bg s2 50 a0 0) a1) 0) 0 = 15) (F_X6_n s2 (bg s2 210 (bg s2 10 (bg s2 50 a0 0) a1) 0)) (bte (bg s2 0 (bg s2 210 (bg s2 10 (bg s2 50 a0 0) a1) 0) 0 = 16) (F_X17_n s2 (bg s2 210 (bg s2 10 (bg s2 50 a0 0) a1) 0)) (bte (bg s2 0 (bg s2 210 (bg s2 10 (bg s2 50 a0 0) a1) 0) 0 = 17) (F_X6_n s2 (bg s2 210 (bg s2 10 (bg s2 50 a0 0) a1) 0)) (none))))) fun s3 v3 =>
  some (s3, v3, -1)) (bte (b_t a2 = 1) (bck ((bg s2 210 (bg s2 10 (bg s2 50 a0 0) a1) 0) < 0 ∨ bg s2 0 (bg s2 210 (bg s2 10 (bg s2 50 a0 0) a1) 0) 0 = 16) <|
  bck (bg s2 0 (bg s2 210 (bg s2 10 (bg s2 50 a0 0) a1) 0) 0 = 16) <|
  bcl (F_X17_letter s2 (bg s2 210 (bg s2 10 (bg s2 50 a0 0) a1) 0) 0) fun s4 v4 =>
  some (s4, v4, -1)) (bte (b_t a2 = 2) (bck ((bg s2 210 (bg s2 10 (bg s2 50 a0 0) a1) 0) < 0 ∨ bg s2 0 (bg s2 210 (bg s2 10 (bg s2 50 a0 0) a1) 0) 0 = 6 ∨ bg s2 0 (bg s2 210 (bg s2 10 (bg s2 50 a0 0) a1) 0) 0 = 15 ∨ bg s2 0 (bg s2 210 (bg s2 10 (bg s2 50 a0 0) a1) 0) 0 = 17) <|
  bcl (bte (bg s2 0 (bg s2 210 (bg s2 10 (bg s2 50 a0 0) a1) 0) 0 = 6) (F_X6_takes s2 (bg s2 210 (bg s2 10 (bg s2 50 a0 0) a1) 0)) (bte (bg s2 0 (bg s2 210 (bg s2 10 (bg s2 50 a0 0) a1) 0) 0 = 15) (F_X6_takes s2 (bg s2 210 (bg s2 10 (bg s2 50 a0 0) a1) 0)) (bte (bg s2 0 (bg s2 210 (bg s2 10 (bg s2 50 a0 0) a1) 0) 0 = 17) (F_X6_takes s2 (bg s2 210 (bg s2 10 (bg s2 50 a0 0) a1) 0)) (none)))) fun s5 v5 =>
  some (s5, v5, -1)) (bte (b_t a2 = 3) (bck ((bg s2 210 (bg s2 10 (bg s2 50 a0 0) a1) 0) < 0 ∨ bg s2 0 (bg s2 210 (bg s2 10 (bg s2 50 a0 0) a1) 0) 0 = 6 ∨ bg s2 0 (bg s2 210 (bg s2 10 (bg s2 50 a0 0) a1) 0) 0 = 17) <|
  bcl (bte (bg s2 0 (bg s2 210 (bg s2 10 (bg s2 50 a0 0) a1) 0) 0 = 6) (F_X7_turns s2 (bg s2 210 (bg s2 10 (bg s2 50 a0 0) a1) 0)) (bte (bg s2 0 (bg s2 210 (bg s2 10 (bg s2 50 a0 0) a1) 0) 0 = 17) (F_X7_turns s2 (bg s2 210 (bg s2 10 (bg s2 50 a0 0) a1) 0)) (none))) fun s6 v6 =>
  some (s6, v6, -1)) (bte (b_t a2 = 4) (bck ((bg s2 210 (bg s2 10 (bg s2 50 a0 0) a1) 0) < 0 ∨ bg s2 0 (bg s2 210 (bg s2 10 (bg s2 50 a0 0) a1) 0) 0 = 15) <|
  bck (bg s2 0 (bg s2 210 (bg s2 10 (bg s2 50 a0 0) a1) 0) 0 = 15) <|
  bcl (F_X6_n s2 (bg s2 210 (bg s2 10 (bg s2 50 a0 0) a1) 0)) fun s7 v7 =>
  some (s7, (100 + v7), -1)) (bck ((bg s2 210 (bg s2 10 (bg s2 50 a0 0) a1) 0) < 0 ∨ bg s2 0 (bg s2 210 (bg s2 10 (bg s2 50 a0 0) a1) 0) 0 = 17) <|
  bck (bg s2 0 (bg s2 210 (bg s2 10 (bg s2 50 a0 0) a1) 0) 0 = 17) <|
  bcl (F_X18_on s2 (bg s2 210 (bg s2 10 (bg s2 50 a0 0) a1) 0)) fun s8 v8 =>
  bck ((bg s2 210 (bg s2 10 (bg s2 50 a0 0) a1) 0) < 0 ∨ bg s8 0 (bg s2 210 (bg s2 10 (bg s2 50 a0 0) a1) 0) 0 = 17) <|
  bck (bg s8 0 (bg s2 210 (bg s2 10 (bg s2 50 a0 0) a1) 0) 0 = 17) <|
  bcl (F_X18_off s8 (bg s2 210 (bg s2 10 (bg s2 50 a0 0) a1) 0)) fun s9 v9 =>
  some (s9, ((16 * v8) + v9), -1)))))))))
set_option maxHeartbeats 4000000 in
set_option maxRecDepth 100000 in
set_option synthInstance.maxHeartbeats 4000000 in
theorem w_X0_says_r {Γ0 : bG} {l0 : Launch} {κ : bK} {st' : bS} {v xx : Int} (hκ : bOk κ Γ0 l0 cX0_says RX0 5 5 106) (hi : bIn κ yX0_says) (ht : xTab κ [(44, 154, 155, 174)]) (hf : xFin κ (some .int) (some 0) (bEq st' v xx)) (b : Nat) (x0 : Int) (s0 : bS) (h : F_X0_says_r b x0 s0 = some (st', v, xx)) : match (generalizing := false) b with | 0 => bJ κ s0 16 [(0, (2, x0))] [] | _ => True := by
  unfold F_X0_says_r at h
  match b, h with
  | 0, h =>
      refine r_aload_n hκ 0 rfl rfl dX0_says_16 ?_
      refine r_bipush hκ (by decide) dX0_says_17 ?_
      obtain ⟨h44, h⟩ := bck_i h
      obtain ⟨s11, v11, h45, h⟩ := bcl_i h
      refine r_callV hκ (n' := 1) (index := 79) (w_X0_no Γ0 l0 h45) (lw_V q627 q629 qs2 q121 q630) (by decide +kernel) (t := 0) h44 rfl rfl (by decide) rfl (Nat.le_of_ble_eq_true rfl) dX0_says_19 ?_
      exact x_ret hκ hf (x_P h) (fun κ hκ hf => r_iret hκ hf (nar_int _) dX0_says_22)
  | b + 1, h => trivial
set_option maxHeartbeats 4000000 in
set_option maxRecDepth 100000 in
theorem w_X0_says (Γ0 : bG) (l0 : Launch) {s0 st' : bS} {v xx a0 a1 a2 : Int} (h : F_X0_says s0 a0 a1 a2 = some (st', v, xx)) : bCx Γ0 l0 yX0_says (wsW_ yX0_says cX0_says 5 (some .int) [(44, 154, 155, 174)]) 5 106 (some 0) [(2, a0), (0, a1), (0, a2)] s0 (bEq st' v xx) := by
  refine xb_entW (own := RX0) (by decide +kernel) rfl (Nat.le_of_ble_eq_true rfl) (L := [(0, (2, a0)), (1, (0, a1)), (2, (0, a2))]) rfl ?_
  intro κ hκ hi ht hf
  unfold F_X0_says at h
  refine r_iload_n hκ 1 rfl rfl dX0_says_0 ?_
  obtain ⟨s1, v1, h1, h⟩ := bcl_i h
  refine r_callS hκ (n' := 1) (index := 95) (w_X0_isShelf Γ0 l0 h1) (lw_S q621 q622 q121 q623) (by decide +kernel) rfl (by decide) rfl (Nat.le_of_ble_eq_true rfl) dX0_says_1 ?_
  refine r_if_eq hκ (tgt := 16) (by decide) dX0_says_4 (fun h2 => ?_) (fun h2 => ?_)
  · replace h := (bte_i h).1 h2
    exact r_sub [0] rfl (w_X0_says_r hκ hi ht hf 0 _ _ h)
  · replace h := (bte_i h).2 h2
    refine r_iload_n hκ 2 rfl rfl dX0_says_7 ?_
    refine r_iconst hκ dX0_says_8 ?_
    refine r_iconst hκ dX0_says_9 ?_
    obtain ⟨s2, v2, h3, h⟩ := bcl_i h
    refine r_callS hκ (n' := 3) (index := 45) (w_X0_isIn Γ0 l0 h3) (lw_S q624 q625 q121 q626) (by decide +kernel) rfl (by decide) rfl (Nat.le_of_ble_eq_true rfl) dX0_says_10 ?_
    refine r_if_ne hκ (tgt := 23) (by decide) dX0_says_13 (fun h4 => ?_) (fun h4 => ?_)
    · replace h := (bte_i h).2 h4
      refine r_aload_n hκ 0 rfl rfl dX0_says_23 ?_
      obtain ⟨h5, h⟩ := bck_i h
      refine r_get hκ (t := 0) (k := 4) (r := 50) h5 rfl in_X0 (by decide) rfl q577 (Or.inl rfl) dX0_says_24 ?_
      refine r_iload_n hκ 1 rfl rfl dX0_says_27 ?_
      obtain ⟨⟨h6, h7⟩, h⟩ := bck_i h
      refine r_aald hκ (t := 9) (by decide) h6 h7 dX0_says_28 ?_
      obtain ⟨h8, h⟩ := bck_i h
      refine r_get hκ (t := 9) (k := 0) (r := 210) h8 rfl in_X11 (by decide) rfl q569 (Or.inl rfl) dX0_says_29 ?_
      refine r_astore_n hκ (L2 := [(3, (2, (bg s2 210 (bg s2 10 (bg s2 50 a0 0) a1) 0))), (0, (2, a0)), (1, (0, a1)), (2, (0, a2))]) (by decide) rfl rfl dX0_says_32 ?_
      refine r_aload_n hκ 0 rfl rfl dX0_says_33 ?_
      refine r_ifnonnull hκ (tgt := 44) (by decide) dX0_says_34 (fun h9 => ?_) (fun h9 => ?_)
      · replace h := (bte_i h).2 h9
        refine r_iload_n hκ 3 rfl rfl dX0_says_44 ?_
        by_cases h10 : b_t a2 = 0
        · replace h := (bte_i h).1 h10
          refine r_tswIn hκ (kk := 0) (tgt := 80) h10 (by decide) (by decide) rfl (by decide) dX0_says_45 ?_
          refine r_aload_n hκ 0 rfl rfl dX0_says_80 ?_
          obtain ⟨h11, h⟩ := bck_i h
          refine r_cast hκ q665 (Or.elim h11 (fun h11 => Or.inl h11) (fun h11 => Or.elim h11 (fun h11 => Or.inr ⟨5, _, h11, rfl, Or.inr (by decide +kernel)⟩) (fun h11 => Or.elim h11 (fun h11 => Or.inr ⟨14, _, h11, rfl, Or.inr (by decide +kernel)⟩) (fun h11 => Or.elim h11 (fun h11 => Or.inr ⟨15, _, h11, rfl, Or.inr (by decide +kernel)⟩) (fun h11 => Or.inr ⟨16, _, h11, rfl, Or.inr (by decide +kernel)⟩))))) dX0_says_81 ?_
          obtain ⟨s3, v3, h12, h⟩ := bcl_i h
          refine r_seq (A := bJ κ s3 89 [(3, (2, (bg s2 210 (bg s2 10 (bg s2 50 a0 0) a1) 0))), (0, (2, a0)), (1, (0, a1)), (2, (0, a2))] [(0, v3)]) ?_ (fun k0 => ?_)
          case refine_2 =>
            by_cases h13 : bg s2 0 (bg s2 210 (bg s2 10 (bg s2 50 a0 0) a1) 0) 0 = 6
            · have hq0 := (bte_i h12).1 h13
              exact r_callF hκ (n' := 0) (index := 145) (C := "EditsMeet$Keep") (w_X6_n Γ0 l0 hq0) (lw_app (lw_l4 q860 q882 q865 q138) (lw_meth q867)) (by decide +kernel) (by decide +kernel) (t := 5) h13 rfl rfl (by decide) rfl (Nat.le_of_ble_eq_true rfl) dX0_says_84 k0
            replace h12 := (bte_i h12).2 h13
            by_cases h14 : bg s2 0 (bg s2 210 (bg s2 10 (bg s2 50 a0 0) a1) 0) 0 = 15
            · have hq0 := (bte_i h12).1 h14
              exact r_callF hκ (n' := 0) (index := 145) (C := "EditsMeet$Delete") (w_X6_n Γ0 l0 hq0) (lw_app (lw_l4 q860 q863 q865 q138) (lw_meth q867)) (by decide +kernel) (by decide +kernel) (t := 14) h14 rfl rfl (by decide) rfl (Nat.le_of_ble_eq_true rfl) dX0_says_84 k0
            replace h12 := (bte_i h12).2 h14
            by_cases h15 : bg s2 0 (bg s2 210 (bg s2 10 (bg s2 50 a0 0) a1) 0) 0 = 16
            · have hq0 := (bte_i h12).1 h15
              exact r_callF hκ (n' := 0) (index := 145) (C := "EditsMeet$Insert") (w_X17_n Γ0 l0 hq0) (lw_app (lw_l4 q860 q868 q870 q165) (lw_meth q872)) (by decide +kernel) (by decide +kernel) (t := 15) h15 rfl rfl (by decide) rfl (Nat.le_of_ble_eq_true rfl) dX0_says_84 k0
            replace h12 := (bte_i h12).2 h15
            by_cases h16 : bg s2 0 (bg s2 210 (bg s2 10 (bg s2 50 a0 0) a1) 0) 0 = 17
            · have hq0 := (bte_i h12).1 h16
              exact r_callF hκ (n' := 0) (index := 145) (C := "EditsMeet$Mark") (w_X6_n Γ0 l0 hq0) (lw_app (lw_l4 q860 q884 q865 q138) (lw_meth q867)) (by decide +kernel) (by decide +kernel) (t := 16) h16 rfl rfl (by decide) rfl (Nat.le_of_ble_eq_true rfl) dX0_says_84 k0
            replace h12 := (bte_i h12).2 h16
            cases h12
          refine r_goto hκ (tgt := 154) (by decide) dX0_says_89 ?_
          exact x_ret hκ hf (x_P h) (fun κ hκ hf => r_iret hκ hf (nar_int _) dX0_says_154)
        replace h := (bte_i h).2 h10
        by_cases h17 : b_t a2 = 1
        · replace h := (bte_i h).1 h17
          refine r_tswIn hκ (kk := 1) (tgt := 92) h17 (by decide) (by decide) rfl (by decide) dX0_says_45 ?_
          refine r_aload_n hκ 0 rfl rfl dX0_says_92 ?_
          obtain ⟨h18, h⟩ := bck_i h
          refine r_cast hκ q886 (Or.elim h18 (fun h18 => Or.inl h18) (fun h18 => Or.inr ⟨15, _, h18, rfl, Or.inl rfl⟩)) dX0_says_93 ?_
          refine r_iconst hκ dX0_says_96 ?_
          obtain ⟨h19, h⟩ := bck_i h
          obtain ⟨s4, v4, h20, h⟩ := bcl_i h
          refine r_callV hκ (n' := 1) (index := 150) (w_X17_letter Γ0 l0 h20) (lw_V q887 q888 q889 q165 q890) (by decide +kernel) (t := 15) h19 rfl rfl (by decide) rfl (Nat.le_of_ble_eq_true rfl) dX0_says_97 ?_
          refine r_goto hκ (tgt := 154) (by decide) dX0_says_100 ?_
          exact x_ret hκ hf (x_P h) (fun κ hκ hf => r_iret hκ hf (nar_int _) dX0_says_154)
        replace h := (bte_i h).2 h17
        by_cases h21 : b_t a2 = 2
        · replace h := (bte_i h).1 h21
          refine r_tswIn hκ (kk := 2) (tgt := 103) h21 (by decide) (by decide) rfl (by decide) dX0_says_45 ?_
          refine r_aload_n hκ 0 rfl rfl dX0_says_103 ?_
          obtain ⟨h22, h⟩ := bck_i h
          refine r_cast hκ q927 (Or.elim h22 (fun h22 => Or.inl h22) (fun h22 => Or.elim h22 (fun h22 => Or.inr ⟨5, _, h22, rfl, Or.inr (by decide +kernel)⟩) (fun h22 => Or.elim h22 (fun h22 => Or.inr ⟨14, _, h22, rfl, Or.inr (by decide +kernel)⟩) (fun h22 => Or.inr ⟨16, _, h22, rfl, Or.inr (by decide +kernel)⟩)))) dX0_says_104 ?_
          obtain ⟨s5, v5, h23, h⟩ := bcl_i h
          refine r_seq (A := bJ κ s5 110 [(3, (2, (bg s2 210 (bg s2 10 (bg s2 50 a0 0) a1) 0))), (0, (2, a0)), (1, (0, a1)), (2, (0, a2))] [(0, v5)]) ?_ (fun k0 => ?_)
          case refine_2 =>
            by_cases h24 : bg s2 0 (bg s2 210 (bg s2 10 (bg s2 50 a0 0) a1) 0) 0 = 6
            · have hq0 := (bte_i h23).1 h24
              exact r_callU hκ (index := 155) (C := "EditsMeet$Keep") (owner := "EditsMeet$Over") (n' := 0) (w_X6_takes Γ0 l0 hq0) (fun R s args hts hRR => va_cwU 0 hts (lw_app (lw_l5 q928 q930 q932 q929 q138) (lw_meth q934)) rfl rfl rfl rfl (by decide +kernel) hRR) (t := 5) h24 rfl rfl (by decide) rfl (Nat.le_of_ble_eq_true rfl) dX0_says_107 k0
            replace h23 := (bte_i h23).2 h24
            by_cases h25 : bg s2 0 (bg s2 210 (bg s2 10 (bg s2 50 a0 0) a1) 0) 0 = 15
            · have hq0 := (bte_i h23).1 h25
              exact r_callU hκ (index := 155) (C := "EditsMeet$Delete") (owner := "EditsMeet$Over") (n' := 0) (w_X6_takes Γ0 l0 hq0) (fun R s args hts hRR => va_cwU 0 hts (lw_app (lw_l5 q928 q930 q931 q929 q138) (lw_meth q934)) rfl rfl rfl rfl (by decide +kernel) hRR) (t := 14) h25 rfl rfl (by decide) rfl (Nat.le_of_ble_eq_true rfl) dX0_says_107 k0
            replace h23 := (bte_i h23).2 h25
            by_cases h26 : bg s2 0 (bg s2 210 (bg s2 10 (bg s2 50 a0 0) a1) 0) 0 = 17
            · have hq0 := (bte_i h23).1 h26
              exact r_callU hκ (index := 155) (C := "EditsMeet$Mark") (owner := "EditsMeet$Over") (n' := 0) (w_X6_takes Γ0 l0 hq0) (fun R s args hts hRR => va_cwU 0 hts (lw_app (lw_l5 q928 q930 q933 q929 q138) (lw_meth q934)) rfl rfl rfl rfl (by decide +kernel) hRR) (t := 16) h26 rfl rfl (by decide) rfl (Nat.le_of_ble_eq_true rfl) dX0_says_107 k0
            replace h23 := (bte_i h23).2 h26
            cases h23
          refine r_goto hκ (tgt := 154) (by decide) dX0_says_110 ?_
          exact x_ret hκ hf (x_P h) (fun κ hκ hf => r_iret hκ hf (nar_int _) dX0_says_154)
        replace h := (bte_i h).2 h21
        by_cases h27 : b_t a2 = 3
        · replace h := (bte_i h).1 h27
          refine r_tswIn hκ (kk := 3) (tgt := 113) h27 (by decide) (by decide) rfl (by decide) dX0_says_45 ?_
          refine r_aload_n hκ 0 rfl rfl dX0_says_113 ?_
          obtain ⟨h28, h⟩ := bck_i h
          refine r_cast hκ q935 (Or.elim h28 (fun h28 => Or.inl h28) (fun h28 => Or.elim h28 (fun h28 => Or.inr ⟨5, _, h28, rfl, Or.inl rfl⟩) (fun h28 => Or.inr ⟨16, _, h28, rfl, Or.inr (by decide +kernel)⟩))) dX0_says_114 ?_
          obtain ⟨s6, v6, h29, h⟩ := bcl_i h
          refine r_seq (A := bJ κ s6 120 [(3, (2, (bg s2 210 (bg s2 10 (bg s2 50 a0 0) a1) 0))), (0, (2, a0)), (1, (0, a1)), (2, (0, a2))] [(0, v6)]) ?_ (fun k0 => ?_)
          case refine_2 =>
            by_cases h30 : bg s2 0 (bg s2 210 (bg s2 10 (bg s2 50 a0 0) a1) 0) 0 = 6
            · have hq0 := (bte_i h29).1 h30
              exact r_callV hκ (n' := 0) (index := 160) (w_X7_turns Γ0 l0 hq0) (lw_V q936 q937 q938 q139 q941) (by decide +kernel) (t := 5) h30 rfl rfl (by decide) rfl (Nat.le_of_ble_eq_true rfl) dX0_says_117 k0
            replace h29 := (bte_i h29).2 h30
            by_cases h31 : bg s2 0 (bg s2 210 (bg s2 10 (bg s2 50 a0 0) a1) 0) 0 = 17
            · have hq0 := (bte_i h29).1 h31
              exact r_callU hκ (index := 160) (C := "EditsMeet$Mark") (owner := "EditsMeet$Keep") (n' := 0) (w_X7_turns Γ0 l0 hq0) (fun R s args hts hRR => va_cwU 0 hts (lw_app (lw_l5 q936 q939 q940 q937 q139) (lw_meth q941)) rfl rfl rfl rfl (by decide +kernel) hRR) (t := 16) h31 rfl rfl (by decide) rfl (Nat.le_of_ble_eq_true rfl) dX0_says_117 k0
            replace h29 := (bte_i h29).2 h31
            cases h29
          refine r_goto hκ (tgt := 154) (by decide) dX0_says_120 ?_
          exact x_ret hκ hf (x_P h) (fun κ hκ hf => r_iret hκ hf (nar_int _) dX0_says_154)
        replace h := (bte_i h).2 h27
        by_cases h32 : b_t a2 = 4
        · replace h := (bte_i h).1 h32
          refine r_tswIn hκ (kk := 4) (tgt := 123) h32 (by decide) (by decide) rfl (by decide) dX0_says_45 ?_
          refine r_bipush hκ (by decide) dX0_says_123 ?_
          refine r_aload_n hκ 0 rfl rfl dX0_says_125 ?_
          obtain ⟨h33, h⟩ := bck_i h
          refine r_cast hκ q967 (Or.elim h33 (fun h33 => Or.inl h33) (fun h33 => Or.inr ⟨14, _, h33, rfl, Or.inl rfl⟩)) dX0_says_126 ?_
          obtain ⟨h34, h⟩ := bck_i h
          obtain ⟨s7, v7, h35, h⟩ := bcl_i h
          refine r_callU hκ (index := 165) (C := "EditsMeet$Delete") (owner := "EditsMeet$Over") (n' := 0) (w_X6_n Γ0 l0 h35) (fun R s args hts hRR => va_cwU 0 hts (lw_app (lw_l5 q968 q969 q971 q865 q138) (lw_meth q867)) rfl rfl rfl rfl (by decide +kernel) hRR) (t := 14) h34 rfl rfl (by decide) rfl (Nat.le_of_ble_eq_true rfl) dX0_says_129 ?_
          refine r_iadd hκ dX0_says_132 ?_
          refine r_goto hκ (tgt := 154) (by decide) dX0_says_133 ?_
          exact x_ret hκ hf (x_P h) (fun κ hκ hf => r_iret hκ hf (nar_int _) dX0_says_154)
        replace h := (bte_i h).2 h32
        refine r_tswOut hκ (tgt := 136) (by omega) (by decide) dX0_says_45 ?_
        refine r_bipush hκ (by decide) dX0_says_136 ?_
        refine r_aload_n hκ 0 rfl rfl dX0_says_138 ?_
        obtain ⟨h36, h⟩ := bck_i h
        refine r_cast hκ q972 (Or.elim h36 (fun h36 => Or.inl h36) (fun h36 => Or.inr ⟨16, _, h36, rfl, Or.inl rfl⟩)) dX0_says_139 ?_
        obtain ⟨h37, h⟩ := bck_i h
        obtain ⟨s8, v8, h38, h⟩ := bcl_i h
        refine r_callV hκ (n' := 0) (index := 168) (w_X18_on Γ0 l0 h38) (lw_V q973 q945 q3582 q166 q946) (by decide +kernel) (t := 16) h37 rfl rfl (by decide) rfl (Nat.le_of_ble_eq_true rfl) dX0_says_142 ?_
        refine r_imul hκ dX0_says_145 ?_
        refine r_aload_n hκ 0 rfl rfl dX0_says_146 ?_
        obtain ⟨h39, h⟩ := bck_i h
        refine r_cast hκ q972 (Or.elim h39 (fun h39 => Or.inl h39) (fun h39 => Or.inr ⟨16, _, h39, rfl, Or.inl rfl⟩)) dX0_says_147 ?_
        obtain ⟨h40, h⟩ := bck_i h
        obtain ⟨s9, v9, h41, h⟩ := bcl_i h
        refine r_callV hκ (n' := 0) (index := 171) (w_X18_off Γ0 l0 h41) (lw_V q974 q962 q3583 q166 q963) (by decide +kernel) (t := 16) h40 rfl rfl (by decide) rfl (Nat.le_of_ble_eq_true rfl) dX0_says_150 ?_
        refine r_iadd hκ dX0_says_153 ?_
        exact x_ret hκ hf (x_P h) (fun κ hκ hf => r_iret hκ hf (nar_int _) dX0_says_154)
      · replace h := (bte_i h).1 h9
        refine r_aload_n hκ 1 rfl rfl dX0_says_37 ?_
        refine r_bipush hκ (by decide) dX0_says_38 ?_
        obtain ⟨h42, h⟩ := bck_i h
        obtain ⟨s10, v10, h43, h⟩ := bcl_i h
        refine r_callV hκ (n' := 1) (index := 79) (w_X0_no Γ0 l0 h43) (lw_V q627 q629 qs2 q121 q630) (by decide +kernel) (t := 0) h42 rfl rfl (by decide) rfl (Nat.le_of_ble_eq_true rfl) dX0_says_40 ?_
        exact x_ret hκ hf (x_P h) (fun κ hκ hf => r_iret hκ hf (nar_int _) dX0_says_43)
    · replace h := (bte_i h).1 h4
      exact r_sub [0] rfl (w_X0_says_r hκ hi ht hf 0 _ _ h)
/-- EditsMeet.feed(I)I -/
def F_X0_feed (s0 : bS) (a0 a1 : Int) : Option (bS × Int) :=
  bcl (F_X0_isIn s0 a1 0 255) fun s1 v1 =>
  bte (i32 v1 = 0)
  (bck (bg s1 0 a0 0 = 1) <|
  bcl (F_X0_no s1 a0 (-2)) fun s5 v3 =>
  some (s5, v3))
  (bck (bg s1 0 a0 0 = 1) <|
  bte (i32 (bg s1 56 a0 0) = i32 250)
  (bck (bg s1 0 a0 0 = 1) <|
  bcl (F_X0_no s1 a0 (-6)) fun s4 v2 =>
  some (s4, v2))
  (bck (bg s1 0 a0 0 = 1) <|
  bck (bg s1 0 a0 0 = 1) <|
  bck (bg s1 0 (bg s1 54 a0 0) 0 = 1003 ∧ (0 : Int) ≤ (bg s1 56 a0 0) ∧ (bg s1 56 a0 0) < bg s1 4 (bg s1 54 a0 0) 0) <|
  bst (bw s1 20 (bg s1 54 a0 0) (bg s1 56 a0 0) a1) fun s2 =>
  bck (bg s2 0 a0 0 = 1) <|
  bck ((bg s2 0 a0 0 = 1)) <|
  bst (bw s2 56 a0 0 ((bg s2 56 a0 0) + 1)) fun s3 =>
  bck (bg s3 0 a0 0 = 1) <|
  some (s3, (bg s3 56 a0 0))))
set_option maxHeartbeats 4000000 in
set_option maxRecDepth 100000 in
theorem w_X0_feed (Γ0 : bG) (l0 : Launch) {s0 st' : bS} {v a0 a1 : Int} (h : F_X0_feed s0 a0 a1 = some (st', v)) : bCt Γ0 l0 yX0_feed cX0_feed 2 (some .int) 1 22 [(2, a0), (0, a1)] s0 st' (some (0, v)) := by
  refine b_ent (own := RX0) (by decide +kernel) rfl (Nat.le_of_ble_eq_true rfl) (L := [(0, (2, a0)), (1, (0, a1))]) rfl ?_
  intro κ hκ hi hf
  unfold F_X0_feed at h
  refine r_iload_n hκ 1 rfl rfl dX0_feed_0 ?_
  refine r_iconst hκ dX0_feed_1 ?_
  refine r_sipush hκ (by decide) dX0_feed_2 ?_
  obtain ⟨s1, v1, h1, h⟩ := bcl_i h
  refine r_callS hκ (n' := 3) (index := 45) (w_X0_isIn Γ0 l0 h1) (lw_S q624 q625 q121 q626) (by decide +kernel) rfl (by decide) rfl (Nat.le_of_ble_eq_true rfl) dX0_feed_5 ?_
  refine r_if_ne hκ (tgt := 18) (by decide) dX0_feed_8 (fun h2 => ?_) (fun h2 => ?_)
  · replace h := (bte_i h).2 h2
    refine r_aload_n hκ 0 rfl rfl dX0_feed_18 ?_
    obtain ⟨h3, h⟩ := bck_i h
    refine r_get hκ (t := 0) (k := 6) (r := 56) h3 rfl in_X0 (by decide) rfl q581 (Or.inl rfl) dX0_feed_19 ?_
    refine r_sipush hκ (by decide) dX0_feed_22 ?_
    refine r_icmp_ne hκ (tgt := 35) (by decide) dX0_feed_25 (fun h4 => ?_) (fun h4 => ?_)
    · replace h := (bte_i h).2 h4
      refine r_aload_n hκ 0 rfl rfl dX0_feed_35 ?_
      obtain ⟨h5, h⟩ := bck_i h
      refine r_get hκ (t := 0) (k := 5) (r := 54) h5 rfl in_X0 (by decide) rfl q579 (Or.inl rfl) dX0_feed_36 ?_
      refine r_aload_n hκ 0 rfl rfl dX0_feed_39 ?_
      obtain ⟨h6, h⟩ := bck_i h
      refine r_get hκ (t := 0) (k := 6) (r := 56) h6 rfl in_X0 (by decide) rfl q581 (Or.inl rfl) dX0_feed_40 ?_
      refine r_iload_n hκ 1 rfl rfl dX0_feed_43 ?_
      obtain ⟨⟨h7, h8⟩, h⟩ := bck_i h
      refine r_iast hκ h7 h8 dX0_feed_44 (fun s2 es2 => ?_)
      replace h := bst_i h s2 es2
      refine r_aload_n hκ 0 rfl rfl dX0_feed_45 ?_
      refine r_dup hκ (bd_cat2k _) dX0_feed_46 ?_
      obtain ⟨h9, h⟩ := bck_i h
      refine r_get hκ (t := 0) (k := 6) (r := 56) h9 rfl in_X0 (by decide) rfl q581 (Or.inl rfl) dX0_feed_47 ?_
      refine r_iconst hκ dX0_feed_50 ?_
      refine r_iadd hκ dX0_feed_51 ?_
      obtain ⟨h10, h⟩ := bck_i h
      refine r_put hκ (t := 0) (k := 6) (r := 56) (ty := .int) tyX0 tyX0_ok nmX0 h10 rfl in_X0 (by decide) rfl q581 (Or.inl rfl) rfl rfl rfl trivial (Or.inl (by decide)) dX0_feed_52 (fun s3 es3 => ?_)
      replace h := bst_i h s3 es3
      refine r_aload_n hκ 0 rfl rfl dX0_feed_55 ?_
      obtain ⟨h11, h⟩ := bck_i h
      refine r_get hκ (t := 0) (k := 6) (r := 56) h11 rfl in_X0 (by decide) rfl q581 (Or.inl rfl) dX0_feed_56 ?_
      exact r_iretH hκ hf h (nar_int _) dX0_feed_59
    · replace h := (bte_i h).1 h4
      refine r_aload_n hκ 0 rfl rfl dX0_feed_28 ?_
      refine r_bipush hκ (by decide) dX0_feed_29 ?_
      obtain ⟨h12, h⟩ := bck_i h
      obtain ⟨s4, v2, h13, h⟩ := bcl_i h
      refine r_callV hκ (n' := 1) (index := 79) (w_X0_no Γ0 l0 h13) (lw_V q627 q629 qs2 q121 q630) (by decide +kernel) (t := 0) h12 rfl rfl (by decide) rfl (Nat.le_of_ble_eq_true rfl) dX0_feed_31 ?_
      exact r_iretH hκ hf h (nar_int _) dX0_feed_34
  · replace h := (bte_i h).1 h2
    refine r_aload_n hκ 0 rfl rfl dX0_feed_11 ?_
    refine r_bipush hκ (by decide) dX0_feed_12 ?_
    obtain ⟨h14, h⟩ := bck_i h
    obtain ⟨s5, v3, h15, h⟩ := bcl_i h
    refine r_callV hκ (n' := 1) (index := 79) (w_X0_no Γ0 l0 h15) (lw_V q627 q629 qs2 q121 q630) (by decide +kernel) (t := 0) h14 rfl rfl (by decide) rfl (Nat.le_of_ble_eq_true rfl) dX0_feed_14 ?_
    exact r_iretH hκ hf h (nar_int _) dX0_feed_17
/-- EditsMeet.wipe()I -/
def F_X0_wipe (s0 : bS) (a0 : Int) : Option (bS × Int) :=
  bck (bg s0 0 a0 0 = 1) <|
  bck ((bg s0 0 a0 0 = 1)) <|
  bst (bw s0 56 a0 0 0) fun s1 =>
  some (s1, (bg s0 56 a0 0))
set_option maxHeartbeats 4000000 in
set_option maxRecDepth 100000 in
theorem w_X0_wipe (Γ0 : bG) (l0 : Launch) {s0 st' : bS} {v a0 : Int} (h : F_X0_wipe s0 a0 = some (st', v)) : bCt Γ0 l0 yX0_wipe cX0_wipe 2 (some .int) 0 0 [(2, a0)] s0 st' (some (0, v)) := by
  refine b_ent (own := RX0) (by decide +kernel) rfl (Nat.le_of_ble_eq_true rfl) (L := [(0, (2, a0))]) rfl ?_
  intro κ hκ hi hf
  unfold F_X0_wipe at h
  refine r_aload_n hκ 0 rfl rfl dX0_wipe_0 ?_
  obtain ⟨h1, h⟩ := bck_i h
  refine r_get hκ (t := 0) (k := 6) (r := 56) h1 rfl in_X0 (by decide) rfl q581 (Or.inl rfl) dX0_wipe_1 ?_
  refine r_istore_n hκ (L2 := [(1, (0, (bg s0 56 a0 0))), (0, (2, a0))]) (by decide) rfl rfl dX0_wipe_4 ?_
  refine r_aload_n hκ 1 rfl rfl dX0_wipe_5 ?_
  refine r_iconst hκ dX0_wipe_6 ?_
  obtain ⟨h2, h⟩ := bck_i h
  refine r_put hκ (t := 0) (k := 6) (r := 56) (ty := .int) tyX0 tyX0_ok nmX0 h2 rfl in_X0 (by decide) rfl q581 (Or.inl rfl) rfl rfl rfl trivial (Or.inl (by decide)) dX0_wipe_7 (fun s1 es1 => ?_)
  replace h := bst_i h s1 es1
  refine r_iload_n hκ 0 rfl rfl dX0_wipe_10 ?_
  exact r_iretH hκ hf h (nar_int _) dX0_wipe_11
/-- EditsMeet$Reader.<init>(LEditsMeet;)V -/
def F_X14_init (s0 : bS) (a0 a1 : Int) : Option (bS × Int) :=
  bck ((bg s0 0 a0 0 = 13)) <|
  bst (bw s0 378 a0 0 a1) fun s1 =>
  bck ((0 : Int) ≤ a0) <|
  some (s1, 0)
set_option maxHeartbeats 4000000 in
set_option maxRecDepth 100000 in
theorem w_X14_init (Γ0 : bG) (l0 : Launch) {s0 st' : bS} {v a0 a1 : Int} (h : F_X14_init s0 a0 a1 = some (st', v)) : bCt Γ0 l0 yX14_init cX14_init 2 none 1 20 [(2, a0), (2, a1)] s0 st' none := by
  refine b_ent (own := RX14) (by decide +kernel) rfl (Nat.le_of_ble_eq_true rfl) (L := [(0, (2, a0)), (1, (2, a1))]) rfl ?_
  intro κ hκ hi hf
  unfold F_X14_init at h
  refine r_aload_n hκ 0 rfl rfl dX14_init_0 ?_
  refine r_aload_n hκ 1 rfl rfl dX14_init_1 ?_
  obtain ⟨h1, h⟩ := bck_i h
  refine r_putF hκ (hi.init rfl) (t := 12) (k := 1) (r := 378) (ty := (.object "EditsMeet")) tyX14 tyX14_ok nmX14 h1 rfl in_X14 (by decide) rfl q995 rfl rfl rfl rfl rfl trivial (Or.inl (by decide)) dX14_init_2 (fun s1 es1 => ?_)
  replace h := bst_i h s1 es1
  refine r_aload_n hκ 0 rfl rfl dX14_init_5 ?_
  obtain ⟨h2, h⟩ := bck_i h
  refine r_oinit hκ h2 q993 q183 q184 (by decide) (Nat.le_of_ble_eq_true rfl) dX14_init_6 ?_
  exact r_vretH hκ hf h dX14_init_9
/-- EditsMeet$Reader.is(II)Z -/
def F_X14_is (s0 : bS) (a0 a1 a2 : Int) : Option (bS × Int) :=
  bck (bg s0 0 a0 0 = 13) <|
  bck (bg s0 0 a0 0 = 13) <|
  bck (bg s0 0 (bg s0 378 a0 0) 0 = 1) <|
  bte (i32 (bg s0 56 (bg s0 378 a0 0) 0) ≤ i32 (bg s0 372 a0 0))
  (some (s0, 0))
  (bck (bg s0 0 a0 0 = 13) <|
  bck (bg s0 0 (bg s0 378 a0 0) 0 = 1) <|
  bck (bg s0 0 a0 0 = 13) <|
  bck (bg s0 0 (bg s0 54 (bg s0 378 a0 0) 0) 0 = 1003 ∧ (0 : Int) ≤ (bg s0 372 a0 0) ∧ (bg s0 372 a0 0) < bg s0 4 (bg s0 54 (bg s0 378 a0 0) 0) 0) <|
  bte (i32 (bg s0 20 (bg s0 54 (bg s0 378 a0 0) 0) (bg s0 372 a0 0)) < i32 a1)
  (some (s0, 0))
  (bck (bg s0 0 a0 0 = 13) <|
  bck (bg s0 0 (bg s0 378 a0 0) 0 = 1) <|
  bck (bg s0 0 a0 0 = 13) <|
  bck (bg s0 0 (bg s0 54 (bg s0 378 a0 0) 0) 0 = 1003 ∧ (0 : Int) ≤ (bg s0 372 a0 0) ∧ (bg s0 372 a0 0) < bg s0 4 (bg s0 54 (bg s0 378 a0 0) 0) 0) <|
  bte (i32 a2 < i32 (bg s0 20 (bg s0 54 (bg s0 378 a0 0) 0) (bg s0 372 a0 0)))
  (some (s0, 0))
  (some (s0, 1))))
set_option maxHeartbeats 4000000 in
set_option maxRecDepth 100000 in
theorem w_X14_is (Γ0 : bG) (l0 : Launch) {s0 st' : bS} {v a0 a1 a2 : Int} (h : F_X14_is s0 a0 a1 a2 = some (st', v)) : bCt Γ0 l0 yX14_is cX14_is 3 (some .boolean) 0 0 [(2, a0), (0, a1), (0, a2)] s0 st' (some (0, v)) := by
  refine b_ent (own := RX14) (by decide +kernel) rfl (Nat.le_of_ble_eq_true rfl) (L := [(0, (2, a0)), (1, (0, a1)), (2, (0, a2))]) rfl ?_
  intro κ hκ hi hf
  unfold F_X14_is at h
  refine r_aload_n hκ 0 rfl rfl dX14_is_0 ?_
  obtain ⟨h1, h⟩ := bck_i h
  refine r_get hκ (t := 12) (k := 0) (r := 372) h1 rfl in_X14 (by decide) rfl q994 (Or.inl rfl) dX14_is_1 ?_
  refine r_aload_n hκ 0 rfl rfl dX14_is_4 ?_
  obtain ⟨h2, h⟩ := bck_i h
  refine r_get hκ (t := 12) (k := 1) (r := 378) h2 rfl in_X14 (by decide) rfl q995 (Or.inl rfl) dX14_is_5 ?_
  obtain ⟨h3, h⟩ := bck_i h
  refine r_getN hκ (ref := "EditsMeet") (host := "EditsMeet") (t := 0) (k := 6) (r := 56) h3 rfl in_X0 (by decide) rfl (by decide) rfl dX14_is_8 ?_
  refine r_icmp_ge hκ (tgt := 50) (by decide) dX14_is_11 (fun h4 => ?_) (fun h4 => ?_)
  · replace h := (bte_i h).1 h4
    refine r_iconst hκ dX14_is_50 ?_
    exact r_iretH hκ hf h (nar_bool (by decide)) dX14_is_51
  · replace h := (bte_i h).2 h4
    refine r_aload_n hκ 0 rfl rfl dX14_is_14 ?_
    obtain ⟨h5, h⟩ := bck_i h
    refine r_get hκ (t := 12) (k := 1) (r := 378) h5 rfl in_X14 (by decide) rfl q995 (Or.inl rfl) dX14_is_15 ?_
    obtain ⟨h6, h⟩ := bck_i h
    refine r_getN hκ (ref := "EditsMeet") (host := "EditsMeet") (t := 0) (k := 5) (r := 54) h6 rfl in_X0 (by decide) rfl (by decide) rfl dX14_is_18 ?_
    refine r_aload_n hκ 0 rfl rfl dX14_is_21 ?_
    obtain ⟨h7, h⟩ := bck_i h
    refine r_get hκ (t := 12) (k := 0) (r := 372) h7 rfl in_X14 (by decide) rfl q994 (Or.inl rfl) dX14_is_22 ?_
    obtain ⟨⟨h8, h9⟩, h⟩ := bck_i h
    refine r_iald hκ h8 h9 dX14_is_25 ?_
    refine r_iload_n hκ 1 rfl rfl dX14_is_26 ?_
    refine r_icmp_lt hκ (tgt := 50) (by decide) dX14_is_27 (fun h10 => ?_) (fun h10 => ?_)
    · replace h := (bte_i h).1 h10
      refine r_iconst hκ dX14_is_50 ?_
      exact r_iretH hκ hf h (nar_bool (by decide)) dX14_is_51
    · replace h := (bte_i h).2 h10
      refine r_aload_n hκ 0 rfl rfl dX14_is_30 ?_
      obtain ⟨h11, h⟩ := bck_i h
      refine r_get hκ (t := 12) (k := 1) (r := 378) h11 rfl in_X14 (by decide) rfl q995 (Or.inl rfl) dX14_is_31 ?_
      obtain ⟨h12, h⟩ := bck_i h
      refine r_getN hκ (ref := "EditsMeet") (host := "EditsMeet") (t := 0) (k := 5) (r := 54) h12 rfl in_X0 (by decide) rfl (by decide) rfl dX14_is_34 ?_
      refine r_aload_n hκ 0 rfl rfl dX14_is_37 ?_
      obtain ⟨h13, h⟩ := bck_i h
      refine r_get hκ (t := 12) (k := 0) (r := 372) h13 rfl in_X14 (by decide) rfl q994 (Or.inl rfl) dX14_is_38 ?_
      obtain ⟨⟨h14, h15⟩, h⟩ := bck_i h
      refine r_iald hκ h14 h15 dX14_is_41 ?_
      refine r_iload_n hκ 2 rfl rfl dX14_is_42 ?_
      refine r_icmp_gt hκ (tgt := 50) (by decide) dX14_is_43 (fun h16 => ?_) (fun h16 => ?_)
      · replace h := (bte_i h).1 h16
        refine r_iconst hκ dX14_is_50 ?_
        exact r_iretH hκ hf h (nar_bool (by decide)) dX14_is_51
      · replace h := (bte_i h).2 h16
        refine r_iconst hκ dX14_is_46 ?_
        refine r_goto hκ (tgt := 51) (by decide) dX14_is_47 ?_
        exact r_iretH hκ hf h (nar_bool (by decide)) dX14_is_51
/-- EditsMeet$Reader.wrong(I)LEditsMeet$Fault; -/
def F_X14_wrong (s0 : bS) (a0 a1 : Int) : Option (bS × Int) :=
  bck (bc s0 + 1 ≤ bCM ∧ bk s0 + 7 ≤ bKM) <|
  bst (bnw s0 14 0 7) fun s1 =>
  bck (bg s1 0 (bnx s0 : Int) 0 = 14) <|
  bcl (F_X15_init s1 (bnx s0 : Int) a1) fun s2 v1 =>
  some (s2, (bnx s0 : Int))
set_option maxHeartbeats 4000000 in
set_option maxRecDepth 100000 in
theorem w_X14_wrong (Γ0 : bG) (l0 : Launch) {s0 st' : bS} {v a0 a1 : Int} (h : F_X14_wrong s0 a0 a1 = some (st', v)) : bCt Γ0 l0 yX14_wrong cX14_wrong 2 (some (.object "EditsMeet$Fault")) 4 89 [(2, a0), (0, a1)] s0 st' (some (2, v)) := by
  refine b_ent (own := RX14) (by decide +kernel) rfl (Nat.le_of_ble_eq_true rfl) (L := [(0, (2, a0)), (1, (0, a1))]) rfl ?_
  intro κ hκ hi hf
  unfold F_X14_wrong at h
  obtain ⟨h1, h⟩ := bck_i h
  refine r_new hκ (t := 13) tyX15 tyX15_ok dfX15 rfl in_X15 q1255 q1256 q163 h1 dX14_wrong_0 (fun s1 es1 => ?_)
  replace h := bst_i h s1 es1
  refine r_dup hκ (bd_cat2k _) dX14_wrong_3 ?_
  refine r_iload_n hκ 1 rfl rfl dX14_wrong_4 ?_
  obtain ⟨h2, h⟩ := bck_i h
  obtain ⟨s2, v1, h3, h⟩ := bcl_i h
  refine r_callI hκ (n' := 1) (index := 28) (w_X15_init Γ0 l0 h3) (lw_meth q1266) q163 q1264 q1265 rfl (by decide +kernel) (t := 13) h2 rfl rfl (by decide) rfl (Nat.le_of_ble_eq_true rfl) dX14_wrong_5 ?_
  exact r_aretH hκ hf h rt_o dX14_wrong_8
/-- EditsMeet$Reader.number(I)I -/
def F_X14_number_r (b : Nat) (x0 x1 x2 x3 : Int) (s0 : bS) : Option (bS × Int × Int) :=
  match b with
  | 0 =>
    bck (bg s0 0 x0 0 = 13) <|
    bcl (F_X14_is s0 x0 48 57) fun s1 v1 =>
    bte (i32 v1 = 0)
    (F_X14_number_r 1 x0 x1 x2 x3 s1)
    (bck (bg s1 0 x0 0 = 13) <|
    bte (i32 2 ≤ i32 ((bg s1 372 x0 0) - x2))
    (F_X14_number_r 1 x0 x1 x2 x3 s1)
    (bck (bg s1 0 x0 0 = 13) <|
    bck (bg s1 0 (bg s1 378 x0 0) 0 = 1) <|
    bck (bg s1 0 x0 0 = 13) <|
    bck (bg s1 0 (bg s1 54 (bg s1 378 x0 0) 0) 0 = 1003 ∧ (0 : Int) ≤ (bg s1 372 x0 0) ∧ (bg s1 372 x0 0) < bg s1 4 (bg s1 54 (bg s1 378 x0 0) 0) 0) <|
    bvl ((((10 * x3) + (bg s1 20 (bg s1 54 (bg s1 378 x0 0) 0) (bg s1 372 x0 0))) - 48)) fun t1 =>
    bck (bg s1 0 x0 0 = 13) <|
    bck ((bg s1 0 x0 0 = 13)) <|
    bst (bw s1 372 x0 0 ((bg s1 372 x0 0) + 1)) fun s2 =>
    F_X14_number_r 0 x0 x1 x2 t1 s2))
  | 1 =>
    bck (bg s0 0 x0 0 = 13) <|
    bte (i32 (bg s0 372 x0 0) = i32 x2)
    (F_X14_number_r 2 x0 x2 0 0 s0)
    (bte (i32 x3 < i32 1)
    (F_X14_number_r 2 x0 x2 0 0 s0)
    (bte (i32 x3 ≤ i32 x1)
    (some (s0, x3, -1))
    (F_X14_number_r 2 x0 x2 0 0 s0)))
  | 2 =>
    bck (bg s0 0 x0 0 = 13) <|
    bcl (F_X14_wrong s0 x0 x1) fun s3 v2 =>
    bck (bg s3 0 v2 0 = 14) <|
    some (s3, v2, 1)
  | _ => none
partial_fixpoint
def F_X14_number (s0 : bS) (a0 a1 : Int) : Option (bS × Int × Int) :=
  bck (bg s0 0 a0 0 = 13) <|
  F_X14_number_r 0 a0 a1 (bg s0 372 a0 0) 0 s0
set_option maxHeartbeats 4000000 in
set_option maxRecDepth 100000 in
set_option synthInstance.maxHeartbeats 4000000 in
theorem w_X14_number_r {Γ0 : bG} {l0 : Launch} {κ : bK} {st' : bS} {v xx : Int} (hκ : bOk κ Γ0 l0 cX14_number RX14 4 5 110) (hi : bIn κ yX14_number) (ht : xTab κ []) (hf : xFin κ (some .int) (some 0) (bEq st' v xx)) (b : Nat) (x0 x1 x2 x3 : Int) (s0 : bS) (h : F_X14_number_r b x0 x1 x2 x3 s0 = some (st', v, xx)) : match (generalizing := false) b with | 0 => bJ κ s0 7 [(0, (2, x0)), (1, (0, x1)), (2, (0, x2)), (3, (0, x3))] [] | 1 => bJ κ s0 62 [(0, (2, x0)), (1, (0, x1)), (2, (0, x2)), (3, (0, x3))] [] | 2 => bJ κ s0 80 [(0, (2, x0)), (2, (0, x1))] [] | _ => True := by
  refine F_X14_number_r.partial_correctness x0 (fun b x1 x2 x3 s0 r => r = (st', v, xx) → match (generalizing := false) b with | 0 => bJ κ s0 7 [(0, (2, x0)), (1, (0, x1)), (2, (0, x2)), (3, (0, x3))] [] | 1 => bJ κ s0 62 [(0, (2, x0)), (1, (0, x1)), (2, (0, x2)), (3, (0, x3))] [] | 2 => bJ κ s0 80 [(0, (2, x0)), (2, (0, x1))] [] | _ => True) ?_ b x1 x2 x3 s0 _ h rfl
  intro f' ih b x1 x2 x3 s0 r h hr
  subst hr
  match b, h with
  | 0, h =>
      refine r_aload_n hκ 0 rfl rfl dX14_number_7 ?_
      refine r_bipush hκ (by decide) dX14_number_8 ?_
      refine r_bipush hκ (by decide) dX14_number_10 ?_
      obtain ⟨h2, h⟩ := bck_i h
      obtain ⟨s1, v1, h3, h⟩ := bcl_i h
      refine r_callV hκ (n' := 2) (index := 31) (w_X14_is Γ0 l0 h3) (lw_V q1247 q1249 qs9 q159 q1250) (by decide +kernel) (t := 12) h2 rfl rfl (by decide) rfl (Nat.le_of_ble_eq_true rfl) dX14_number_12 ?_
      refine r_if_eq hκ (tgt := 62) (by decide) dX14_number_15 (fun h4 => ?_) (fun h4 => ?_)
      · replace h := (bte_i h).1 h4
        exact r_sub [0, 1, 2, 3] rfl (ih 1 _ _ _ _ _ h rfl)
      · replace h := (bte_i h).2 h4
        refine r_aload_n hκ 0 rfl rfl dX14_number_18 ?_
        obtain ⟨h5, h⟩ := bck_i h
        refine r_get hκ (t := 12) (k := 0) (r := 372) h5 rfl in_X14 (by decide) rfl q994 (Or.inl rfl) dX14_number_19 ?_
        refine r_iload_n hκ 2 rfl rfl dX14_number_22 ?_
        refine r_isub hκ dX14_number_23 ?_
        refine r_iconst hκ dX14_number_24 ?_
        refine r_icmp_ge hκ (tgt := 62) (by decide) dX14_number_25 (fun h6 => ?_) (fun h6 => ?_)
        · replace h := (bte_i h).1 h6
          exact r_sub [0, 1, 2, 3] rfl (ih 1 _ _ _ _ _ h rfl)
        · replace h := (bte_i h).2 h6
          refine r_bipush hκ (by decide) dX14_number_28 ?_
          refine r_iload_n hκ 3 rfl rfl dX14_number_30 ?_
          refine r_imul hκ dX14_number_31 ?_
          refine r_aload_n hκ 0 rfl rfl dX14_number_32 ?_
          obtain ⟨h7, h⟩ := bck_i h
          refine r_get hκ (t := 12) (k := 1) (r := 378) h7 rfl in_X14 (by decide) rfl q995 (Or.inl rfl) dX14_number_33 ?_
          obtain ⟨h8, h⟩ := bck_i h
          refine r_getN hκ (ref := "EditsMeet") (host := "EditsMeet") (t := 0) (k := 5) (r := 54) h8 rfl in_X0 (by decide) rfl (by decide) rfl dX14_number_36 ?_
          refine r_aload_n hκ 0 rfl rfl dX14_number_39 ?_
          obtain ⟨h9, h⟩ := bck_i h
          refine r_get hκ (t := 12) (k := 0) (r := 372) h9 rfl in_X14 (by decide) rfl q994 (Or.inl rfl) dX14_number_40 ?_
          obtain ⟨⟨h10, h11⟩, h⟩ := bck_i h
          refine r_iald hκ h10 h11 dX14_number_43 ?_
          refine r_iadd hκ dX14_number_44 ?_
          refine r_bipush hκ (by decide) dX14_number_45 ?_
          refine r_isub hκ dX14_number_47 ?_
          refine r_nm (fun t1 et1 => ?_)
          replace h := bvl_i h t1 et1
          refine r_istore_n hκ (L2 := [(3, (0, t1)), (0, (2, x0)), (1, (0, x1)), (2, (0, x2))]) (by decide) rfl rfl dX14_number_48 ?_
          refine r_aload_n hκ 1 rfl rfl dX14_number_49 ?_
          refine r_dup hκ (bd_cat2k _) dX14_number_50 ?_
          obtain ⟨h12, h⟩ := bck_i h
          refine r_get hκ (t := 12) (k := 0) (r := 372) h12 rfl in_X14 (by decide) rfl q994 (Or.inl rfl) dX14_number_51 ?_
          refine r_iconst hκ dX14_number_54 ?_
          refine r_iadd hκ dX14_number_55 ?_
          obtain ⟨h13, h⟩ := bck_i h
          refine r_put hκ (t := 12) (k := 0) (r := 372) (ty := .int) tyX14 tyX14_ok nmX14 h13 rfl in_X14 (by decide) rfl q994 (Or.inl rfl) rfl rfl rfl trivial (Or.inl (by decide)) dX14_number_56 (fun s2 es2 => ?_)
          replace h := bst_i h s2 es2
          refine r_goto hκ (tgt := 7) (by decide) dX14_number_59 ?_
          exact r_sub [1, 2, 3, 0] rfl (ih 0 _ _ _ _ _ h rfl)
  | 1, h =>
      refine r_aload_n hκ 0 rfl rfl dX14_number_62 ?_
      obtain ⟨h14, h⟩ := bck_i h
      refine r_get hκ (t := 12) (k := 0) (r := 372) h14 rfl in_X14 (by decide) rfl q994 (Or.inl rfl) dX14_number_63 ?_
      refine r_iload_n hκ 2 rfl rfl dX14_number_66 ?_
      refine r_icmp_eq hκ (tgt := 80) (by decide) dX14_number_67 (fun h15 => ?_) (fun h15 => ?_)
      · replace h := (bte_i h).1 h15
        exact r_sub [0, 2] rfl (ih 2 _ _ _ _ _ h rfl)
      · replace h := (bte_i h).2 h15
        refine r_iload_n hκ 3 rfl rfl dX14_number_70 ?_
        refine r_iconst hκ dX14_number_71 ?_
        refine r_icmp_lt hκ (tgt := 80) (by decide) dX14_number_72 (fun h16 => ?_) (fun h16 => ?_)
        · replace h := (bte_i h).1 h16
          exact r_sub [0, 2] rfl (ih 2 _ _ _ _ _ h rfl)
        · replace h := (bte_i h).2 h16
          refine r_iload_n hκ 3 rfl rfl dX14_number_75 ?_
          refine r_iload_n hκ 1 rfl rfl dX14_number_76 ?_
          refine r_icmp_le hκ (tgt := 86) (by decide) dX14_number_77 (fun h17 => ?_) (fun h17 => ?_)
          · replace h := (bte_i h).1 h17
            refine r_iload_n hκ 3 rfl rfl dX14_number_86 ?_
            exact x_ret hκ hf (x_P h) (fun κ hκ hf => r_iret hκ hf (nar_int _) dX14_number_87)
          · replace h := (bte_i h).2 h17
            exact r_sub [0, 2] rfl (ih 2 _ _ _ _ _ h rfl)
  | 2, h =>
      refine r_aload_n hκ 0 rfl rfl dX14_number_80 ?_
      refine r_iload_n hκ 1 rfl rfl dX14_number_81 ?_
      obtain ⟨h18, h⟩ := bck_i h
      obtain ⟨s3, v2, h19, h⟩ := bcl_i h
      refine r_callV hκ (n' := 1) (index := 35) (w_X14_wrong Γ0 l0 h19) (lw_V q1251 q1253 qs10 q159 q1254) (by decide +kernel) (t := 12) h18 rfl rfl (by decide) rfl (Nat.le_of_ble_eq_true rfl) dX14_number_82 ?_
      obtain ⟨h20, h⟩ := bck_i h
      refine r_athrow hκ (t := 13) (jn := 1) h20 rfl rfl dX14_number_85 ?_
      exact r_xout hκ ht hf (by decide) (x_P h)
  | b + 3, h => trivial
set_option maxHeartbeats 4000000 in
set_option maxRecDepth 100000 in
theorem w_X14_number (Γ0 : bG) (l0 : Launch) {s0 st' : bS} {v xx a0 a1 : Int} (h : F_X14_number s0 a0 a1 = some (st', v, xx)) : bCx Γ0 l0 yX14_number (ws_ yX14_number cX14_number 4 (some .int)) 5 110 (some 0) [(2, a0), (0, a1)] s0 (bEq st' v xx) := by
  refine xb_ent (own := RX14) (by decide +kernel) rfl (Nat.le_of_ble_eq_true rfl) (L := [(0, (2, a0)), (1, (0, a1))]) rfl ?_
  intro κ hκ hi ht hf
  unfold F_X14_number at h
  refine r_aload_n hκ 0 rfl rfl dX14_number_0 ?_
  obtain ⟨h1, h⟩ := bck_i h
  refine r_get hκ (t := 12) (k := 0) (r := 372) h1 rfl in_X14 (by decide) rfl q994 (Or.inl rfl) dX14_number_1 ?_
  refine r_istore_n hκ (L2 := [(2, (0, (bg s0 372 a0 0))), (0, (2, a0)), (1, (0, a1))]) (by decide) rfl rfl dX14_number_4 ?_
  refine r_iconst hκ dX14_number_5 ?_
  refine r_istore_n hκ (L2 := [(3, (0, 0)), (2, (0, (bg s0 372 a0 0))), (0, (2, a0)), (1, (0, a1))]) (by decide) rfl rfl dX14_number_6 ?_
  exact r_sub [2, 3, 1, 0] rfl (w_X14_number_r hκ hi ht hf 0 _ _ _ _ _ h)
/-- EditsMeet$Reader.letters()Ljava/lang/String; -/
def F_X14_letters_r (b : Nat) (x0 x1 : Int) (s0 : bS) : Option (bS × Int × Int) :=
  match b with
  | 0 =>
    bck (bg s0 0 x0 0 = 13) <|
    bcl (F_X14_is s0 x0 97 122) fun s3 v2 =>
    bte (i32 v2 = 0)
    (bck (bg s3 0 x1 0 = 19) <|
    bcl (F_J1_length s3 x1) fun s4 v3 =>
    bte (i32 v3 = 0)
    (bck (bg s4 0 x0 0 = 13) <|
    bck (bg s4 0 x0 0 = 13) <|
    bcl (F_X14_wrong s4 x0 (bg s4 372 x0 0)) fun s6 v5 =>
    bck (bg s6 0 v5 0 = 14) <|
    some (s6, v5, 1))
    (bck (bg s4 0 x1 0 = 19) <|
    bcl (F_J1_toString s4 x1) fun s5 v4 =>
    some (s5, v4, -1)))
    (bck (bg s3 0 x0 0 = 13) <|
    bck (bg s3 0 (bg s3 378 x0 0) 0 = 1) <|
    bck (bg s3 0 x0 0 = 13) <|
    bck (bg s3 0 (bg s3 54 (bg s3 378 x0 0) 0) 0 = 1003 ∧ (0 : Int) ≤ (bg s3 372 x0 0) ∧ (bg s3 372 x0 0) < bg s3 4 (bg s3 54 (bg s3 378 x0 0) 0) 0) <|
    bck (bg s3 0 x1 0 = 19) <|
    bcl (F_J1_append_2 s3 x1 (b_i2c (bg s3 20 (bg s3 54 (bg s3 378 x0 0) 0) (bg s3 372 x0 0)))) fun s7 v6 =>
    bck (bg s7 0 x0 0 = 13) <|
    bck ((bg s7 0 x0 0 = 13)) <|
    bst (bw s7 372 x0 0 ((bg s7 372 x0 0) + 1)) fun s8 =>
    F_X14_letters_r 0 x0 x1 s8)
  | _ => none
partial_fixpoint
def F_X14_letters (s0 : bS) (a0 : Int) : Option (bS × Int × Int) :=
  bck (bc s0 + 1 ≤ bCM ∧ bk s0 + 4 ≤ bKM) <|
  bst (bnw s0 19 0 4) fun s1 =>
  bck (bg s1 0 (bnx s0 : Int) 0 = 19) <|
  bcl (F_J1_init s1 (bnx s0 : Int)) fun s2 v1 =>
  F_X14_letters_r 0 a0 (bnx s0 : Int) s2
set_option maxHeartbeats 4000000 in
set_option maxRecDepth 100000 in
set_option synthInstance.maxHeartbeats 4000000 in
theorem w_X14_letters_r {Γ0 : bG} {l0 : Launch} {κ : bK} {st' : bS} {v xx : Int} (hκ : bOk κ Γ0 l0 cX14_letters RX14 2 6 151) (hi : bIn κ yX14_letters) (ht : xTab κ []) (hf : xFin κ (some (.object "java/lang/String")) (some 2) (bEq st' v xx)) (b : Nat) (x0 x1 : Int) (s0 : bS) (h : F_X14_letters_r b x0 x1 s0 = some (st', v, xx)) : match (generalizing := false) b with | 0 => bJ κ s0 8 [(0, (2, x0)), (1, (2, x1))] [] | _ => True := by
  refine F_X14_letters_r.partial_correctness x0 x1 (fun b s0 r => r = (st', v, xx) → match (generalizing := false) b with | 0 => bJ κ s0 8 [(0, (2, x0)), (1, (2, x1))] [] | _ => True) ?_ b s0 _ h rfl
  intro f' ih b s0 r h hr
  subst hr
  match b, h with
  | 0, h =>
      refine r_aload_n hκ 0 rfl rfl dX14_letters_8 ?_
      refine r_bipush hκ (by decide) dX14_letters_9 ?_
      refine r_bipush hκ (by decide) dX14_letters_11 ?_
      obtain ⟨h4, h⟩ := bck_i h
      obtain ⟨s3, v2, h5, h⟩ := bcl_i h
      refine r_callV hκ (n' := 2) (index := 31) (w_X14_is Γ0 l0 h5) (lw_V q1247 q1249 qs9 q159 q1250) (by decide +kernel) (t := 12) h4 rfl rfl (by decide) rfl (Nat.le_of_ble_eq_true rfl) dX14_letters_13 ?_
      refine r_if_eq hκ (tgt := 50) (by decide) dX14_letters_16 (fun h6 => ?_) (fun h6 => ?_)
      · replace h := (bte_i h).1 h6
        refine r_aload_n hκ 1 rfl rfl dX14_letters_50 ?_
        obtain ⟨h7, h⟩ := bck_i h
        obtain ⟨s4, v3, h8, h⟩ := bcl_i h
        refine r_callV hκ (n' := 0) (index := 46) (w_J1_length Γ0 l0 h8) (lw_V q1289 q1147 q3592 q125 q1148) (by decide +kernel) (t := 18) h7 rfl rfl (by decide) rfl (Nat.le_of_ble_eq_true rfl) dX14_letters_51 ?_
        refine r_if_ne hκ (tgt := 66) (by decide) dX14_letters_54 (fun h9 => ?_) (fun h9 => ?_)
        · replace h := (bte_i h).2 h9
          refine r_aload_n hκ 1 rfl rfl dX14_letters_66 ?_
          obtain ⟨h10, h⟩ := bck_i h
          obtain ⟨s5, v4, h11, h⟩ := bcl_i h
          refine r_callV hκ (n' := 0) (index := 50) (w_J1_toString Γ0 l0 h11) (lw_V q1126 q1127 q1128 q125 q1129) (by decide +kernel) (t := 18) h10 rfl rfl (by decide) rfl (Nat.le_of_ble_eq_true rfl) dX14_letters_67 ?_
          exact x_ret hκ hf (x_P h) (fun κ hκ hf => r_aret hκ hf rt_o dX14_letters_70)
        · replace h := (bte_i h).1 h9
          refine r_aload_n hκ 0 rfl rfl dX14_letters_57 ?_
          refine r_aload_n hκ 0 rfl rfl dX14_letters_58 ?_
          obtain ⟨h12, h⟩ := bck_i h
          refine r_get hκ (t := 12) (k := 0) (r := 372) h12 rfl in_X14 (by decide) rfl q994 (Or.inl rfl) dX14_letters_59 ?_
          obtain ⟨h13, h⟩ := bck_i h
          obtain ⟨s6, v5, h14, h⟩ := bcl_i h
          refine r_callV hκ (n' := 1) (index := 35) (w_X14_wrong Γ0 l0 h14) (lw_V q1251 q1253 qs10 q159 q1254) (by decide +kernel) (t := 12) h13 rfl rfl (by decide) rfl (Nat.le_of_ble_eq_true rfl) dX14_letters_62 ?_
          obtain ⟨h15, h⟩ := bck_i h
          refine r_athrow hκ (t := 13) (jn := 1) h15 rfl rfl dX14_letters_65 ?_
          exact r_xout hκ ht hf (by decide) (x_P h)
      · replace h := (bte_i h).2 h6
        refine r_aload_n hκ 1 rfl rfl dX14_letters_19 ?_
        refine r_aload_n hκ 0 rfl rfl dX14_letters_20 ?_
        obtain ⟨h16, h⟩ := bck_i h
        refine r_get hκ (t := 12) (k := 1) (r := 378) h16 rfl in_X14 (by decide) rfl q995 (Or.inl rfl) dX14_letters_21 ?_
        obtain ⟨h17, h⟩ := bck_i h
        refine r_getN hκ (ref := "EditsMeet") (host := "EditsMeet") (t := 0) (k := 5) (r := 54) h17 rfl in_X0 (by decide) rfl (by decide) rfl dX14_letters_24 ?_
        refine r_aload_n hκ 0 rfl rfl dX14_letters_27 ?_
        obtain ⟨h18, h⟩ := bck_i h
        refine r_get hκ (t := 12) (k := 0) (r := 372) h18 rfl in_X14 (by decide) rfl q994 (Or.inl rfl) dX14_letters_28 ?_
        obtain ⟨⟨h19, h20⟩, h⟩ := bck_i h
        refine r_iald hκ h19 h20 dX14_letters_31 ?_
        refine r_i2c hκ dX14_letters_32 ?_
        obtain ⟨h21, h⟩ := bck_i h
        obtain ⟨s7, v6, h22, h⟩ := bcl_i h
        refine r_callV hκ (n' := 1) (index := 42) (w_J1_append_2 Γ0 l0 h22) (lw_V q1113 q1114 q1115 q125 q1116) (by decide +kernel) (t := 18) h21 rfl rfl (by decide) rfl (Nat.le_of_ble_eq_true rfl) dX14_letters_33 ?_
        refine r_pop hκ (bd_cat2k _) dX14_letters_36 ?_
        refine r_aload_n hκ 0 rfl rfl dX14_letters_37 ?_
        refine r_dup hκ (bd_cat2k _) dX14_letters_38 ?_
        obtain ⟨h23, h⟩ := bck_i h
        refine r_get hκ (t := 12) (k := 0) (r := 372) h23 rfl in_X14 (by decide) rfl q994 (Or.inl rfl) dX14_letters_39 ?_
        refine r_iconst hκ dX14_letters_42 ?_
        refine r_iadd hκ dX14_letters_43 ?_
        obtain ⟨h24, h⟩ := bck_i h
        refine r_put hκ (t := 12) (k := 0) (r := 372) (ty := .int) tyX14 tyX14_ok nmX14 h24 rfl in_X14 (by decide) rfl q994 (Or.inl rfl) rfl rfl rfl trivial (Or.inl (by decide)) dX14_letters_44 (fun s8 es8 => ?_)
        replace h := bst_i h s8 es8
        refine r_goto hκ (tgt := 8) (by decide) dX14_letters_47 ?_
        exact r_sub [0, 1] rfl (ih 0  _ _ h rfl)
  | b + 1, h => trivial
set_option maxHeartbeats 4000000 in
set_option maxRecDepth 100000 in
theorem w_X14_letters (Γ0 : bG) (l0 : Launch) {s0 st' : bS} {v xx a0 : Int} (h : F_X14_letters s0 a0 = some (st', v, xx)) : bCx Γ0 l0 yX14_letters (ws_ yX14_letters cX14_letters 2 (some (.object "java/lang/String"))) 6 151 (some 2) [(2, a0)] s0 (bEq st' v xx) := by
  refine xb_ent (own := RX14) (by decide +kernel) rfl (Nat.le_of_ble_eq_true rfl) (L := [(0, (2, a0))]) rfl ?_
  intro κ hκ hi ht hf
  unfold F_X14_letters at h
  obtain ⟨h1, h⟩ := bck_i h
  refine r_new hκ (t := 18) tyJ1 tyJ1_ok dfJ1 rfl in_J1 q1011 q200 q125 h1 dX14_letters_0 (fun s1 es1 => ?_)
  replace h := bst_i h s1 es1
  refine r_dup hκ (bd_cat2k _) dX14_letters_3 ?_
  obtain ⟨h2, h⟩ := bck_i h
  obtain ⟨s2, v1, h3, h⟩ := bcl_i h
  refine r_callI hκ (n' := 0) (index := 41) (w_J1_init Γ0 l0 h3) (lw_meth q203) q125 q1012 q202 rfl (by decide +kernel) (t := 18) h2 rfl rfl (by decide) rfl (Nat.le_of_ble_eq_true rfl) dX14_letters_4 ?_
  refine r_astore_n hκ (L2 := [(1, (2, (bnx s0 : Int))), (0, (2, a0))]) (by decide) rfl rfl dX14_letters_7 ?_
  exact r_sub [1, 0] rfl (w_X14_letters_r hκ hi ht hf 0 _ _ _ h)
/-- EditsMeet$Reader.none(I)Ljava/lang/String; -/
def F_X14_none_r (b : Nat) (x0 x1 x2 : Int) (s0 : bS) : Option (bS × Int) :=
  match b with
  | 0 =>
    bte (i32 x0 ≤ i32 x2)
    (bck (bg s0 0 x1 0 = 19) <|
    bcl (F_J1_toString s0 x1) fun s3 v2 =>
    some (s3, v2))
    (bck (bg s0 0 x1 0 = 19) <|
    bcl (F_J1_append_2 s0 x1 0) fun s4 v3 =>
    F_X14_none_r 0 x0 x1 (x2 + 1) s4)
  | _ => none
partial_fixpoint
def F_X14_none (s0 : bS) (a0 a1 : Int) : Option (bS × Int) :=
  bck (bc s0 + 1 ≤ bCM ∧ bk s0 + 4 ≤ bKM) <|
  bst (bnw s0 19 0 4) fun s1 =>
  bck (bg s1 0 (bnx s0 : Int) 0 = 19) <|
  bcl (F_J1_init s1 (bnx s0 : Int)) fun s2 v1 =>
  F_X14_none_r 0 a1 (bnx s0 : Int) 0 s2
set_option maxHeartbeats 4000000 in
set_option maxRecDepth 100000 in
set_option synthInstance.maxHeartbeats 4000000 in
theorem w_X14_none_r {Γ0 : bG} {l0 : Launch} {κ : bK} {st' : bS} {v : Int} (hκ : bOk κ Γ0 l0 cX14_none RX14 4 6 151) (hi : bIn κ yX14_none) (hf : bFin κ (some (.object "java/lang/String")) st' (some (2, v))) (b : Nat) (x0 x1 x2 : Int) (s0 : bS) (h : F_X14_none_r b x0 x1 x2 s0 = some (st', v)) : match (generalizing := false) b with | 0 => bJ κ s0 10 [(1, (0, x0)), (2, (2, x1)), (3, (0, x2))] [] | _ => True := by
  refine F_X14_none_r.partial_correctness x0 x1 (fun b x2 s0 r => r = (st', v) → match (generalizing := false) b with | 0 => bJ κ s0 10 [(1, (0, x0)), (2, (2, x1)), (3, (0, x2))] [] | _ => True) ?_ b x2 s0 _ h rfl
  intro f' ih b x2 s0 r h hr
  subst hr
  match b, h with
  | 0, h =>
      refine r_iload_n hκ 2 rfl rfl dX14_none_10 ?_
      refine r_iload_n hκ 0 rfl rfl dX14_none_11 ?_
      refine r_icmp_ge hκ (tgt := 27) (by decide) dX14_none_12 (fun h4 => ?_) (fun h4 => ?_)
      · replace h := (bte_i h).1 h4
        refine r_aload_n hκ 1 rfl rfl dX14_none_27 ?_
        obtain ⟨h5, h⟩ := bck_i h
        obtain ⟨s3, v2, h6, h⟩ := bcl_i h
        refine r_callV hκ (n' := 0) (index := 50) (w_J1_toString Γ0 l0 h6) (lw_V q1126 q1127 q1128 q125 q1129) (by decide +kernel) (t := 18) h5 rfl rfl (by decide) rfl (Nat.le_of_ble_eq_true rfl) dX14_none_28 ?_
        exact r_aretH hκ hf h rt_o dX14_none_31
      · replace h := (bte_i h).2 h4
        refine r_aload_n hκ 1 rfl rfl dX14_none_15 ?_
        refine r_iconst hκ dX14_none_16 ?_
        obtain ⟨h7, h⟩ := bck_i h
        obtain ⟨s4, v3, h8, h⟩ := bcl_i h
        refine r_callV hκ (n' := 1) (index := 42) (w_J1_append_2 Γ0 l0 h8) (lw_V q1113 q1114 q1115 q125 q1116) (by decide +kernel) (t := 18) h7 rfl rfl (by decide) rfl (Nat.le_of_ble_eq_true rfl) dX14_none_17 ?_
        refine r_pop hκ (bd_cat2k _) dX14_none_20 ?_
        refine r_iinc hκ (L2 := [(3, (0, (x2 + 1))), (1, (0, x0)), (2, (2, x1))]) 2 rfl (by decide) rfl dX14_none_21 ?_
        refine r_goto hκ (tgt := 10) (by decide) dX14_none_24 ?_
        exact r_sub [1, 2, 0] rfl (ih 0 _ _ _ h rfl)
  | b + 1, h => trivial
set_option maxHeartbeats 4000000 in
set_option maxRecDepth 100000 in
theorem w_X14_none (Γ0 : bG) (l0 : Launch) {s0 st' : bS} {v a0 a1 : Int} (h : F_X14_none s0 a0 a1 = some (st', v)) : bCt Γ0 l0 yX14_none cX14_none 4 (some (.object "java/lang/String")) 6 151 [(2, a0), (0, a1)] s0 st' (some (2, v)) := by
  refine b_ent (own := RX14) (by decide +kernel) rfl (Nat.le_of_ble_eq_true rfl) (L := [(0, (2, a0)), (1, (0, a1))]) rfl ?_
  intro κ hκ hi hf
  unfold F_X14_none at h
  obtain ⟨h1, h⟩ := bck_i h
  refine r_new hκ (t := 18) tyJ1 tyJ1_ok dfJ1 rfl in_J1 q1011 q200 q125 h1 dX14_none_0 (fun s1 es1 => ?_)
  replace h := bst_i h s1 es1
  refine r_dup hκ (bd_cat2k _) dX14_none_3 ?_
  obtain ⟨h2, h⟩ := bck_i h
  obtain ⟨s2, v1, h3, h⟩ := bcl_i h
  refine r_callI hκ (n' := 0) (index := 41) (w_J1_init Γ0 l0 h3) (lw_meth q203) q125 q1012 q202 rfl (by decide +kernel) (t := 18) h2 rfl rfl (by decide) rfl (Nat.le_of_ble_eq_true rfl) dX14_none_4 ?_
  refine r_astore_n hκ (L2 := [(2, (2, (bnx s0 : Int))), (0, (2, a0)), (1, (0, a1))]) (by decide) rfl rfl dX14_none_7 ?_
  refine r_iconst hκ dX14_none_8 ?_
  refine r_istore_n hκ (L2 := [(3, (0, 0)), (2, (2, (bnx s0 : Int))), (0, (2, a0)), (1, (0, a1))]) (by decide) rfl rfl dX14_none_9 ?_
  exact r_sub [3, 1, 0] rfl (w_X14_none_r hκ hi hf 0 _ _ _ _ h)
/-- EditsMeet$Reader.need(I)V -/
def F_X14_need (s0 : bS) (a0 a1 : Int) : Option (bS × Int × Int) :=
  bck (bg s0 0 a0 0 = 13) <|
  bcl (F_X14_is s0 a0 a1 a1) fun s1 v1 =>
  bte (i32 v1 = 0)
  (bck (bg s1 0 a0 0 = 13) <|
  bck (bg s1 0 a0 0 = 13) <|
  bcl (F_X14_wrong s1 a0 (bg s1 372 a0 0)) fun s3 v2 =>
  bck (bg s3 0 v2 0 = 14) <|
  some (s3, v2, 1))
  (bck (bg s1 0 a0 0 = 13) <|
  bck ((bg s1 0 a0 0 = 13)) <|
  bst (bw s1 372 a0 0 ((bg s1 372 a0 0) + 1)) fun s2 =>
  some (s2, 0, -1))
set_option maxHeartbeats 4000000 in
set_option maxRecDepth 100000 in
theorem w_X14_need (Γ0 : bG) (l0 : Launch) {s0 st' : bS} {v xx a0 a1 : Int} (h : F_X14_need s0 a0 a1 = some (st', v, xx)) : bCx Γ0 l0 yX14_need (ws_ yX14_need cX14_need 2 none) 5 110 none [(2, a0), (0, a1)] s0 (bEq st' v xx) := by
  refine xb_ent (own := RX14) (by decide +kernel) rfl (Nat.le_of_ble_eq_true rfl) (L := [(0, (2, a0)), (1, (0, a1))]) rfl ?_
  intro κ hκ hi ht hf
  unfold F_X14_need at h
  refine r_aload_n hκ 0 rfl rfl dX14_need_0 ?_
  refine r_iload_n hκ 1 rfl rfl dX14_need_1 ?_
  refine r_iload_n hκ 1 rfl rfl dX14_need_2 ?_
  obtain ⟨h1, h⟩ := bck_i h
  obtain ⟨s1, v1, h2, h⟩ := bcl_i h
  refine r_callV hκ (n' := 2) (index := 31) (w_X14_is Γ0 l0 h2) (lw_V q1247 q1249 qs9 q159 q1250) (by decide +kernel) (t := 12) h1 rfl rfl (by decide) rfl (Nat.le_of_ble_eq_true rfl) dX14_need_3 ?_
  refine r_if_ne hκ (tgt := 18) (by decide) dX14_need_6 (fun h3 => ?_) (fun h3 => ?_)
  · replace h := (bte_i h).2 h3
    refine r_aload_n hκ 0 rfl rfl dX14_need_18 ?_
    refine r_dup hκ (bd_cat2k _) dX14_need_19 ?_
    obtain ⟨h4, h⟩ := bck_i h
    refine r_get hκ (t := 12) (k := 0) (r := 372) h4 rfl in_X14 (by decide) rfl q994 (Or.inl rfl) dX14_need_20 ?_
    refine r_iconst hκ dX14_need_23 ?_
    refine r_iadd hκ dX14_need_24 ?_
    obtain ⟨h5, h⟩ := bck_i h
    refine r_put hκ (t := 12) (k := 0) (r := 372) (ty := .int) tyX14 tyX14_ok nmX14 h5 rfl in_X14 (by decide) rfl q994 (Or.inl rfl) rfl rfl rfl trivial (Or.inl (by decide)) dX14_need_25 (fun s2 es2 => ?_)
    replace h := bst_i h s2 es2
    exact x_ret hκ hf (x_P h) (fun κ hκ hf => r_vret hκ hf dX14_need_28)
  · replace h := (bte_i h).1 h3
    refine r_aload_n hκ 0 rfl rfl dX14_need_9 ?_
    refine r_aload_n hκ 0 rfl rfl dX14_need_10 ?_
    obtain ⟨h6, h⟩ := bck_i h
    refine r_get hκ (t := 12) (k := 0) (r := 372) h6 rfl in_X14 (by decide) rfl q994 (Or.inl rfl) dX14_need_11 ?_
    obtain ⟨h7, h⟩ := bck_i h
    obtain ⟨s3, v2, h8, h⟩ := bcl_i h
    refine r_callV hκ (n' := 1) (index := 35) (w_X14_wrong Γ0 l0 h8) (lw_V q1251 q1253 qs10 q159 q1254) (by decide +kernel) (t := 12) h7 rfl rfl (by decide) rfl (Nat.le_of_ble_eq_true rfl) dX14_need_14 ?_
    obtain ⟨h9, h⟩ := bck_i h
    refine r_athrow hκ (t := 13) (jn := 1) h9 rfl rfl dX14_need_17 ?_
    exact r_xout hκ ht hf (by decide) (x_P h)
/-- EditsMeet$Reader.bitsBehind()I -/
def F_X14_bitsBehind (s0 : bS) (a0 : Int) : Option (bS × Int × Int) :=
  bck (bg s0 0 a0 0 = 13) <|
  bclx (F_X14_need s0 a0 46) fun s1 v1 v2 =>
  bte (v2 = -1)
  (bck (bg s1 0 a0 0 = 13) <|
  bclx (F_X14_number s1 a0 15) fun s2 v3 v4 =>
  bte (v4 = -1)
  (some (s2, v3, -1))
  (some (s2, v3, v4)))
  (some (s1, v1, v2))
set_option maxHeartbeats 4000000 in
set_option maxRecDepth 100000 in
theorem w_X14_bitsBehind (Γ0 : bG) (l0 : Launch) {s0 st' : bS} {v xx a0 : Int} (h : F_X14_bitsBehind s0 a0 = some (st', v, xx)) : bCx Γ0 l0 yX14_bitsBehind (ws_ yX14_bitsBehind cX14_bitsBehind 1 (some .int)) 6 133 (some 0) [(2, a0)] s0 (bEq st' v xx) := by
  refine xb_ent (own := RX14) (by decide +kernel) rfl (Nat.le_of_ble_eq_true rfl) (L := [(0, (2, a0))]) rfl ?_
  intro κ hκ hi ht hf
  unfold F_X14_bitsBehind at h
  refine r_aload_n hκ 0 rfl rfl dX14_bitsBehind_0 ?_
  refine r_bipush hκ (by decide) dX14_bitsBehind_1 ?_
  obtain ⟨h2, h⟩ := bck_i h
  obtain ⟨s1, v1, v2, h1, h⟩ := bclx_i h
  refine r_seq (A := (v2 = -1 → bJ κ s1 6 [(0, (2, a0))] []) ∧ (¬ v2 = -1 → bT κ s1 3 [(0, (2, a0))] v1 v2)) ⟨fun h3 => ?_, fun h3 => ?_⟩ (fun k0 => r_xcallV hκ (n' := 1) (index := 54) (w_X14_need Γ0 l0 h1) (lw_V q1332 q1334 qs14 q159 q1335) (by decide +kernel) (t := 12) h2 rfl rfl (by decide) rfl (Nat.le_of_ble_eq_true rfl) dX14_bitsBehind_3 (r_xj1 k0.1) (r_xj2 k0.2))
  · replace h := (bte_i h).1 h3
    refine r_aload_n hκ 0 rfl rfl dX14_bitsBehind_6 ?_
    refine r_bipush hκ (by decide) dX14_bitsBehind_7 ?_
    obtain ⟨h5, h⟩ := bck_i h
    obtain ⟨s2, v3, v4, h4, h⟩ := bclx_i h
    refine r_seq (A := (v4 = -1 → bJ κ s2 12 [(0, (2, a0))] [(0, v3)]) ∧ (¬ v4 = -1 → bT κ s2 9 [(0, (2, a0))] v3 v4)) ⟨fun h6 => ?_, fun h6 => ?_⟩ (fun k0 => r_xcallV hκ (n' := 1) (index := 57) (w_X14_number Γ0 l0 h4) (lw_V q1243 q1245 qs8 q159 q1246) (by decide +kernel) (t := 12) h5 rfl rfl (by decide) rfl (Nat.le_of_ble_eq_true rfl) dX14_bitsBehind_9 (r_xj1 k0.1) (r_xj2 k0.2))
    · replace h := (bte_i h).1 h6
      exact x_ret hκ hf (x_P h) (fun κ hκ hf => r_iret hκ hf (nar_int _) dX14_bitsBehind_12)
    · replace h := (bte_i h).2 h6
      exact r_xout hκ ht hf (by decide) (x_P h)
  · replace h := (bte_i h).2 h3
    exact r_xout hκ ht hf (by decide) (x_P h)
/-- EditsMeet$Reader.part()LEditsMeet$Part; -/
def F_X14_part_r (b : Nat) (x0 x1 x2 : Int) (s0 : bS) : Option (bS × Int × Int) :=
  match b with
  | 0 =>
    bck (bg s0 0 x0 0 = 13) <|
    bck (bg s0 0 x1 0 = 20) <|
    bcl (F_J2_length s0 x1) fun s6 v5 =>
    bck ((bg s6 0 x0 0 = 13)) <|
    bst (bw s6 372 x0 0 ((bg s0 372 x0 0) + v5)) fun s7 =>
    bck (bg s7 0 x1 0 = 20) <|
    bcl (F_J2_hashCode s7 x1) fun s8 v6 =>
    bte (b_t v6 = 43) (bck (bg s8 0 x1 0 = 20) <|
    bcl (F_J2_equals s8 x1 (bg s8 1 (-(2 + 14)) 0)) fun s9 v7 =>
    bte (i32 v7 = 0)
    (F_X14_part_r 1 x0 x1 (-1) s9)
    (F_X14_part_r 1 x0 x1 2 s9)) (bte (b_t v6 = 45) (bck (bg s8 0 x1 0 = 20) <|
    bcl (F_J2_equals s8 x1 (bg s8 1 (-(2 + 13)) 0)) fun s10 v8 =>
    bte (i32 v8 = 0)
    (F_X14_part_r 1 x0 x1 (-1) s10)
    (F_X14_part_r 1 x0 x1 1 s10)) (bte (b_t v6 = 61) (bck (bg s8 0 x1 0 = 20) <|
    bcl (F_J2_equals s8 x1 (bg s8 1 (-(2 + 12)) 0)) fun s11 v9 =>
    bte (i32 v9 = 0)
    (F_X14_part_r 1 x0 x1 (-1) s11)
    (F_X14_part_r 1 x0 x1 0 s11)) (bte (b_t v6 = 94) (bck (bg s8 0 x1 0 = 20) <|
    bcl (F_J2_equals s8 x1 (bg s8 1 (-(2 + 15)) 0)) fun s12 v10 =>
    bte (i32 v10 = 0)
    (F_X14_part_r 1 x0 x1 (-1) s12)
    (F_X14_part_r 1 x0 x1 3 s12)) (bte (b_t v6 = 95) (bck (bg s8 0 x1 0 = 20) <|
    bcl (F_J2_equals s8 x1 (bg s8 1 (-(2 + 16)) 0)) fun s13 v11 =>
    bte (i32 v11 = 0)
    (F_X14_part_r 1 x0 x1 (-1) s13)
    (F_X14_part_r 1 x0 x1 4 s13)) (F_X14_part_r 1 x0 x1 (-1) s8)))))
  | 1 =>
    bte (b_t x2 = 0) (bck (bg s0 0 x0 0 = 13) <|
    bclx (F_X14_number s0 x0 99) fun s14 v12 v13 =>
    bte (v13 = -1)
    (bcl (F_X5_keep s14 v12) fun s15 v14 =>
    some (s15, v14, -1))
    (some (s14, v12, v13))) (bte (b_t x2 = 1) (bck (bg s0 0 x0 0 = 13) <|
    bclx (F_X14_number s0 x0 99) fun s16 v15 v16 =>
    bte (v16 = -1)
    (bcl (F_X5_delete s16 v15) fun s17 v17 =>
    some (s17, v17, -1))
    (some (s16, v15, v16))) (bte (b_t x2 = 2) (bck (bg s0 0 x0 0 = 13) <|
    bclx (F_X14_letters s0 x0) fun s18 v18 v19 =>
    bte (v19 = -1)
    (bck (bg s18 0 v18 0 = 20) <|
    bcl (F_J2_length s18 v18) fun s19 v20 =>
    bck (bg s19 0 x0 0 = 13) <|
    bcl (F_X14_none s19 x0 v20) fun s20 v21 =>
    bcl (F_X5_insert s20 v18 v21) fun s21 v22 =>
    some (s21, v22, -1))
    (some (s18, v18, v19))) (bte (b_t x2 = 3) (bck (bg s0 0 x0 0 = 13) <|
    bclx (F_X14_number s0 x0 99) fun s22 v23 v24 =>
    bte (v24 = -1)
    (bck (bg s22 0 x0 0 = 13) <|
    bclx (F_X14_bitsBehind s22 x0) fun s23 v25 v26 =>
    bte (v26 = -1)
    (bcl (F_X5_mark s23 v23 v25 0) fun s24 v27 =>
    some (s24, v27, -1))
    (some (s23, v25, v26)))
    (some (s22, v23, v24))) (bte (b_t x2 = 4) (bck (bg s0 0 x0 0 = 13) <|
    bclx (F_X14_number s0 x0 99) fun s25 v28 v29 =>
    bte (v29 = -1)
    (bck (bg s25 0 x0 0 = 13) <|
    bclx (F_X14_bitsBehind s25 x0) fun s26 v30 v31 =>
    bte (v31 = -1)
    (bcl (F_X5_mark s26 v28 0 v30) fun s27 v32 =>
    some (s27, v32, -1))
    (some (s26, v30, v31)))
    (some (s25, v28, v29))) (bck (bg s0 0 x0 0 = 13) <|
    bck (bg s0 0 x1 0 = 20) <|
    bcl (F_J2_length s0 x1) fun s28 v33 =>
    bck (bg s28 0 x0 0 = 13) <|
    bcl (F_X14_wrong s28 x0 ((bg s0 372 x0 0) - v33)) fun s29 v34 =>
    bck (bg s29 0 v34 0 = 14) <|
    some (s29, v34, 1))))))
  | _ => none
partial_fixpoint
def F_X14_part (s0 : bS) (a0 : Int) : Option (bS × Int × Int) :=
  bck (bg s0 0 a0 0 = 13) <|
  bck (bg s0 0 a0 0 = 13) <|
  bck (bg s0 0 (bg s0 378 a0 0) 0 = 1) <|
  bte (i32 (bg s0 56 (bg s0 378 a0 0) 0) ≤ i32 (bg s0 372 a0 0))
  (F_X14_part_r 0 a0 (bg s0 1 (-(2 + 11)) 0) 0 s0)
  (bck (bc s0 + 1 ≤ bCM ∧ bk s0 + 4 ≤ bKM) <|
  bst (bnw s0 19 0 4) fun s1 =>
  bck (bg s1 0 (bnx s0 : Int) 0 = 19) <|
  bcl (F_J1_init s1 (bnx s0 : Int)) fun s2 v1 =>
  bck (bg s2 0 (bnx s0 : Int) 0 = 19) <|
  bcl (F_J1_append s2 (bnx s0 : Int) (bg s2 1 (-(2 + 11)) 0)) fun s3 v2 =>
  bck (bg s3 0 a0 0 = 13) <|
  bck (bg s3 0 (bg s3 378 a0 0) 0 = 1) <|
  bck (bg s3 0 a0 0 = 13) <|
  bck (bg s3 0 (bg s3 54 (bg s3 378 a0 0) 0) 0 = 1003 ∧ (0 : Int) ≤ (bg s3 372 a0 0) ∧ (bg s3 372 a0 0) < bg s3 4 (bg s3 54 (bg s3 378 a0 0) 0) 0) <|
  bck (bg s3 0 v2 0 = 19) <|
  bcl (F_J1_append_2 s3 v2 (b_i2c (bg s3 20 (bg s3 54 (bg s3 378 a0 0) 0) (bg s3 372 a0 0)))) fun s4 v3 =>
  bck (bg s4 0 v3 0 = 19) <|
  bcl (F_J1_toString s4 v3) fun s5 v4 =>
  F_X14_part_r 0 a0 v4 0 s5)
set_option maxHeartbeats 4000000 in
set_option maxRecDepth 100000 in
set_option synthInstance.maxHeartbeats 4000000 in
theorem w_X14_part_r {Γ0 : bG} {l0 : Launch} {κ : bK} {st' : bS} {v xx : Int} (hκ : bOk κ Γ0 l0 cX14_part RX14 5 7 174) (hi : bIn κ yX14_part) (ht : xTab κ []) (hf : xFin κ (some (.object "EditsMeet$Part")) (some 2) (bEq st' v xx)) (b : Nat) (x0 x1 x2 : Int) (s0 : bS) (h : F_X14_part_r b x0 x1 x2 s0 = some (st', v, xx)) : match (generalizing := false) b with | 0 => bJ κ s0 50 [(0, (2, x0))] [(2, x1)] | 1 => bJ κ s0 191 [(0, (2, x0)), (1, (2, x1)), (3, (0, x2))] [] | _ => True := by
  refine F_X14_part_r.partial_correctness x0 x1 (fun b x2 s0 r => r = (st', v, xx) → match (generalizing := false) b with | 0 => bJ κ s0 50 [(0, (2, x0))] [(2, x1)] | 1 => bJ κ s0 191 [(0, (2, x0)), (1, (2, x1)), (3, (0, x2))] [] | _ => True) ?_ b x2 s0 _ h rfl
  intro f' ih b x2 s0 r h hr
  subst hr
  match b, h with
  | 0, h =>
      refine r_astore_n hκ (L2 := [(1, (2, x1)), (0, (2, x0))]) (by decide) rfl rfl dX14_part_50 ?_
      refine r_aload_n hκ 1 rfl rfl dX14_part_51 ?_
      refine r_dup hκ (bd_cat2k _) dX14_part_52 ?_
      obtain ⟨h19, h⟩ := bck_i h
      refine r_get hκ (t := 12) (k := 0) (r := 372) h19 rfl in_X14 (by decide) rfl q994 (Or.inl rfl) dX14_part_53 ?_
      refine r_aload_n hκ 0 rfl rfl dX14_part_56 ?_
      obtain ⟨h20, h⟩ := bck_i h
      obtain ⟨s6, v5, h21, h⟩ := bcl_i h
      refine r_callV hκ (n' := 0) (index := 66) (w_J2_length Γ0 l0 h21) (lw_V q1180 q874 q875 q126 q876) (by decide +kernel) (t := 19) h20 rfl rfl (by decide) rfl (Nat.le_of_ble_eq_true rfl) dX14_part_57 ?_
      refine r_iadd hκ dX14_part_60 ?_
      obtain ⟨h22, h⟩ := bck_i h
      refine r_put hκ (t := 12) (k := 0) (r := 372) (ty := .int) tyX14 tyX14_ok nmX14 h22 rfl in_X14 (by decide) rfl q994 (Or.inl rfl) rfl rfl rfl trivial (Or.inl (by decide)) dX14_part_61 (fun s7 es7 => ?_)
      replace h := bst_i h s7 es7
      refine r_aload_n hκ 0 rfl rfl dX14_part_64 ?_
      refine r_astore_n hκ (L2 := [(2, (2, x1)), (1, (2, x1)), (0, (2, x0))]) (by decide) rfl rfl dX14_part_65 ?_
      refine r_iconst hκ dX14_part_66 ?_
      refine r_istore_n hκ (L2 := [(3, (0, (-1))), (2, (2, x1)), (1, (2, x1)), (0, (2, x0))]) (by decide) rfl rfl dX14_part_67 ?_
      refine r_aload_n hκ 1 rfl rfl dX14_part_68 ?_
      obtain ⟨h23, h⟩ := bck_i h
      obtain ⟨s8, v6, h24, h⟩ := bcl_i h
      refine r_callV hκ (n' := 0) (index := 69) (w_J2_hashCode Γ0 l0 h24) (lw_V q1181 q1182 q1183 q126 q1184) (by decide +kernel) (t := 19) h23 rfl rfl (by decide) rfl (Nat.le_of_ble_eq_true rfl) dX14_part_69 ?_
      by_cases h25 : b_t v6 = 43
      · replace h := (bte_i h).1 h25
        refine r_lsw hκ (tgt := 152) (by decide) (by first | (rw [h25]; decide) | rw [h25]) (by decide) dX14_part_72 ?_
        refine r_aload_n hκ 1 rfl rfl dX14_part_152 ?_
        refine r_ldcs hκ (j := 14) (tx := "+") (by decide +kernel) dX14_part_153 ?_
        obtain ⟨h26, h⟩ := bck_i h
        obtain ⟨s9, v7, h27, h⟩ := bcl_i h
        refine r_callV hκ (n' := 1) (index := 74) (w_J2_equals Γ0 l0 h27) (lw_V q1231 q1232 q1233 q126 q1234) (by decide +kernel) (t := 19) h26 rfl rfl (by decide) rfl (Nat.le_of_ble_eq_true rfl) dX14_part_155 ?_
        refine r_if_eq hκ (tgt := 191) (by decide) dX14_part_158 (fun h28 => ?_) (fun h28 => ?_)
        · replace h := (bte_i h).1 h28
          exact r_sub [3, 2, 0] rfl (ih 1 _ _ _ h rfl)
        · replace h := (bte_i h).2 h28
          refine r_iconst hκ dX14_part_161 ?_
          refine r_istore_n hκ (L2 := [(3, (0, 2)), (2, (2, x1)), (1, (2, x1)), (0, (2, x0))]) (by decide) rfl rfl dX14_part_162 ?_
          refine r_goto hκ (tgt := 191) (by decide) dX14_part_163 ?_
          exact r_sub [3, 2, 0] rfl (ih 1 _ _ _ h rfl)
      replace h := (bte_i h).2 h25
      by_cases h29 : b_t v6 = 45
      · replace h := (bte_i h).1 h29
        refine r_lsw hκ (tgt := 138) (by decide) (by first | (rw [h29]; decide) | rw [h29]) (by decide) dX14_part_72 ?_
        refine r_aload_n hκ 1 rfl rfl dX14_part_138 ?_
        refine r_ldcs hκ (j := 13) (tx := "-") (by decide +kernel) dX14_part_139 ?_
        obtain ⟨h30, h⟩ := bck_i h
        obtain ⟨s10, v8, h31, h⟩ := bcl_i h
        refine r_callV hκ (n' := 1) (index := 74) (w_J2_equals Γ0 l0 h31) (lw_V q1231 q1232 q1233 q126 q1234) (by decide +kernel) (t := 19) h30 rfl rfl (by decide) rfl (Nat.le_of_ble_eq_true rfl) dX14_part_141 ?_
        refine r_if_eq hκ (tgt := 191) (by decide) dX14_part_144 (fun h32 => ?_) (fun h32 => ?_)
        · replace h := (bte_i h).1 h32
          exact r_sub [3, 2, 0] rfl (ih 1 _ _ _ h rfl)
        · replace h := (bte_i h).2 h32
          refine r_iconst hκ dX14_part_147 ?_
          refine r_istore_n hκ (L2 := [(3, (0, 1)), (2, (2, x1)), (1, (2, x1)), (0, (2, x0))]) (by decide) rfl rfl dX14_part_148 ?_
          refine r_goto hκ (tgt := 191) (by decide) dX14_part_149 ?_
          exact r_sub [3, 2, 0] rfl (ih 1 _ _ _ h rfl)
      replace h := (bte_i h).2 h29
      by_cases h33 : b_t v6 = 61
      · replace h := (bte_i h).1 h33
        refine r_lsw hκ (tgt := 124) (by decide) (by first | (rw [h33]; decide) | rw [h33]) (by decide) dX14_part_72 ?_
        refine r_aload_n hκ 1 rfl rfl dX14_part_124 ?_
        refine r_ldcs hκ (j := 12) (tx := "=") (by decide +kernel) dX14_part_125 ?_
        obtain ⟨h34, h⟩ := bck_i h
        obtain ⟨s11, v9, h35, h⟩ := bcl_i h
        refine r_callV hκ (n' := 1) (index := 74) (w_J2_equals Γ0 l0 h35) (lw_V q1231 q1232 q1233 q126 q1234) (by decide +kernel) (t := 19) h34 rfl rfl (by decide) rfl (Nat.le_of_ble_eq_true rfl) dX14_part_127 ?_
        refine r_if_eq hκ (tgt := 191) (by decide) dX14_part_130 (fun h36 => ?_) (fun h36 => ?_)
        · replace h := (bte_i h).1 h36
          exact r_sub [3, 2, 0] rfl (ih 1 _ _ _ h rfl)
        · replace h := (bte_i h).2 h36
          refine r_iconst hκ dX14_part_133 ?_
          refine r_istore_n hκ (L2 := [(3, (0, 0)), (2, (2, x1)), (1, (2, x1)), (0, (2, x0))]) (by decide) rfl rfl dX14_part_134 ?_
          refine r_goto hκ (tgt := 191) (by decide) dX14_part_135 ?_
          exact r_sub [3, 2, 0] rfl (ih 1 _ _ _ h rfl)
      replace h := (bte_i h).2 h33
      by_cases h37 : b_t v6 = 94
      · replace h := (bte_i h).1 h37
        refine r_lsw hκ (tgt := 166) (by decide) (by first | (rw [h37]; decide) | rw [h37]) (by decide) dX14_part_72 ?_
        refine r_aload_n hκ 1 rfl rfl dX14_part_166 ?_
        refine r_ldcs hκ (j := 15) (tx := "^") (by decide +kernel) dX14_part_167 ?_
        obtain ⟨h38, h⟩ := bck_i h
        obtain ⟨s12, v10, h39, h⟩ := bcl_i h
        refine r_callV hκ (n' := 1) (index := 74) (w_J2_equals Γ0 l0 h39) (lw_V q1231 q1232 q1233 q126 q1234) (by decide +kernel) (t := 19) h38 rfl rfl (by decide) rfl (Nat.le_of_ble_eq_true rfl) dX14_part_169 ?_
        refine r_if_eq hκ (tgt := 191) (by decide) dX14_part_172 (fun h40 => ?_) (fun h40 => ?_)
        · replace h := (bte_i h).1 h40
          exact r_sub [3, 2, 0] rfl (ih 1 _ _ _ h rfl)
        · replace h := (bte_i h).2 h40
          refine r_iconst hκ dX14_part_175 ?_
          refine r_istore_n hκ (L2 := [(3, (0, 3)), (2, (2, x1)), (1, (2, x1)), (0, (2, x0))]) (by decide) rfl rfl dX14_part_176 ?_
          refine r_goto hκ (tgt := 191) (by decide) dX14_part_177 ?_
          exact r_sub [3, 2, 0] rfl (ih 1 _ _ _ h rfl)
      replace h := (bte_i h).2 h37
      by_cases h41 : b_t v6 = 95
      · replace h := (bte_i h).1 h41
        refine r_lsw hκ (tgt := 180) (by decide) (by first | (rw [h41]; decide) | rw [h41]) (by decide) dX14_part_72 ?_
        refine r_aload_n hκ 1 rfl rfl dX14_part_180 ?_
        refine r_ldcs hκ (j := 16) (tx := "_") (by decide +kernel) dX14_part_181 ?_
        obtain ⟨h42, h⟩ := bck_i h
        obtain ⟨s13, v11, h43, h⟩ := bcl_i h
        refine r_callV hκ (n' := 1) (index := 74) (w_J2_equals Γ0 l0 h43) (lw_V q1231 q1232 q1233 q126 q1234) (by decide +kernel) (t := 19) h42 rfl rfl (by decide) rfl (Nat.le_of_ble_eq_true rfl) dX14_part_183 ?_
        refine r_if_eq hκ (tgt := 191) (by decide) dX14_part_186 (fun h44 => ?_) (fun h44 => ?_)
        · replace h := (bte_i h).1 h44
          exact r_sub [3, 2, 0] rfl (ih 1 _ _ _ h rfl)
        · replace h := (bte_i h).2 h44
          refine r_iconst hκ dX14_part_189 ?_
          refine r_istore_n hκ (L2 := [(3, (0, 4)), (2, (2, x1)), (1, (2, x1)), (0, (2, x0))]) (by decide) rfl rfl dX14_part_190 ?_
          exact r_sub [3, 2, 0] rfl (ih 1 _ _ _ h rfl)
      replace h := (bte_i h).2 h41
      refine r_lsw hκ (tgt := 191) (off := 119) (by decide) (by first | (simp only [Op.lookupswitch.offset_cons, Op.lookupswitch.offset_nil, Array.toList]; simp [*]; done) | (show (if (43 : Int) = _ then _ else (if (45 : Int) = _ then _ else (if (61 : Int) = _ then _ else (if (94 : Int) = _ then _ else (if (95 : Int) = _ then _ else _))))) = _; rw [if_neg (fun q => h25 q.symm), if_neg (fun q => h29 q.symm), if_neg (fun q => h33 q.symm), if_neg (fun q => h37 q.symm), if_neg (fun q => h41 q.symm)]; rfl)) (by decide) dX14_part_72 ?_
      exact r_sub [3, 2, 0] rfl (ih 1 _ _ _ h rfl)
  | 1, h =>
      refine r_iload_n hκ 2 rfl rfl dX14_part_191 ?_
      by_cases h45 : b_t x2 = 0
      · replace h := (bte_i h).1 h45
        refine r_tswIn hκ (kk := 0) (tgt := 228) h45 (by decide) (by decide) rfl (by decide) dX14_part_192 ?_
        refine r_aload_n hκ 0 rfl rfl dX14_part_228 ?_
        refine r_bipush hκ (by decide) dX14_part_229 ?_
        obtain ⟨h47, h⟩ := bck_i h
        obtain ⟨s14, v12, v13, h46, h⟩ := bclx_i h
        refine r_seq (A := (v13 = -1 → bJ κ s14 234 [(0, (2, x0)), (1, (2, x1)), (3, (0, x2))] [(0, v12)]) ∧ (¬ v13 = -1 → bT κ s14 231 [(0, (2, x0)), (1, (2, x1)), (3, (0, x2))] v12 v13)) ⟨fun h48 => ?_, fun h48 => ?_⟩ (fun k0 => r_xcallV hκ (n' := 1) (index := 57) (w_X14_number Γ0 l0 h46) (lw_V q1243 q1245 qs8 q159 q1246) (by decide +kernel) (t := 12) h47 rfl rfl (by decide) rfl (Nat.le_of_ble_eq_true rfl) dX14_part_231 (r_xj1 k0.1) (r_xj2 k0.2))
        · replace h := (bte_i h).1 h48
          obtain ⟨s15, v14, h49, h⟩ := bcl_i h
          refine r_callS hκ (n' := 1) (index := 86) (w_X5_keep Γ0 l0 h49) (lw_S q1274 q379 q137 q380) (by decide +kernel) rfl (by decide) rfl (Nat.le_of_ble_eq_true rfl) dX14_part_234 ?_
          refine r_goto hκ (tgt := 331) (by decide) dX14_part_237 ?_
          exact x_ret hκ hf (x_P h) (fun κ hκ hf => r_aret hκ hf rt_o dX14_part_331)
        · replace h := (bte_i h).2 h48
          exact r_xout hκ ht hf (by decide) (x_P h)
      replace h := (bte_i h).2 h45
      by_cases h50 : b_t x2 = 1
      · replace h := (bte_i h).1 h50
        refine r_tswIn hκ (kk := 1) (tgt := 240) h50 (by decide) (by decide) rfl (by decide) dX14_part_192 ?_
        refine r_aload_n hκ 0 rfl rfl dX14_part_240 ?_
        refine r_bipush hκ (by decide) dX14_part_241 ?_
        obtain ⟨h52, h⟩ := bck_i h
        obtain ⟨s16, v15, v16, h51, h⟩ := bclx_i h
        refine r_seq (A := (v16 = -1 → bJ κ s16 246 [(0, (2, x0)), (1, (2, x1)), (3, (0, x2))] [(0, v15)]) ∧ (¬ v16 = -1 → bT κ s16 243 [(0, (2, x0)), (1, (2, x1)), (3, (0, x2))] v15 v16)) ⟨fun h53 => ?_, fun h53 => ?_⟩ (fun k0 => r_xcallV hκ (n' := 1) (index := 57) (w_X14_number Γ0 l0 h51) (lw_V q1243 q1245 qs8 q159 q1246) (by decide +kernel) (t := 12) h52 rfl rfl (by decide) rfl (Nat.le_of_ble_eq_true rfl) dX14_part_243 (r_xj1 k0.1) (r_xj2 k0.2))
        · replace h := (bte_i h).1 h53
          obtain ⟨s17, v17, h54, h⟩ := bcl_i h
          refine r_callS hκ (n' := 1) (index := 92) (w_X5_delete Γ0 l0 h54) (lw_S q1275 q1276 q137 q1277) (by decide +kernel) rfl (by decide) rfl (Nat.le_of_ble_eq_true rfl) dX14_part_246 ?_
          refine r_goto hκ (tgt := 331) (by decide) dX14_part_249 ?_
          exact x_ret hκ hf (x_P h) (fun κ hκ hf => r_aret hκ hf rt_o dX14_part_331)
        · replace h := (bte_i h).2 h53
          exact r_xout hκ ht hf (by decide) (x_P h)
      replace h := (bte_i h).2 h50
      by_cases h55 : b_t x2 = 2
      · replace h := (bte_i h).1 h55
        refine r_tswIn hκ (kk := 2) (tgt := 252) h55 (by decide) (by decide) rfl (by decide) dX14_part_192 ?_
        refine r_aload_n hκ 0 rfl rfl dX14_part_252 ?_
        obtain ⟨h57, h⟩ := bck_i h
        obtain ⟨s18, v18, v19, h56, h⟩ := bclx_i h
        refine r_seq (A := (v19 = -1 → bJ κ s18 256 [(0, (2, x0)), (1, (2, x1)), (3, (0, x2))] [(2, v18)]) ∧ (¬ v19 = -1 → bT κ s18 253 [(0, (2, x0)), (1, (2, x1)), (3, (0, x2))] v18 v19)) ⟨fun h58 => ?_, fun h58 => ?_⟩ (fun k0 => r_xcallV hκ (n' := 0) (index := 95) (w_X14_letters Γ0 l0 h56) (lw_V q1285 q1287 qs11 q159 q1288) (by decide +kernel) (t := 12) h57 rfl rfl (by decide) rfl (Nat.le_of_ble_eq_true rfl) dX14_part_253 (r_xj1 k0.1) (r_xj2 k0.2))
        · replace h := (bte_i h).1 h58
          refine r_astore hκ (L2 := [(4, (2, v18)), (0, (2, x0)), (1, (2, x1)), (3, (0, x2))]) (by decide) rfl dX14_part_256 ?_
          refine r_aload hκ 0 rfl dX14_part_258 ?_
          refine r_aload_n hκ 1 rfl rfl dX14_part_260 ?_
          refine r_aload hκ 0 rfl dX14_part_261 ?_
          obtain ⟨h59, h⟩ := bck_i h
          obtain ⟨s19, v20, h60, h⟩ := bcl_i h
          refine r_callV hκ (n' := 0) (index := 66) (w_J2_length Γ0 l0 h60) (lw_V q1180 q874 q875 q126 q876) (by decide +kernel) (t := 19) h59 rfl rfl (by decide) rfl (Nat.le_of_ble_eq_true rfl) dX14_part_263 ?_
          obtain ⟨h61, h⟩ := bck_i h
          obtain ⟨s20, v21, h62, h⟩ := bcl_i h
          refine r_callV hκ (n' := 1) (index := 98) (w_X14_none Γ0 l0 h62) (lw_V q1290 q1292 qs12 q159 q1293) (by decide +kernel) (t := 12) h61 rfl rfl (by decide) rfl (Nat.le_of_ble_eq_true rfl) dX14_part_266 ?_
          obtain ⟨s21, v22, h63, h⟩ := bcl_i h
          refine r_callS hκ (n' := 2) (index := 102) (w_X5_insert Γ0 l0 h63) (lw_S q1294 q1295 q137 q1296) (by decide +kernel) rfl (by decide) rfl (Nat.le_of_ble_eq_true rfl) dX14_part_269 ?_
          refine r_goto hκ (tgt := 331) (by decide) dX14_part_272 ?_
          exact x_ret hκ hf (x_P h) (fun κ hκ hf => r_aret hκ hf rt_o dX14_part_331)
        · replace h := (bte_i h).2 h58
          exact r_xout hκ ht hf (by decide) (x_P h)
      replace h := (bte_i h).2 h55
      by_cases h64 : b_t x2 = 3
      · replace h := (bte_i h).1 h64
        refine r_tswIn hκ (kk := 3) (tgt := 275) h64 (by decide) (by decide) rfl (by decide) dX14_part_192 ?_
        refine r_aload_n hκ 0 rfl rfl dX14_part_275 ?_
        refine r_bipush hκ (by decide) dX14_part_276 ?_
        obtain ⟨h66, h⟩ := bck_i h
        obtain ⟨s22, v23, v24, h65, h⟩ := bclx_i h
        refine r_seq (A := (v24 = -1 → bJ κ s22 281 [(0, (2, x0)), (1, (2, x1)), (3, (0, x2))] [(0, v23)]) ∧ (¬ v24 = -1 → bT κ s22 278 [(0, (2, x0)), (1, (2, x1)), (3, (0, x2))] v23 v24)) ⟨fun h67 => ?_, fun h67 => ?_⟩ (fun k0 => r_xcallV hκ (n' := 1) (index := 57) (w_X14_number Γ0 l0 h65) (lw_V q1243 q1245 qs8 q159 q1246) (by decide +kernel) (t := 12) h66 rfl rfl (by decide) rfl (Nat.le_of_ble_eq_true rfl) dX14_part_278 (r_xj1 k0.1) (r_xj2 k0.2))
        · replace h := (bte_i h).1 h67
          refine r_istore hκ (L2 := [(4, (0, v23)), (0, (2, x0)), (1, (2, x1)), (3, (0, x2))]) (by decide) rfl dX14_part_281 ?_
          refine r_iload hκ 0 rfl dX14_part_283 ?_
          refine r_aload_n hκ 1 rfl rfl dX14_part_285 ?_
          obtain ⟨h69, h⟩ := bck_i h
          obtain ⟨s23, v25, v26, h68, h⟩ := bclx_i h
          refine r_seq (A := (v26 = -1 → bJ κ s23 289 [(4, (0, v23)), (0, (2, x0)), (1, (2, x1)), (3, (0, x2))] [(0, v25), (0, v23)]) ∧ (¬ v26 = -1 → bT κ s23 286 [(4, (0, v23)), (0, (2, x0)), (1, (2, x1)), (3, (0, x2))] v25 v26)) ⟨fun h70 => ?_, fun h70 => ?_⟩ (fun k0 => r_xcallV hκ (n' := 0) (index := 106) (w_X14_bitsBehind Γ0 l0 h68) (lw_V q1328 q1330 qs13 q159 q1331) (by decide +kernel) (t := 12) h69 rfl rfl (by decide) rfl (Nat.le_of_ble_eq_true rfl) dX14_part_286 (r_xj1 k0.1) (r_xj2 k0.2))
          · replace h := (bte_i h).1 h70
            refine r_iconst hκ dX14_part_289 ?_
            obtain ⟨s24, v27, h71, h⟩ := bcl_i h
            refine r_callS hκ (n' := 3) (index := 109) (w_X5_mark Γ0 l0 h71) (lw_S q1336 q1337 q137 q1338) (by decide +kernel) rfl (by decide) rfl (Nat.le_of_ble_eq_true rfl) dX14_part_290 ?_
            refine r_goto hκ (tgt := 331) (by decide) dX14_part_293 ?_
            exact x_ret hκ hf (x_P h) (fun κ hκ hf => r_aret hκ hf rt_o dX14_part_331)
          · replace h := (bte_i h).2 h70
            exact r_xout hκ ht hf (by decide) (x_P h)
        · replace h := (bte_i h).2 h67
          exact r_xout hκ ht hf (by decide) (x_P h)
      replace h := (bte_i h).2 h64
      by_cases h72 : b_t x2 = 4
      · replace h := (bte_i h).1 h72
        refine r_tswIn hκ (kk := 4) (tgt := 296) h72 (by decide) (by decide) rfl (by decide) dX14_part_192 ?_
        refine r_aload_n hκ 0 rfl rfl dX14_part_296 ?_
        refine r_bipush hκ (by decide) dX14_part_297 ?_
        obtain ⟨h74, h⟩ := bck_i h
        obtain ⟨s25, v28, v29, h73, h⟩ := bclx_i h
        refine r_seq (A := (v29 = -1 → bJ κ s25 302 [(0, (2, x0)), (1, (2, x1)), (3, (0, x2))] [(0, v28)]) ∧ (¬ v29 = -1 → bT κ s25 299 [(0, (2, x0)), (1, (2, x1)), (3, (0, x2))] v28 v29)) ⟨fun h75 => ?_, fun h75 => ?_⟩ (fun k0 => r_xcallV hκ (n' := 1) (index := 57) (w_X14_number Γ0 l0 h73) (lw_V q1243 q1245 qs8 q159 q1246) (by decide +kernel) (t := 12) h74 rfl rfl (by decide) rfl (Nat.le_of_ble_eq_true rfl) dX14_part_299 (r_xj1 k0.1) (r_xj2 k0.2))
        · replace h := (bte_i h).1 h75
          refine r_istore hκ (L2 := [(4, (0, v28)), (0, (2, x0)), (1, (2, x1)), (3, (0, x2))]) (by decide) rfl dX14_part_302 ?_
          refine r_iload hκ 0 rfl dX14_part_304 ?_
          refine r_iconst hκ dX14_part_306 ?_
          refine r_aload_n hκ 1 rfl rfl dX14_part_307 ?_
          obtain ⟨h77, h⟩ := bck_i h
          obtain ⟨s26, v30, v31, h76, h⟩ := bclx_i h
          refine r_seq (A := (v31 = -1 → bJ κ s26 311 [(4, (0, v28)), (0, (2, x0)), (1, (2, x1)), (3, (0, x2))] [(0, v30), (0, 0), (0, v28)]) ∧ (¬ v31 = -1 → bT κ s26 308 [(4, (0, v28)), (0, (2, x0)), (1, (2, x1)), (3, (0, x2))] v30 v31)) ⟨fun h78 => ?_, fun h78 => ?_⟩ (fun k0 => r_xcallV hκ (n' := 0) (index := 106) (w_X14_bitsBehind Γ0 l0 h76) (lw_V q1328 q1330 qs13 q159 q1331) (by decide +kernel) (t := 12) h77 rfl rfl (by decide) rfl (Nat.le_of_ble_eq_true rfl) dX14_part_308 (r_xj1 k0.1) (r_xj2 k0.2))
          · replace h := (bte_i h).1 h78
            obtain ⟨s27, v32, h79, h⟩ := bcl_i h
            refine r_callS hκ (n' := 3) (index := 109) (w_X5_mark Γ0 l0 h79) (lw_S q1336 q1337 q137 q1338) (by decide +kernel) rfl (by decide) rfl (Nat.le_of_ble_eq_true rfl) dX14_part_311 ?_
            refine r_goto hκ (tgt := 331) (by decide) dX14_part_314 ?_
            exact x_ret hκ hf (x_P h) (fun κ hκ hf => r_aret hκ hf rt_o dX14_part_331)
          · replace h := (bte_i h).2 h78
            exact r_xout hκ ht hf (by decide) (x_P h)
        · replace h := (bte_i h).2 h75
          exact r_xout hκ ht hf (by decide) (x_P h)
      replace h := (bte_i h).2 h72
      refine r_tswOut hκ (tgt := 317) (by omega) (by decide) dX14_part_192 ?_
      refine r_aload_n hκ 0 rfl rfl dX14_part_317 ?_
      refine r_aload_n hκ 0 rfl rfl dX14_part_318 ?_
      obtain ⟨h80, h⟩ := bck_i h
      refine r_get hκ (t := 12) (k := 0) (r := 372) h80 rfl in_X14 (by decide) rfl q994 (Or.inl rfl) dX14_part_319 ?_
      refine r_aload_n hκ 1 rfl rfl dX14_part_322 ?_
      obtain ⟨h81, h⟩ := bck_i h
      obtain ⟨s28, v33, h82, h⟩ := bcl_i h
      refine r_callV hκ (n' := 0) (index := 66) (w_J2_length Γ0 l0 h82) (lw_V q1180 q874 q875 q126 q876) (by decide +kernel) (t := 19) h81 rfl rfl (by decide) rfl (Nat.le_of_ble_eq_true rfl) dX14_part_323 ?_
      refine r_isub hκ dX14_part_326 ?_
      obtain ⟨h83, h⟩ := bck_i h
      obtain ⟨s29, v34, h84, h⟩ := bcl_i h
      refine r_callV hκ (n' := 1) (index := 35) (w_X14_wrong Γ0 l0 h84) (lw_V q1251 q1253 qs10 q159 q1254) (by decide +kernel) (t := 12) h83 rfl rfl (by decide) rfl (Nat.le_of_ble_eq_true rfl) dX14_part_327 ?_
      obtain ⟨h85, h⟩ := bck_i h
      refine r_athrow hκ (t := 13) (jn := 1) h85 rfl rfl dX14_part_330 ?_
      exact r_xout hκ ht hf (by decide) (x_P h)
  | b + 2, h => trivial
set_option maxHeartbeats 4000000 in
set_option maxRecDepth 100000 in
theorem w_X14_part (Γ0 : bG) (l0 : Launch) {s0 st' : bS} {v xx a0 : Int} (h : F_X14_part s0 a0 = some (st', v, xx)) : bCx Γ0 l0 yX14_part (ws_ yX14_part cX14_part 5 (some (.object "EditsMeet$Part"))) 7 174 (some 2) [(2, a0)] s0 (bEq st' v xx) := by
  refine xb_ent (own := RX14) (by decide +kernel) rfl (Nat.le_of_ble_eq_true rfl) (L := [(0, (2, a0))]) rfl ?_
  intro κ hκ hi ht hf
  unfold F_X14_part at h
  refine r_aload_n hκ 0 rfl rfl dX14_part_0 ?_
  obtain ⟨h1, h⟩ := bck_i h
  refine r_get hκ (t := 12) (k := 0) (r := 372) h1 rfl in_X14 (by decide) rfl q994 (Or.inl rfl) dX14_part_1 ?_
  refine r_aload_n hκ 0 rfl rfl dX14_part_4 ?_
  obtain ⟨h2, h⟩ := bck_i h
  refine r_get hκ (t := 12) (k := 1) (r := 378) h2 rfl in_X14 (by decide) rfl q995 (Or.inl rfl) dX14_part_5 ?_
  obtain ⟨h3, h⟩ := bck_i h
  refine r_getN hκ (ref := "EditsMeet") (host := "EditsMeet") (t := 0) (k := 6) (r := 56) h3 rfl in_X0 (by decide) rfl (by decide) rfl dX14_part_8 ?_
  refine r_icmp_ge hκ (tgt := 48) (by decide) dX14_part_11 (fun h4 => ?_) (fun h4 => ?_)
  · replace h := (bte_i h).1 h4
    refine r_ldcs hκ (j := 11) (tx := "") (by decide +kernel) dX14_part_48 ?_
    exact r_sub [0] rfl (w_X14_part_r hκ hi ht hf 0 _ _ _ _ h)
  · replace h := (bte_i h).2 h4
    obtain ⟨h5, h⟩ := bck_i h
    refine r_new hκ (t := 18) tyJ1 tyJ1_ok dfJ1 rfl in_J1 q1011 q200 q125 h5 dX14_part_14 (fun s1 es1 => ?_)
    replace h := bst_i h s1 es1
    refine r_dup hκ (bd_cat2k _) dX14_part_17 ?_
    obtain ⟨h6, h⟩ := bck_i h
    obtain ⟨s2, v1, h7, h⟩ := bcl_i h
    refine r_callI hκ (n' := 0) (index := 41) (w_J1_init Γ0 l0 h7) (lw_meth q203) q125 q1012 q202 rfl (by decide +kernel) (t := 18) h6 rfl rfl (by decide) rfl (Nat.le_of_ble_eq_true rfl) dX14_part_18 ?_
    refine r_ldcs hκ (j := 11) (tx := "") (by decide +kernel) dX14_part_21 ?_
    obtain ⟨h8, h⟩ := bck_i h
    obtain ⟨s3, v2, h9, h⟩ := bcl_i h
    refine r_callV hκ (n' := 1) (index := 63) (w_J1_append Γ0 l0 h9) (lw_V q1014 q1015 q1016 q125 q1017) (by decide +kernel) (t := 18) h8 rfl rfl (by decide) rfl (Nat.le_of_ble_eq_true rfl) dX14_part_23 ?_
    refine r_aload_n hκ 0 rfl rfl dX14_part_26 ?_
    obtain ⟨h10, h⟩ := bck_i h
    refine r_get hκ (t := 12) (k := 1) (r := 378) h10 rfl in_X14 (by decide) rfl q995 (Or.inl rfl) dX14_part_27 ?_
    obtain ⟨h11, h⟩ := bck_i h
    refine r_getN hκ (ref := "EditsMeet") (host := "EditsMeet") (t := 0) (k := 5) (r := 54) h11 rfl in_X0 (by decide) rfl (by decide) rfl dX14_part_30 ?_
    refine r_aload_n hκ 0 rfl rfl dX14_part_33 ?_
    obtain ⟨h12, h⟩ := bck_i h
    refine r_get hκ (t := 12) (k := 0) (r := 372) h12 rfl in_X14 (by decide) rfl q994 (Or.inl rfl) dX14_part_34 ?_
    obtain ⟨⟨h13, h14⟩, h⟩ := bck_i h
    refine r_iald hκ h13 h14 dX14_part_37 ?_
    refine r_i2c hκ dX14_part_38 ?_
    obtain ⟨h15, h⟩ := bck_i h
    obtain ⟨s4, v3, h16, h⟩ := bcl_i h
    refine r_callV hκ (n' := 1) (index := 42) (w_J1_append_2 Γ0 l0 h16) (lw_V q1113 q1114 q1115 q125 q1116) (by decide +kernel) (t := 18) h15 rfl rfl (by decide) rfl (Nat.le_of_ble_eq_true rfl) dX14_part_39 ?_
    obtain ⟨h17, h⟩ := bck_i h
    obtain ⟨s5, v4, h18, h⟩ := bcl_i h
    refine r_callV hκ (n' := 0) (index := 50) (w_J1_toString Γ0 l0 h18) (lw_V q1126 q1127 q1128 q125 q1129) (by decide +kernel) (t := 18) h17 rfl rfl (by decide) rfl (Nat.le_of_ble_eq_true rfl) dX14_part_42 ?_
    refine r_goto hκ (tgt := 50) (by decide) dX14_part_45 ?_
    exact r_sub [0] rfl (w_X14_part_r hκ hi ht hf 0 _ _ _ _ h)
/-- EditsMeet$Reader.edit()LEditsMeet$Edit; -/
def F_X14_edit_r (b : Nat) (x0 x1 : Int) (s0 : bS) : Option (bS × Int × Int) :=
  match b with
  | 0 =>
    bck (bg s0 0 x0 0 = 13) <|
    bclx (F_X14_part s0 x0) fun s3 v2 v3 =>
    bte (v3 = -1)
    (bck (bg s3 0 x1 0 = 7) <|
    bcl (F_X8_adds s3 x1 v2) fun s4 v4 =>
    bck (bg s4 0 x0 0 = 13) <|
    bck (bg s4 0 x0 0 = 13) <|
    bck (bg s4 0 (bg s4 378 x0 0) 0 = 1) <|
    bte (i32 (bg s4 372 x0 0) < i32 (bg s4 56 (bg s4 378 x0 0) 0))
    (F_X14_edit_r 0 x0 x1 s4)
    (bck (bg s4 0 x1 0 = 7) <|
    bcl (F_X8_ends s4 x1) fun s5 v5 =>
    some (s5, v5, -1)))
    (some (s3, v2, v3))
  | _ => none
partial_fixpoint
def F_X14_edit (s0 : bS) (a0 : Int) : Option (bS × Int × Int) :=
  bck (bc s0 + 1 ≤ bCM ∧ bk s0 + 3 ≤ bKM) <|
  bst (bnw s0 7 0 3) fun s1 =>
  bck (bg s1 0 (bnx s0 : Int) 0 = 7) <|
  bcl (F_X8_init s1 (bnx s0 : Int)) fun s2 v1 =>
  F_X14_edit_r 0 a0 (bnx s0 : Int) s2
set_option maxHeartbeats 4000000 in
set_option maxRecDepth 100000 in
set_option synthInstance.maxHeartbeats 4000000 in
theorem w_X14_edit_r {Γ0 : bG} {l0 : Launch} {κ : bK} {st' : bS} {v xx : Int} (hκ : bOk κ Γ0 l0 cX14_edit RX14 2 11 262) (hi : bIn κ yX14_edit) (ht : xTab κ []) (hf : xFin κ (some (.object "EditsMeet$Edit")) (some 2) (bEq st' v xx)) (b : Nat) (x0 x1 : Int) (s0 : bS) (h : F_X14_edit_r b x0 x1 s0 = some (st', v, xx)) : match (generalizing := false) b with | 0 => bJ κ s0 8 [(0, (2, x0)), (1, (2, x1))] [] | _ => True := by
  refine F_X14_edit_r.partial_correctness x0 x1 (fun b s0 r => r = (st', v, xx) → match (generalizing := false) b with | 0 => bJ κ s0 8 [(0, (2, x0)), (1, (2, x1))] [] | _ => True) ?_ b s0 _ h rfl
  intro f' ih b s0 r h hr
  subst hr
  match b, h with
  | 0, h =>
      refine r_aload_n hκ 1 rfl rfl dX14_edit_8 ?_
      refine r_aload_n hκ 0 rfl rfl dX14_edit_9 ?_
      obtain ⟨h5, h⟩ := bck_i h
      obtain ⟨s3, v2, v3, h4, h⟩ := bclx_i h
      refine r_seq (A := (v3 = -1 → bJ κ s3 13 [(0, (2, x0)), (1, (2, x1))] [(2, v2), (2, x1)]) ∧ (¬ v3 = -1 → bT κ s3 10 [(0, (2, x0)), (1, (2, x1))] v2 v3)) ⟨fun h6 => ?_, fun h6 => ?_⟩ (fun k0 => r_xcallV hκ (n' := 0) (index := 116) (w_X14_part Γ0 l0 h4) (lw_V q1007 q1009 qs7 q159 q1010) (by decide +kernel) (t := 12) h5 rfl rfl (by decide) rfl (Nat.le_of_ble_eq_true rfl) dX14_edit_10 (r_xj1 k0.1) (r_xj2 k0.2))
      · replace h := (bte_i h).1 h6
        obtain ⟨h7, h⟩ := bck_i h
        obtain ⟨s4, v4, h8, h⟩ := bcl_i h
        refine r_callV hκ (n' := 1) (index := 120) (w_X8_adds Γ0 l0 h8) (lw_V q1353 q1354 q1355 q140 q1356) (by decide +kernel) (t := 6) h7 rfl rfl (by decide) rfl (Nat.le_of_ble_eq_true rfl) dX14_edit_13 ?_
        refine r_pop hκ (bd_cat2k _) dX14_edit_16 ?_
        refine r_aload_n hκ 0 rfl rfl dX14_edit_17 ?_
        obtain ⟨h9, h⟩ := bck_i h
        refine r_get hκ (t := 12) (k := 0) (r := 372) h9 rfl in_X14 (by decide) rfl q994 (Or.inl rfl) dX14_edit_18 ?_
        refine r_aload_n hκ 0 rfl rfl dX14_edit_21 ?_
        obtain ⟨h10, h⟩ := bck_i h
        refine r_get hκ (t := 12) (k := 1) (r := 378) h10 rfl in_X14 (by decide) rfl q995 (Or.inl rfl) dX14_edit_22 ?_
        obtain ⟨h11, h⟩ := bck_i h
        refine r_getN hκ (ref := "EditsMeet") (host := "EditsMeet") (t := 0) (k := 6) (r := 56) h11 rfl in_X0 (by decide) rfl (by decide) rfl dX14_edit_25 ?_
        refine r_icmp_lt hκ (tgt := 8) (by decide) dX14_edit_28 (fun h12 => ?_) (fun h12 => ?_)
        · replace h := (bte_i h).1 h12
          exact r_sub [0, 1] rfl (ih 0  _ _ h rfl)
        · replace h := (bte_i h).2 h12
          refine r_aload_n hκ 1 rfl rfl dX14_edit_31 ?_
          obtain ⟨h13, h⟩ := bck_i h
          obtain ⟨s5, v5, h14, h⟩ := bcl_i h
          refine r_callV hκ (n' := 0) (index := 124) (w_X8_ends Γ0 l0 h14) (lw_V q1545 q1394 q1395 q140 q1396) (by decide +kernel) (t := 6) h13 rfl rfl (by decide) rfl (Nat.le_of_ble_eq_true rfl) dX14_edit_32 ?_
          exact x_ret hκ hf (x_P h) (fun κ hκ hf => r_aret hκ hf rt_o dX14_edit_35)
      · replace h := (bte_i h).2 h6
        exact r_xout hκ ht hf (by decide) (x_P h)
  | b + 1, h => trivial
set_option maxHeartbeats 4000000 in
set_option maxRecDepth 100000 in
theorem w_X14_edit (Γ0 : bG) (l0 : Launch) {s0 st' : bS} {v xx a0 : Int} (h : F_X14_edit s0 a0 = some (st', v, xx)) : bCx Γ0 l0 yX14_edit (ws_ yX14_edit cX14_edit 2 (some (.object "EditsMeet$Edit"))) 11 262 (some 2) [(2, a0)] s0 (bEq st' v xx) := by
  refine xb_ent (own := RX14) (by decide +kernel) rfl (Nat.le_of_ble_eq_true rfl) (L := [(0, (2, a0))]) rfl ?_
  intro κ hκ hi ht hf
  unfold F_X14_edit at h
  obtain ⟨h1, h⟩ := bck_i h
  refine r_new hκ (t := 6) tyX8 tyX8_ok dfX8 rfl in_X8 q1005 q395 q140 h1 dX14_edit_0 (fun s1 es1 => ?_)
  replace h := bst_i h s1 es1
  refine r_dup hκ (bd_cat2k _) dX14_edit_3 ?_
  obtain ⟨h2, h⟩ := bck_i h
  obtain ⟨s2, v1, h3, h⟩ := bcl_i h
  refine r_callIN hκ (n' := 0) (host := "EditsMeet") (index := 115) (w_X8_init Γ0 l0 h3) (lw_meth q398) (by decide +kernel) q140 (by decide +kernel) q397 rfl (t := 6) h2 rfl rfl (by decide) rfl (Nat.le_of_ble_eq_true rfl) dX14_edit_4 ?_
  refine r_astore_n hκ (L2 := [(1, (2, (bnx s0 : Int))), (0, (2, a0))]) (by decide) rfl rfl dX14_edit_7 ?_
  exact r_sub [1, 0] rfl (w_X14_edit_r hκ hi ht hf 0 _ _ _ h)
/-- EditsMeet.edit(I)I -/
def F_X0_edit_r (b : Nat) (x0 x1 : Int) (s0 : bS) : Option (bS × Int × Int) :=
  match b with
  | 0 =>
    bck (bg s0 0 x0 0 = 1) <|
    bcl (F_X0_no s0 x0 (-2)) fun s9 v7 =>
    bck (bg s9 0 x1 0 = 14) <|
    bvl (((-300) - (bg s9 380 x1 0))) fun t1 =>
    bck ((bg s9 0 x0 0 = 1)) <|
    bst (bw s9 56 x0 0 0) fun s10 =>
    some (s10, t1, -1)
  | _ => none
def F_X0_edit (s0 : bS) (a0 a1 : Int) : Option (bS × Int × Int) :=
  bcl (F_X0_isEdit s0 a1) fun s1 v1 =>
  bte (i32 v1 = 0)
  (bck (bg s1 0 a0 0 = 1) <|
  bcl (F_X0_no s1 a0 (-2)) fun s7 v6 =>
  bck ((bg s7 0 a0 0 = 1)) <|
  bst (bw s7 56 a0 0 0) fun s8 =>
  some (s8, v6, -1))
  (bck (bc s1 + 1 ≤ bCM ∧ bk s1 + 2 ≤ bKM) <|
  bst (bnw s1 13 0 2) fun s2 =>
  bck (bg s2 0 (bnx s1 : Int) 0 = 13) <|
  bcl (F_X14_init s2 (bnx s1 : Int) a0) fun s3 v2 =>
  bck (bg s3 0 (bnx s1 : Int) 0 = 13) <|
  bclx (F_X14_edit s3 (bnx s1 : Int)) fun s4 v3 v4 =>
  bte (v4 = -1)
  (bck (bg s4 0 a0 0 = 1) <|
  bcl (F_X0_becomes s4 a0 a1 v3) fun s5 v5 =>
  bck ((bg s5 0 a0 0 = 1)) <|
  bst (bw s5 56 a0 0 0) fun s6 =>
  some (s6, v5, -1))
  (bte (v4 = 1) (F_X0_edit_r 0 a0 v3 s4) (none)))
set_option maxHeartbeats 4000000 in
set_option maxRecDepth 100000 in
set_option synthInstance.maxHeartbeats 4000000 in
theorem w_X0_edit_r {Γ0 : bG} {l0 : Launch} {κ : bK} {st' : bS} {v xx : Int} (hκ : bOk κ Γ0 l0 cX0_edit RX0 5 12 283) (hi : bIn κ yX0_edit) (ht : xTab κ [(0, 14, 45, 213), (21, 38, 45, 213), (0, 14, 69, 0), (21, 38, 69, 0), (45, 62, 69, 0), (69, 71, 69, 0)]) (hf : xFin κ (some .int) (some 0) (bEq st' v xx)) (b : Nat) (x0 x1 : Int) (s0 : bS) (h : F_X0_edit_r b x0 x1 s0 = some (st', v, xx)) : match (generalizing := false) b with | 0 => bJ κ s0 45 [(0, (2, x0))] [(2, x1)] | _ => True := by
  unfold F_X0_edit_r at h
  match b, h with
  | 0, h =>
      refine r_astore_n hκ (L2 := [(2, (2, x1)), (0, (2, x0))]) (by decide) rfl rfl dX0_edit_45 ?_
      refine r_aload_n hκ 1 rfl rfl dX0_edit_46 ?_
      refine r_bipush hκ (by decide) dX0_edit_47 ?_
      obtain ⟨h16, h⟩ := bck_i h
      obtain ⟨s9, v7, h17, h⟩ := bcl_i h
      refine r_callV hκ (n' := 1) (index := 79) (w_X0_no Γ0 l0 h17) (lw_V q627 q629 qs2 q121 q630) (by decide +kernel) (t := 0) h16 rfl rfl (by decide) rfl (Nat.le_of_ble_eq_true rfl) dX0_edit_49 ?_
      refine r_pop hκ (bd_cat0k _) dX0_edit_52 ?_
      refine r_sipush hκ (by decide) dX0_edit_53 ?_
      refine r_aload_n hκ 0 rfl rfl dX0_edit_56 ?_
      obtain ⟨h18, h⟩ := bck_i h
      refine r_get hκ (t := 13) (k := 6) (r := 380) h18 rfl in_X15 (by decide) rfl q1269 (Or.inl rfl) dX0_edit_57 ?_
      refine r_isub hκ dX0_edit_60 ?_
      refine r_nm (fun t1 et1 => ?_)
      replace h := bvl_i h t1 et1
      refine r_istore_n hκ (L2 := [(3, (0, t1)), (2, (2, x1)), (0, (2, x0))]) (by decide) rfl rfl dX0_edit_61 ?_
      refine r_aload_n hκ 2 rfl rfl dX0_edit_62 ?_
      refine r_iconst hκ dX0_edit_63 ?_
      obtain ⟨h19, h⟩ := bck_i h
      refine r_put hκ (t := 0) (k := 6) (r := 56) (ty := .int) tyX0 tyX0_ok nmX0 h19 rfl in_X0 (by decide) rfl q581 (Or.inl rfl) rfl rfl rfl trivial (Or.inl (by decide)) dX0_edit_64 (fun s10 es10 => ?_)
      replace h := bst_i h s10 es10
      refine r_iload_n hκ 0 rfl rfl dX0_edit_67 ?_
      exact x_ret hκ hf (x_P h) (fun κ hκ hf => r_iret hκ hf (nar_int _) dX0_edit_68)
  | b + 1, h => trivial
set_option maxHeartbeats 4000000 in
set_option maxRecDepth 100000 in
theorem w_X0_edit (Γ0 : bG) (l0 : Launch) {s0 st' : bS} {v xx a0 a1 : Int} (h : F_X0_edit s0 a0 a1 = some (st', v, xx)) : bCx Γ0 l0 yX0_edit (wsW_ yX0_edit cX0_edit 5 (some .int) [(0, 14, 45, 213), (21, 38, 45, 213), (0, 14, 69, 0), (21, 38, 69, 0), (45, 62, 69, 0), (69, 71, 69, 0)]) 12 283 (some 0) [(2, a0), (0, a1)] s0 (bEq st' v xx) := by
  refine xb_entW (own := RX0) (by decide +kernel) rfl (Nat.le_of_ble_eq_true rfl) (L := [(0, (2, a0)), (1, (0, a1))]) rfl ?_
  intro κ hκ hi ht hf
  unfold F_X0_edit at h
  refine r_iload_n hκ 1 rfl rfl dX0_edit_0 ?_
  obtain ⟨s1, v1, h1, h⟩ := bcl_i h
  refine r_callS hκ (n' := 1) (index := 49) (w_X0_isEdit Γ0 l0 h1) (lw_S q796 q797 q121 q798) (by decide +kernel) rfl (by decide) rfl (Nat.le_of_ble_eq_true rfl) dX0_edit_1 ?_
  refine r_if_ne hκ (tgt := 21) (by decide) dX0_edit_4 (fun h2 => ?_) (fun h2 => ?_)
  · replace h := (bte_i h).2 h2
    refine r_aload_n hκ 0 rfl rfl dX0_edit_21 ?_
    refine r_iload_n hκ 1 rfl rfl dX0_edit_22 ?_
    obtain ⟨h3, h⟩ := bck_i h
    refine r_new hκ (t := 12) tyX14 tyX14_ok dfX14 rfl in_X14 q988 q989 q159 h3 dX0_edit_23 (fun s2 es2 => ?_)
    replace h := bst_i h s2 es2
    refine r_dup hκ (bd_cat2k _) dX0_edit_26 ?_
    refine r_aload_n hκ 0 rfl rfl dX0_edit_27 ?_
    obtain ⟨h4, h⟩ := bck_i h
    obtain ⟨s3, v2, h5, h⟩ := bcl_i h
    refine r_callIN hκ (n' := 1) (host := "EditsMeet") (index := 206) (w_X14_init Γ0 l0 h5) (lw_meth q992) (by decide +kernel) q159 (by decide +kernel) q991 rfl (t := 12) h4 rfl rfl (by decide) rfl (Nat.le_of_ble_eq_true rfl) dX0_edit_28 ?_
    obtain ⟨h7, h⟩ := bck_i h
    obtain ⟨s4, v3, v4, h6, h⟩ := bclx_i h
    refine r_seq (A := (v4 = -1 → bJ κ s4 34 [(0, (2, a0)), (1, (0, a1))] [(2, v3), (0, a1), (2, a0)]) ∧ (¬ v4 = -1 → bT κ s4 31 [(0, (2, a0)), (1, (0, a1))] v3 v4)) ⟨fun h8 => ?_, fun h8 => ?_⟩ (fun k0 => r_xcallV hκ (n' := 0) (index := 209) (w_X14_edit Γ0 l0 h6) (lw_V q1001 q1002 q1003 q159 q1004) (by decide +kernel) (t := 12) h7 rfl rfl (by decide) rfl (Nat.le_of_ble_eq_true rfl) dX0_edit_31 (r_xj1 k0.1) (r_xj2 k0.2))
    · replace h := (bte_i h).1 h8
      obtain ⟨h9, h⟩ := bck_i h
      obtain ⟨s5, v5, h10, h⟩ := bcl_i h
      refine r_callV hκ (n' := 2) (index := 200) (w_X0_becomes Γ0 l0 h10) (lw_V q1546 q1548 qs20 q121 q1549) (by decide +kernel) (t := 0) h9 rfl rfl (by decide) rfl (Nat.le_of_ble_eq_true rfl) dX0_edit_34 ?_
      refine r_istore_n hκ (L2 := [(2, (0, v5)), (0, (2, a0)), (1, (0, a1))]) (by decide) rfl rfl dX0_edit_37 ?_
      refine r_aload_n hκ 1 rfl rfl dX0_edit_38 ?_
      refine r_iconst hκ dX0_edit_39 ?_
      obtain ⟨h11, h⟩ := bck_i h
      refine r_put hκ (t := 0) (k := 6) (r := 56) (ty := .int) tyX0 tyX0_ok nmX0 h11 rfl in_X0 (by decide) rfl q581 (Or.inl rfl) rfl rfl rfl trivial (Or.inl (by decide)) dX0_edit_40 (fun s6 es6 => ?_)
      replace h := bst_i h s6 es6
      refine r_iload_n hκ 0 rfl rfl dX0_edit_43 ?_
      exact x_ret hκ hf (x_P h) (fun κ hκ hf => r_iret hκ hf (nar_int _) dX0_edit_44)
    · replace h := (bte_i h).2 h8
      by_cases h12 : v4 = 1
      · replace h := (bte_i h).1 h12
        refine r_xcatchE hκ ht (jn := 1) (ih := 1) (E := "EditsMeet$Fault") (name := "EditsMeet$Fault") h12 rfl rfl (fun z hz => Or.inl ((show ∀ z ∈ ([(0, 14, 45, 213)] : List (Nat × Nat × Nat × Nat)), ¬ (z.1 ≤ 31 ∧ 31 < z.2.1) from by decide) z hz)) (by decide) (by decide) q987 (by decide +kernel) ?_
        exact r_sub [0] rfl (w_X0_edit_r hκ hi ht hf 0 _ _ _ h)
      replace h := (bte_i h).2 h12
      cases h
  · replace h := (bte_i h).1 h2
    refine r_aload_n hκ 0 rfl rfl dX0_edit_7 ?_
    refine r_bipush hκ (by decide) dX0_edit_8 ?_
    obtain ⟨h13, h⟩ := bck_i h
    obtain ⟨s7, v6, h14, h⟩ := bcl_i h
    refine r_callV hκ (n' := 1) (index := 79) (w_X0_no Γ0 l0 h14) (lw_V q627 q629 qs2 q121 q630) (by decide +kernel) (t := 0) h13 rfl rfl (by decide) rfl (Nat.le_of_ble_eq_true rfl) dX0_edit_10 ?_
    refine r_istore_n hκ (L2 := [(2, (0, v6)), (0, (2, a0)), (1, (0, a1))]) (by decide) rfl rfl dX0_edit_13 ?_
    refine r_aload_n hκ 1 rfl rfl dX0_edit_14 ?_
    refine r_iconst hκ dX0_edit_15 ?_
    obtain ⟨h15, h⟩ := bck_i h
    refine r_put hκ (t := 0) (k := 6) (r := 56) (ty := .int) tyX0 tyX0_ok nmX0 h15 rfl in_X0 (by decide) rfl q581 (Or.inl rfl) rfl rfl rfl trivial (Or.inl (by decide)) dX0_edit_16 (fun s8 es8 => ?_)
    replace h := bst_i h s8 es8
    refine r_iload_n hκ 0 rfl rfl dX0_edit_19 ?_
    exact x_ret hκ hf (x_P h) (fun κ hκ hf => r_iret hκ hf (nar_int _) dX0_edit_20)
/-- EditsMeet.of(II)I -/
def F_X0_of (s0 : bS) (a0 a1 a2 : Int) : Option (bS × Int) :=
  bck (bc s0 + 1 ≤ bCM ∧ bk s0 + 3 ≤ bKM) <|
  bst (blm s0 (500 + 1) [a0, a2, a1]) fun s1 =>
  bck (bg s1 0 a0 0 = 1) <|
  bclx (F_X0_told s1 a0 (bnx s0 : Int)) fun s2 v1 v2 =>
  bck (v2 = -1) <|
  some (s2, v1)
set_option maxHeartbeats 4000000 in
set_option maxRecDepth 100000 in
theorem w_X0_of (Γ0 : bG) (l0 : Launch) {s0 st' : bS} {v a0 a1 a2 : Int} (h : F_X0_of s0 a0 a1 a2 = some (st', v)) : bCt Γ0 l0 yX0_of cX0_of 3 (some .int) 20 3236 [(2, a0), (0, a1), (0, a2)] s0 st' (some (0, v)) := by
  refine b_ent (own := RX0) (by decide +kernel) rfl (Nat.le_of_ble_eq_true rfl) (L := [(0, (2, a0)), (1, (0, a1)), (2, (0, a2))]) rfl ?_
  intro κ hκ hi hf
  unfold F_X0_of at h
  refine r_aload_n hκ 0 rfl rfl dX0_of_0 ?_
  refine r_aload_n hκ 0 rfl rfl dX0_of_1 ?_
  refine r_iload_n hκ 2 rfl rfl dX0_of_2 ?_
  refine r_iload_n hκ 1 rfl rfl dX0_of_3 ?_
  obtain ⟨h1, h⟩ := bck_i h
  refine r_indyM hκ hi (k := 1) rfl rfl rfl rfl (lams_1 rfl) q3683 (v0 := a0) (xs := [a2, a1]) rfl rfl (by decide) h1 rfl (Nat.le_of_ble_eq_true rfl) (Nat.le_of_ble_eq_true rfl) dX0_of_4 (fun s1 es1 => ?_)
  replace h := bst_i h s1 es1
  obtain ⟨h3, h⟩ := bck_i h
  obtain ⟨s2, v1, v2, h2, h⟩ := bclx_i h
  obtain ⟨h4, h⟩ := bck_i h
  refine r_seq (A := bJ κ s2 12 [(0, (2, a0)), (1, (0, a1)), (2, (0, a2))] [(0, v1)]) ?_ (fun k0 => r_xcallVW hκ (n' := 1) (index := 142) (w_X0_told Γ0 l0 h2) (lw_VW q833 q835 qs6 q121 q836) (by decide +kernel) (t := 0) h3 rfl rfl (by decide) rfl (Nat.le_of_ble_eq_true rfl) dX0_of_9 (r_xj1 (fun _ => k0)) (r_xj2 (fun hn => absurd h4 hn)))
  exact r_iretH hκ hf h (nar_int _) dX0_of_12
/-- EditsMeet.part(III)I -/
def F_X0_part (s0 : bS) (a0 a1 a2 a3 : Int) : Option (bS × Int) :=
  bck (bc s0 + 1 ≤ bCM ∧ bk s0 + 4 ≤ bKM) <|
  bst (blm s0 (500 + 7) [a0, a3, a1, a2]) fun s1 =>
  bck (bg s1 0 a0 0 = 1) <|
  bclx (F_X0_told s1 a0 (bnx s0 : Int)) fun s2 v1 v2 =>
  bck (v2 = -1) <|
  some (s2, v1)
set_option maxHeartbeats 4000000 in
set_option maxRecDepth 100000 in
theorem w_X0_part (Γ0 : bG) (l0 : Launch) {s0 st' : bS} {v a0 a1 a2 a3 : Int} (h : F_X0_part s0 a0 a1 a2 a3 = some (st', v)) : bCt Γ0 l0 yX0_part cX0_part 4 (some .int) 20 3236 [(2, a0), (0, a1), (0, a2), (0, a3)] s0 st' (some (0, v)) := by
  refine b_ent (own := RX0) (by decide +kernel) rfl (Nat.le_of_ble_eq_true rfl) (L := [(0, (2, a0)), (1, (0, a1)), (2, (0, a2)), (3, (0, a3))]) rfl ?_
  intro κ hκ hi hf
  unfold F_X0_part at h
  refine r_aload_n hκ 0 rfl rfl dX0_part_0 ?_
  refine r_aload_n hκ 0 rfl rfl dX0_part_1 ?_
  refine r_iload_n hκ 3 rfl rfl dX0_part_2 ?_
  refine r_iload_n hκ 1 rfl rfl dX0_part_3 ?_
  refine r_iload_n hκ 2 rfl rfl dX0_part_4 ?_
  obtain ⟨h1, h⟩ := bck_i h
  refine r_indyM hκ hi (k := 7) rfl rfl rfl rfl (lams_7 rfl) q3683 (v0 := a0) (xs := [a3, a1, a2]) rfl rfl (by decide) h1 rfl (Nat.le_of_ble_eq_true rfl) (Nat.le_of_ble_eq_true rfl) dX0_part_5 (fun s1 es1 => ?_)
  replace h := bst_i h s1 es1
  obtain ⟨h3, h⟩ := bck_i h
  obtain ⟨s2, v1, v2, h2, h⟩ := bclx_i h
  obtain ⟨h4, h⟩ := bck_i h
  refine r_seq (A := bJ κ s2 13 [(0, (2, a0)), (1, (0, a1)), (2, (0, a2)), (3, (0, a3))] [(0, v1)]) ?_ (fun k0 => r_xcallVW hκ (n' := 1) (index := 142) (w_X0_told Γ0 l0 h2) (lw_VW q833 q835 qs6 q121 q836) (by decide +kernel) (t := 0) h3 rfl rfl (by decide) rfl (Nat.le_of_ble_eq_true rfl) dX0_part_10 (r_xj1 (fun _ => k0)) (r_xj2 (fun hn => absurd h4 hn)))
  exact r_iretH hκ hf h (nar_int _) dX0_part_13
/-- EditsMeet.letter(III)I -/
def F_X0_letter (s0 : bS) (a0 a1 a2 a3 : Int) : Option (bS × Int) :=
  bck (bc s0 + 1 ≤ bCM ∧ bk s0 + 4 ≤ bKM) <|
  bst (blm s0 (500 + 8) [a0, a1, a2, a3]) fun s1 =>
  bck (bg s1 0 a0 0 = 1) <|
  bclx (F_X0_told s1 a0 (bnx s0 : Int)) fun s2 v1 v2 =>
  bck (v2 = -1) <|
  some (s2, v1)
set_option maxHeartbeats 4000000 in
set_option maxRecDepth 100000 in
theorem w_X0_letter (Γ0 : bG) (l0 : Launch) {s0 st' : bS} {v a0 a1 a2 a3 : Int} (h : F_X0_letter s0 a0 a1 a2 a3 = some (st', v)) : bCt Γ0 l0 yX0_letter cX0_letter 4 (some .int) 20 3236 [(2, a0), (0, a1), (0, a2), (0, a3)] s0 st' (some (0, v)) := by
  refine b_ent (own := RX0) (by decide +kernel) rfl (Nat.le_of_ble_eq_true rfl) (L := [(0, (2, a0)), (1, (0, a1)), (2, (0, a2)), (3, (0, a3))]) rfl ?_
  intro κ hκ hi hf
  unfold F_X0_letter at h
  refine r_aload_n hκ 0 rfl rfl dX0_letter_0 ?_
  refine r_aload_n hκ 0 rfl rfl dX0_letter_1 ?_
  refine r_iload_n hκ 1 rfl rfl dX0_letter_2 ?_
  refine r_iload_n hκ 2 rfl rfl dX0_letter_3 ?_
  refine r_iload_n hκ 3 rfl rfl dX0_letter_4 ?_
  obtain ⟨h1, h⟩ := bck_i h
  refine r_indyM hκ hi (k := 8) rfl rfl rfl rfl (lams_8 rfl) q3683 (v0 := a0) (xs := [a1, a2, a3]) rfl rfl (by decide) h1 rfl (Nat.le_of_ble_eq_true rfl) (Nat.le_of_ble_eq_true rfl) dX0_letter_5 (fun s1 es1 => ?_)
  replace h := bst_i h s1 es1
  obtain ⟨h3, h⟩ := bck_i h
  obtain ⟨s2, v1, v2, h2, h⟩ := bclx_i h
  obtain ⟨h4, h⟩ := bck_i h
  refine r_seq (A := bJ κ s2 13 [(0, (2, a0)), (1, (0, a1)), (2, (0, a2)), (3, (0, a3))] [(0, v1)]) ?_ (fun k0 => r_xcallVW hκ (n' := 1) (index := 142) (w_X0_told Γ0 l0 h2) (lw_VW q833 q835 qs6 q121 q836) (by decide +kernel) (t := 0) h3 rfl rfl (by decide) rfl (Nat.le_of_ble_eq_true rfl) dX0_letter_10 (r_xj1 (fun _ => k0)) (r_xj2 (fun hn => absurd h4 hn)))
  exact r_iretH hκ hf h (nar_int _) dX0_letter_13
/-- EditsMeet.spelled(II)I -/
def F_X0_spelled (s0 : bS) (a0 a1 a2 : Int) : Option (bS × Int) :=
  bck (bc s0 + 1 ≤ bCM ∧ bk s0 + 3 ≤ bKM) <|
  bst (blm s0 (500 + 9) [a0, a1, a2]) fun s1 =>
  bck (bg s1 0 a0 0 = 1) <|
  bclx (F_X0_told s1 a0 (bnx s0 : Int)) fun s2 v1 v2 =>
  bck (v2 = -1) <|
  some (s2, v1)
set_option maxHeartbeats 4000000 in
set_option maxRecDepth 100000 in
theorem w_X0_spelled (Γ0 : bG) (l0 : Launch) {s0 st' : bS} {v a0 a1 a2 : Int} (h : F_X0_spelled s0 a0 a1 a2 = some (st', v)) : bCt Γ0 l0 yX0_spelled cX0_spelled 3 (some .int) 20 3236 [(2, a0), (0, a1), (0, a2)] s0 st' (some (0, v)) := by
  refine b_ent (own := RX0) (by decide +kernel) rfl (Nat.le_of_ble_eq_true rfl) (L := [(0, (2, a0)), (1, (0, a1)), (2, (0, a2))]) rfl ?_
  intro κ hκ hi hf
  unfold F_X0_spelled at h
  refine r_aload_n hκ 0 rfl rfl dX0_spelled_0 ?_
  refine r_aload_n hκ 0 rfl rfl dX0_spelled_1 ?_
  refine r_iload_n hκ 1 rfl rfl dX0_spelled_2 ?_
  refine r_iload_n hκ 2 rfl rfl dX0_spelled_3 ?_
  obtain ⟨h1, h⟩ := bck_i h
  refine r_indyM hκ hi (k := 9) rfl rfl rfl rfl (lams_9 rfl) q3683 (v0 := a0) (xs := [a1, a2]) rfl rfl (by decide) h1 rfl (Nat.le_of_ble_eq_true rfl) (Nat.le_of_ble_eq_true rfl) dX0_spelled_4 (fun s1 es1 => ?_)
  replace h := bst_i h s1 es1
  obtain ⟨h3, h⟩ := bck_i h
  obtain ⟨s2, v1, v2, h2, h⟩ := bclx_i h
  obtain ⟨h4, h⟩ := bck_i h
  refine r_seq (A := bJ κ s2 12 [(0, (2, a0)), (1, (0, a1)), (2, (0, a2))] [(0, v1)]) ?_ (fun k0 => r_xcallVW hκ (n' := 1) (index := 142) (w_X0_told Γ0 l0 h2) (lw_VW q833 q835 qs6 q121 q836) (by decide +kernel) (t := 0) h3 rfl rfl (by decide) rfl (Nat.le_of_ble_eq_true rfl) dX0_spelled_9 (r_xj1 (fun _ => k0)) (r_xj2 (fun hn => absurd h4 hn)))
  exact r_iretH hκ hf h (nar_int _) dX0_spelled_12
/-- EditsMeet.behind(III)I -/
def F_X0_behind (s0 : bS) (a0 a1 a2 a3 : Int) : Option (bS × Int) :=
  bck (bc s0 + 1 ≤ bCM ∧ bk s0 + 4 ≤ bKM) <|
  bst (blm s0 (500 + 10) [a0, a1, a2, a3]) fun s1 =>
  bck (bg s1 0 a0 0 = 1) <|
  bclx (F_X0_told s1 a0 (bnx s0 : Int)) fun s2 v1 v2 =>
  bck (v2 = -1) <|
  some (s2, v1)
set_option maxHeartbeats 4000000 in
set_option maxRecDepth 100000 in
theorem w_X0_behind (Γ0 : bG) (l0 : Launch) {s0 st' : bS} {v a0 a1 a2 a3 : Int} (h : F_X0_behind s0 a0 a1 a2 a3 = some (st', v)) : bCt Γ0 l0 yX0_behind cX0_behind 4 (some .int) 20 3236 [(2, a0), (0, a1), (0, a2), (0, a3)] s0 st' (some (0, v)) := by
  refine b_ent (own := RX0) (by decide +kernel) rfl (Nat.le_of_ble_eq_true rfl) (L := [(0, (2, a0)), (1, (0, a1)), (2, (0, a2)), (3, (0, a3))]) rfl ?_
  intro κ hκ hi hf
  unfold F_X0_behind at h
  refine r_aload_n hκ 0 rfl rfl dX0_behind_0 ?_
  refine r_aload_n hκ 0 rfl rfl dX0_behind_1 ?_
  refine r_iload_n hκ 1 rfl rfl dX0_behind_2 ?_
  refine r_iload_n hκ 2 rfl rfl dX0_behind_3 ?_
  refine r_iload_n hκ 3 rfl rfl dX0_behind_4 ?_
  obtain ⟨h1, h⟩ := bck_i h
  refine r_indyM hκ hi (k := 10) rfl rfl rfl rfl (lams_10 rfl) q3683 (v0 := a0) (xs := [a1, a2, a3]) rfl rfl (by decide) h1 rfl (Nat.le_of_ble_eq_true rfl) (Nat.le_of_ble_eq_true rfl) dX0_behind_5 (fun s1 es1 => ?_)
  replace h := bst_i h s1 es1
  obtain ⟨h3, h⟩ := bck_i h
  obtain ⟨s2, v1, v2, h2, h⟩ := bclx_i h
  obtain ⟨h4, h⟩ := bck_i h
  refine r_seq (A := bJ κ s2 13 [(0, (2, a0)), (1, (0, a1)), (2, (0, a2)), (3, (0, a3))] [(0, v1)]) ?_ (fun k0 => r_xcallVW hκ (n' := 1) (index := 142) (w_X0_told Γ0 l0 h2) (lw_VW q833 q835 qs6 q121 q836) (by decide +kernel) (t := 0) h3 rfl rfl (by decide) rfl (Nat.le_of_ble_eq_true rfl) dX0_behind_10 (r_xj1 (fun _ => k0)) (r_xj2 (fun hn => absurd h4 hn)))
  exact r_iretH hκ hf h (nar_int _) dX0_behind_13
/-- EditsMeet.over(IIII)I -/
def F_X0_over (s0 : bS) (a0 a1 a2 a3 a4 : Int) : Option (bS × Int) :=
  bck (bc s0 + 1 ≤ bCM ∧ bk s0 + 5 ≤ bKM) <|
  bst (blm s0 (500 + 12) [a0, a1, a2, a3, a4]) fun s1 =>
  bck (bg s1 0 a0 0 = 1) <|
  bclx (F_X0_told s1 a0 (bnx s0 : Int)) fun s2 v1 v2 =>
  bck (v2 = -1) <|
  some (s2, v1)
set_option maxHeartbeats 4000000 in
set_option maxRecDepth 100000 in
theorem w_X0_over (Γ0 : bG) (l0 : Launch) {s0 st' : bS} {v a0 a1 a2 a3 a4 : Int} (h : F_X0_over s0 a0 a1 a2 a3 a4 = some (st', v)) : bCt Γ0 l0 yX0_over cX0_over 5 (some .int) 20 3236 [(2, a0), (0, a1), (0, a2), (0, a3), (0, a4)] s0 st' (some (0, v)) := by
  refine b_ent (own := RX0) (by decide +kernel) rfl (Nat.le_of_ble_eq_true rfl) (L := [(0, (2, a0)), (1, (0, a1)), (2, (0, a2)), (3, (0, a3)), (4, (0, a4))]) rfl ?_
  intro κ hκ hi hf
  unfold F_X0_over at h
  refine r_aload_n hκ 0 rfl rfl dX0_over_0 ?_
  refine r_aload_n hκ 0 rfl rfl dX0_over_1 ?_
  refine r_iload_n hκ 1 rfl rfl dX0_over_2 ?_
  refine r_iload_n hκ 2 rfl rfl dX0_over_3 ?_
  refine r_iload_n hκ 3 rfl rfl dX0_over_4 ?_
  refine r_iload hκ 4 rfl dX0_over_5 ?_
  obtain ⟨h1, h⟩ := bck_i h
  refine r_indyM hκ hi (k := 12) rfl rfl rfl rfl (lams_12 rfl) q3683 (v0 := a0) (xs := [a1, a2, a3, a4]) rfl rfl (by decide) h1 rfl (Nat.le_of_ble_eq_true rfl) (Nat.le_of_ble_eq_true rfl) dX0_over_7 (fun s1 es1 => ?_)
  replace h := bst_i h s1 es1
  obtain ⟨h3, h⟩ := bck_i h
  obtain ⟨s2, v1, v2, h2, h⟩ := bclx_i h
  obtain ⟨h4, h⟩ := bck_i h
  refine r_seq (A := bJ κ s2 15 [(0, (2, a0)), (1, (0, a1)), (2, (0, a2)), (3, (0, a3)), (4, (0, a4))] [(0, v1)]) ?_ (fun k0 => r_xcallVW hκ (n' := 1) (index := 142) (w_X0_told Γ0 l0 h2) (lw_VW q833 q835 qs6 q121 q836) (by decide +kernel) (t := 0) h3 rfl rfl (by decide) rfl (Nat.le_of_ble_eq_true rfl) dX0_over_12 (r_xj1 (fun _ => k0)) (r_xj2 (fun hn => absurd h4 hn)))
  exact r_iretH hκ hf h (nar_int _) dX0_over_15
/-- EditsMeet.turned(III)I -/
def F_X0_turned (s0 : bS) (a0 a1 a2 a3 : Int) : Option (bS × Int) :=
  bck (bc s0 + 1 ≤ bCM ∧ bk s0 + 4 ≤ bKM) <|
  bst (blm s0 (500 + 13) [a0, a1, a2, a3]) fun s1 =>
  bck (bg s1 0 a0 0 = 1) <|
  bclx (F_X0_told s1 a0 (bnx s0 : Int)) fun s2 v1 v2 =>
  bck (v2 = -1) <|
  some (s2, v1)
set_option maxHeartbeats 4000000 in
set_option maxRecDepth 100000 in
theorem w_X0_turned (Γ0 : bG) (l0 : Launch) {s0 st' : bS} {v a0 a1 a2 a3 : Int} (h : F_X0_turned s0 a0 a1 a2 a3 = some (st', v)) : bCt Γ0 l0 yX0_turned cX0_turned 4 (some .int) 20 3236 [(2, a0), (0, a1), (0, a2), (0, a3)] s0 st' (some (0, v)) := by
  refine b_ent (own := RX0) (by decide +kernel) rfl (Nat.le_of_ble_eq_true rfl) (L := [(0, (2, a0)), (1, (0, a1)), (2, (0, a2)), (3, (0, a3))]) rfl ?_
  intro κ hκ hi hf
  unfold F_X0_turned at h
  refine r_aload_n hκ 0 rfl rfl dX0_turned_0 ?_
  refine r_aload_n hκ 0 rfl rfl dX0_turned_1 ?_
  refine r_iload_n hκ 1 rfl rfl dX0_turned_2 ?_
  refine r_iload_n hκ 2 rfl rfl dX0_turned_3 ?_
  refine r_iload_n hκ 3 rfl rfl dX0_turned_4 ?_
  obtain ⟨h1, h⟩ := bck_i h
  refine r_indyM hκ hi (k := 13) rfl rfl rfl rfl (lams_13 rfl) q3683 (v0 := a0) (xs := [a1, a2, a3]) rfl rfl (by decide) h1 rfl (Nat.le_of_ble_eq_true rfl) (Nat.le_of_ble_eq_true rfl) dX0_turned_5 (fun s1 es1 => ?_)
  replace h := bst_i h s1 es1
  obtain ⟨h3, h⟩ := bck_i h
  obtain ⟨s2, v1, v2, h2, h⟩ := bclx_i h
  obtain ⟨h4, h⟩ := bck_i h
  refine r_seq (A := bJ κ s2 13 [(0, (2, a0)), (1, (0, a1)), (2, (0, a2)), (3, (0, a3))] [(0, v1)]) ?_ (fun k0 => r_xcallVW hκ (n' := 1) (index := 142) (w_X0_told Γ0 l0 h2) (lw_VW q833 q835 qs6 q121 q836) (by decide +kernel) (t := 0) h3 rfl rfl (by decide) rfl (Nat.le_of_ble_eq_true rfl) dX0_turned_10 (r_xj1 (fun _ => k0)) (r_xj2 (fun hn => absurd h4 hn)))
  exact r_iretH hκ hf h (nar_int _) dX0_turned_13
/-- EditsMeet.differ(II)I -/
def F_X0_differ (s0 : bS) (a0 a1 a2 : Int) : Option (bS × Int) :=
  bck (bc s0 + 1 ≤ bCM ∧ bk s0 + 3 ≤ bKM) <|
  bst (blm s0 (500 + 14) [a0, a1, a2]) fun s1 =>
  bck (bg s1 0 a0 0 = 1) <|
  bclx (F_X0_told s1 a0 (bnx s0 : Int)) fun s2 v1 v2 =>
  bck (v2 = -1) <|
  some (s2, v1)
set_option maxHeartbeats 4000000 in
set_option maxRecDepth 100000 in
theorem w_X0_differ (Γ0 : bG) (l0 : Launch) {s0 st' : bS} {v a0 a1 a2 : Int} (h : F_X0_differ s0 a0 a1 a2 = some (st', v)) : bCt Γ0 l0 yX0_differ cX0_differ 3 (some .int) 20 3236 [(2, a0), (0, a1), (0, a2)] s0 st' (some (0, v)) := by
  refine b_ent (own := RX0) (by decide +kernel) rfl (Nat.le_of_ble_eq_true rfl) (L := [(0, (2, a0)), (1, (0, a1)), (2, (0, a2))]) rfl ?_
  intro κ hκ hi hf
  unfold F_X0_differ at h
  refine r_aload_n hκ 0 rfl rfl dX0_differ_0 ?_
  refine r_aload_n hκ 0 rfl rfl dX0_differ_1 ?_
  refine r_iload_n hκ 1 rfl rfl dX0_differ_2 ?_
  refine r_iload_n hκ 2 rfl rfl dX0_differ_3 ?_
  obtain ⟨h1, h⟩ := bck_i h
  refine r_indyM hκ hi (k := 14) rfl rfl rfl rfl (lams_14 rfl) q3683 (v0 := a0) (xs := [a1, a2]) rfl rfl (by decide) h1 rfl (Nat.le_of_ble_eq_true rfl) (Nat.le_of_ble_eq_true rfl) dX0_differ_4 (fun s1 es1 => ?_)
  replace h := bst_i h s1 es1
  obtain ⟨h3, h⟩ := bck_i h
  obtain ⟨s2, v1, v2, h2, h⟩ := bclx_i h
  obtain ⟨h4, h⟩ := bck_i h
  refine r_seq (A := bJ κ s2 12 [(0, (2, a0)), (1, (0, a1)), (2, (0, a2))] [(0, v1)]) ?_ (fun k0 => r_xcallVW hκ (n' := 1) (index := 142) (w_X0_told Γ0 l0 h2) (lw_VW q833 q835 qs6 q121 q836) (by decide +kernel) (t := 0) h3 rfl rfl (by decide) rfl (Nat.le_of_ble_eq_true rfl) dX0_differ_9 (r_xj1 (fun _ => k0)) (r_xj2 (fun hn => absurd h4 hn)))
  exact r_iretH hκ hf h (nar_int _) dX0_differ_12
/-- EditsMeet.does(II)I -/
def F_X0_does (s0 : bS) (a0 a1 a2 : Int) : Option (bS × Int) :=
  bck (bc s0 + 1 ≤ bCM ∧ bk s0 + 3 ≤ bKM) <|
  bst (blm s0 (500 + 15) [a0, a1, a2]) fun s1 =>
  bck (bg s1 0 a0 0 = 1) <|
  bclx (F_X0_told s1 a0 (bnx s0 : Int)) fun s2 v1 v2 =>
  bck (v2 = -1) <|
  some (s2, v1)
set_option maxHeartbeats 4000000 in
set_option maxRecDepth 100000 in
theorem w_X0_does (Γ0 : bG) (l0 : Launch) {s0 st' : bS} {v a0 a1 a2 : Int} (h : F_X0_does s0 a0 a1 a2 = some (st', v)) : bCt Γ0 l0 yX0_does cX0_does 3 (some .int) 20 3236 [(2, a0), (0, a1), (0, a2)] s0 st' (some (0, v)) := by
  refine b_ent (own := RX0) (by decide +kernel) rfl (Nat.le_of_ble_eq_true rfl) (L := [(0, (2, a0)), (1, (0, a1)), (2, (0, a2))]) rfl ?_
  intro κ hκ hi hf
  unfold F_X0_does at h
  refine r_aload_n hκ 0 rfl rfl dX0_does_0 ?_
  refine r_aload_n hκ 0 rfl rfl dX0_does_1 ?_
  refine r_iload_n hκ 1 rfl rfl dX0_does_2 ?_
  refine r_iload_n hκ 2 rfl rfl dX0_does_3 ?_
  obtain ⟨h1, h⟩ := bck_i h
  refine r_indyM hκ hi (k := 15) rfl rfl rfl rfl (lams_15 rfl) q3683 (v0 := a0) (xs := [a1, a2]) rfl rfl (by decide) h1 rfl (Nat.le_of_ble_eq_true rfl) (Nat.le_of_ble_eq_true rfl) dX0_does_4 (fun s1 es1 => ?_)
  replace h := bst_i h s1 es1
  obtain ⟨h3, h⟩ := bck_i h
  obtain ⟨s2, v1, v2, h2, h⟩ := bclx_i h
  obtain ⟨h4, h⟩ := bck_i h
  refine r_seq (A := bJ κ s2 12 [(0, (2, a0)), (1, (0, a1)), (2, (0, a2))] [(0, v1)]) ?_ (fun k0 => r_xcallVW hκ (n' := 1) (index := 142) (w_X0_told Γ0 l0 h2) (lw_VW q833 q835 qs6 q121 q836) (by decide +kernel) (t := 0) h3 rfl rfl (by decide) rfl (Nat.le_of_ble_eq_true rfl) dX0_does_9 (r_xj1 (fun _ => k0)) (r_xj2 (fun hn => absurd h4 hn)))
  exact r_iretH hκ hf h (nar_int _) dX0_does_12
/-- EditsMeet.insert(IIII)I -/
def F_X0_insert (s0 : bS) (a0 a1 a2 a3 a4 : Int) : Option (bS × Int) :=
  bck (bc s0 + 1 ≤ bCM ∧ bk s0 + 5 ≤ bKM) <|
  bst (blm s0 (500 + 16) [a0, a1, a2, a3, a4]) fun s1 =>
  bck (bg s1 0 a0 0 = 1) <|
  bclx (F_X0_told s1 a0 (bnx s0 : Int)) fun s2 v1 v2 =>
  bck (v2 = -1) <|
  some (s2, v1)
set_option maxHeartbeats 4000000 in
set_option maxRecDepth 100000 in
theorem w_X0_insert (Γ0 : bG) (l0 : Launch) {s0 st' : bS} {v a0 a1 a2 a3 a4 : Int} (h : F_X0_insert s0 a0 a1 a2 a3 a4 = some (st', v)) : bCt Γ0 l0 yX0_insert cX0_insert 5 (some .int) 20 3236 [(2, a0), (0, a1), (0, a2), (0, a3), (0, a4)] s0 st' (some (0, v)) := by
  refine b_ent (own := RX0) (by decide +kernel) rfl (Nat.le_of_ble_eq_true rfl) (L := [(0, (2, a0)), (1, (0, a1)), (2, (0, a2)), (3, (0, a3)), (4, (0, a4))]) rfl ?_
  intro κ hκ hi hf
  unfold F_X0_insert at h
  refine r_aload_n hκ 0 rfl rfl dX0_insert_0 ?_
  refine r_aload_n hκ 0 rfl rfl dX0_insert_1 ?_
  refine r_iload_n hκ 1 rfl rfl dX0_insert_2 ?_
  refine r_iload_n hκ 2 rfl rfl dX0_insert_3 ?_
  refine r_iload_n hκ 3 rfl rfl dX0_insert_4 ?_
  refine r_iload hκ 4 rfl dX0_insert_5 ?_
  obtain ⟨h1, h⟩ := bck_i h
  refine r_indyM hκ hi (k := 16) rfl rfl rfl rfl (lams_16 rfl) q3683 (v0 := a0) (xs := [a1, a2, a3, a4]) rfl rfl (by decide) h1 rfl (Nat.le_of_ble_eq_true rfl) (Nat.le_of_ble_eq_true rfl) dX0_insert_7 (fun s1 es1 => ?_)
  replace h := bst_i h s1 es1
  obtain ⟨h3, h⟩ := bck_i h
  obtain ⟨s2, v1, v2, h2, h⟩ := bclx_i h
  obtain ⟨h4, h⟩ := bck_i h
  refine r_seq (A := bJ κ s2 15 [(0, (2, a0)), (1, (0, a1)), (2, (0, a2)), (3, (0, a3)), (4, (0, a4))] [(0, v1)]) ?_ (fun k0 => r_xcallVW hκ (n' := 1) (index := 142) (w_X0_told Γ0 l0 h2) (lw_VW q833 q835 qs6 q121 q836) (by decide +kernel) (t := 0) h3 rfl rfl (by decide) rfl (Nat.le_of_ble_eq_true rfl) dX0_insert_12 (r_xj1 (fun _ => k0)) (r_xj2 (fun hn => absurd h4 hn)))
  exact r_iretH hκ hf h (nar_int _) dX0_insert_15
/-- EditsMeet.cut(III)I -/
def F_X0_cut (s0 : bS) (a0 a1 a2 a3 : Int) : Option (bS × Int) :=
  bck (bc s0 + 1 ≤ bCM ∧ bk s0 + 4 ≤ bKM) <|
  bst (blm s0 (500 + 17) [a0, a1, a2, a3]) fun s1 =>
  bck (bg s1 0 a0 0 = 1) <|
  bclx (F_X0_told s1 a0 (bnx s0 : Int)) fun s2 v1 v2 =>
  bck (v2 = -1) <|
  some (s2, v1)
set_option maxHeartbeats 4000000 in
set_option maxRecDepth 100000 in
theorem w_X0_cut (Γ0 : bG) (l0 : Launch) {s0 st' : bS} {v a0 a1 a2 a3 : Int} (h : F_X0_cut s0 a0 a1 a2 a3 = some (st', v)) : bCt Γ0 l0 yX0_cut cX0_cut 4 (some .int) 20 3236 [(2, a0), (0, a1), (0, a2), (0, a3)] s0 st' (some (0, v)) := by
  refine b_ent (own := RX0) (by decide +kernel) rfl (Nat.le_of_ble_eq_true rfl) (L := [(0, (2, a0)), (1, (0, a1)), (2, (0, a2)), (3, (0, a3))]) rfl ?_
  intro κ hκ hi hf
  unfold F_X0_cut at h
  refine r_aload_n hκ 0 rfl rfl dX0_cut_0 ?_
  refine r_aload_n hκ 0 rfl rfl dX0_cut_1 ?_
  refine r_iload_n hκ 1 rfl rfl dX0_cut_2 ?_
  refine r_iload_n hκ 2 rfl rfl dX0_cut_3 ?_
  refine r_iload_n hκ 3 rfl rfl dX0_cut_4 ?_
  obtain ⟨h1, h⟩ := bck_i h
  refine r_indyM hκ hi (k := 17) rfl rfl rfl rfl (lams_17 rfl) q3683 (v0 := a0) (xs := [a1, a2, a3]) rfl rfl (by decide) h1 rfl (Nat.le_of_ble_eq_true rfl) (Nat.le_of_ble_eq_true rfl) dX0_cut_5 (fun s1 es1 => ?_)
  replace h := bst_i h s1 es1
  obtain ⟨h3, h⟩ := bck_i h
  obtain ⟨s2, v1, v2, h2, h⟩ := bclx_i h
  obtain ⟨h4, h⟩ := bck_i h
  refine r_seq (A := bJ κ s2 13 [(0, (2, a0)), (1, (0, a1)), (2, (0, a2)), (3, (0, a3))] [(0, v1)]) ?_ (fun k0 => r_xcallVW hκ (n' := 1) (index := 142) (w_X0_told Γ0 l0 h2) (lw_VW q833 q835 qs6 q121 q836) (by decide +kernel) (t := 0) h3 rfl rfl (by decide) rfl (Nat.le_of_ble_eq_true rfl) dX0_cut_10 (r_xj1 (fun _ => k0)) (r_xj2 (fun hn => absurd h4 hn)))
  exact r_iretH hκ hf h (nar_int _) dX0_cut_13
/-- EditsMeet.mark(IIIII)I -/
def F_X0_mark (s0 : bS) (a0 a1 a2 a3 a4 a5 : Int) : Option (bS × Int) :=
  bck (bc s0 + 1 ≤ bCM ∧ bk s0 + 6 ≤ bKM) <|
  bst (blm s0 (500 + 18) [a0, a1, a2, a3, a4, a5]) fun s1 =>
  bck (bg s1 0 a0 0 = 1) <|
  bclx (F_X0_told s1 a0 (bnx s0 : Int)) fun s2 v1 v2 =>
  bck (v2 = -1) <|
  some (s2, v1)
set_option maxHeartbeats 4000000 in
set_option maxRecDepth 100000 in
theorem w_X0_mark (Γ0 : bG) (l0 : Launch) {s0 st' : bS} {v a0 a1 a2 a3 a4 a5 : Int} (h : F_X0_mark s0 a0 a1 a2 a3 a4 a5 = some (st', v)) : bCt Γ0 l0 yX0_mark cX0_mark 6 (some .int) 20 3236 [(2, a0), (0, a1), (0, a2), (0, a3), (0, a4), (0, a5)] s0 st' (some (0, v)) := by
  refine b_ent (own := RX0) (by decide +kernel) rfl (Nat.le_of_ble_eq_true rfl) (L := [(0, (2, a0)), (1, (0, a1)), (2, (0, a2)), (3, (0, a3)), (4, (0, a4)), (5, (0, a5))]) rfl ?_
  intro κ hκ hi hf
  unfold F_X0_mark at h
  refine r_aload_n hκ 0 rfl rfl dX0_mark_0 ?_
  refine r_aload_n hκ 0 rfl rfl dX0_mark_1 ?_
  refine r_iload_n hκ 1 rfl rfl dX0_mark_2 ?_
  refine r_iload_n hκ 2 rfl rfl dX0_mark_3 ?_
  refine r_iload_n hκ 3 rfl rfl dX0_mark_4 ?_
  refine r_iload hκ 4 rfl dX0_mark_5 ?_
  refine r_iload hκ 5 rfl dX0_mark_7 ?_
  obtain ⟨h1, h⟩ := bck_i h
  refine r_indyM hκ hi (k := 18) rfl rfl rfl rfl (lams_18 rfl) q3683 (v0 := a0) (xs := [a1, a2, a3, a4, a5]) rfl rfl (by decide) h1 rfl (Nat.le_of_ble_eq_true rfl) (Nat.le_of_ble_eq_true rfl) dX0_mark_9 (fun s1 es1 => ?_)
  replace h := bst_i h s1 es1
  obtain ⟨h3, h⟩ := bck_i h
  obtain ⟨s2, v1, v2, h2, h⟩ := bclx_i h
  obtain ⟨h4, h⟩ := bck_i h
  refine r_seq (A := bJ κ s2 17 [(0, (2, a0)), (1, (0, a1)), (2, (0, a2)), (3, (0, a3)), (4, (0, a4)), (5, (0, a5))] [(0, v1)]) ?_ (fun k0 => r_xcallVW hκ (n' := 1) (index := 142) (w_X0_told Γ0 l0 h2) (lw_VW q833 q835 qs6 q121 q836) (by decide +kernel) (t := 0) h3 rfl rfl (by decide) rfl (Nat.le_of_ble_eq_true rfl) dX0_mark_14 (r_xj1 (fun _ => k0)) (r_xj2 (fun hn => absurd h4 hn)))
  exact r_iretH hκ hf h (nar_int _) dX0_mark_17
/-- EditsMeet.serve(I)I -/
def F_X0_serve (s0 : bS) (a0 a1 : Int) : Option (bS × Int) :=
  bck (bc s0 + 1 ≤ bCM ∧ bk s0 + 2 ≤ bKM) <|
  bst (blm s0 (500 + 19) [a0, a1]) fun s1 =>
  bck (bg s1 0 a0 0 = 1) <|
  bclx (F_X0_told s1 a0 (bnx s0 : Int)) fun s2 v1 v2 =>
  bck (v2 = -1) <|
  some (s2, v1)
set_option maxHeartbeats 4000000 in
set_option maxRecDepth 100000 in
theorem w_X0_serve (Γ0 : bG) (l0 : Launch) {s0 st' : bS} {v a0 a1 : Int} (h : F_X0_serve s0 a0 a1 = some (st', v)) : bCt Γ0 l0 yX0_serve cX0_serve 2 (some .int) 20 3236 [(2, a0), (0, a1)] s0 st' (some (0, v)) := by
  refine b_ent (own := RX0) (by decide +kernel) rfl (Nat.le_of_ble_eq_true rfl) (L := [(0, (2, a0)), (1, (0, a1))]) rfl ?_
  intro κ hκ hi hf
  unfold F_X0_serve at h
  refine r_aload_n hκ 0 rfl rfl dX0_serve_0 ?_
  refine r_aload_n hκ 0 rfl rfl dX0_serve_1 ?_
  refine r_iload_n hκ 1 rfl rfl dX0_serve_2 ?_
  obtain ⟨h1, h⟩ := bck_i h
  refine r_indyM hκ hi (k := 19) rfl rfl rfl rfl (lams_19 rfl) q3683 (v0 := a0) (xs := [a1]) rfl rfl (by decide) h1 rfl (Nat.le_of_ble_eq_true rfl) (Nat.le_of_ble_eq_true rfl) dX0_serve_3 (fun s1 es1 => ?_)
  replace h := bst_i h s1 es1
  obtain ⟨h3, h⟩ := bck_i h
  obtain ⟨s2, v1, v2, h2, h⟩ := bclx_i h
  obtain ⟨h4, h⟩ := bck_i h
  refine r_seq (A := bJ κ s2 11 [(0, (2, a0)), (1, (0, a1))] [(0, v1)]) ?_ (fun k0 => r_xcallVW hκ (n' := 1) (index := 142) (w_X0_told Γ0 l0 h2) (lw_VW q833 q835 qs6 q121 q836) (by decide +kernel) (t := 0) h3 rfl rfl (by decide) rfl (Nat.le_of_ble_eq_true rfl) dX0_serve_8 (r_xj1 (fun _ => k0)) (r_xj2 (fun hn => absurd h4 hn)))
  exact r_iretH hκ hf h (nar_int _) dX0_serve_11
/-- EditsMeet.hear(I)I -/
def F_X0_hear (s0 : bS) (a0 a1 : Int) : Option (bS × Int) :=
  bck (bc s0 + 1 ≤ bCM ∧ bk s0 + 2 ≤ bKM) <|
  bst (blm s0 (500 + 20) [a0, a1]) fun s1 =>
  bck (bg s1 0 a0 0 = 1) <|
  bclx (F_X0_told s1 a0 (bnx s0 : Int)) fun s2 v1 v2 =>
  bck (v2 = -1) <|
  some (s2, v1)
set_option maxHeartbeats 4000000 in
set_option maxRecDepth 100000 in
theorem w_X0_hear (Γ0 : bG) (l0 : Launch) {s0 st' : bS} {v a0 a1 : Int} (h : F_X0_hear s0 a0 a1 = some (st', v)) : bCt Γ0 l0 yX0_hear cX0_hear 2 (some .int) 20 3236 [(2, a0), (0, a1)] s0 st' (some (0, v)) := by
  refine b_ent (own := RX0) (by decide +kernel) rfl (Nat.le_of_ble_eq_true rfl) (L := [(0, (2, a0)), (1, (0, a1))]) rfl ?_
  intro κ hκ hi hf
  unfold F_X0_hear at h
  refine r_aload_n hκ 0 rfl rfl dX0_hear_0 ?_
  refine r_aload_n hκ 0 rfl rfl dX0_hear_1 ?_
  refine r_iload_n hκ 1 rfl rfl dX0_hear_2 ?_
  obtain ⟨h1, h⟩ := bck_i h
  refine r_indyM hκ hi (k := 20) rfl rfl rfl rfl (lams_20 rfl) q3683 (v0 := a0) (xs := [a1]) rfl rfl (by decide) h1 rfl (Nat.le_of_ble_eq_true rfl) (Nat.le_of_ble_eq_true rfl) dX0_hear_3 (fun s1 es1 => ?_)
  replace h := bst_i h s1 es1
  obtain ⟨h3, h⟩ := bck_i h
  obtain ⟨s2, v1, v2, h2, h⟩ := bclx_i h
  obtain ⟨h4, h⟩ := bck_i h
  refine r_seq (A := bJ κ s2 11 [(0, (2, a0)), (1, (0, a1))] [(0, v1)]) ?_ (fun k0 => r_xcallVW hκ (n' := 1) (index := 142) (w_X0_told Γ0 l0 h2) (lw_VW q833 q835 qs6 q121 q836) (by decide +kernel) (t := 0) h3 rfl rfl (by decide) rfl (Nat.le_of_ble_eq_true rfl) dX0_hear_8 (r_xj1 (fun _ => k0)) (r_xj2 (fun hn => absurd h4 hn)))
  exact r_iretH hκ hf h (nar_int _) dX0_hear_11
/-- EditsMeet.meet()I -/
def F_X0_meet (s0 : bS) (a0 : Int) : Option (bS × Int) :=
  bck (bc s0 + 1 ≤ bCM ∧ bk s0 + 1 ≤ bKM) <|
  bst (blm s0 (500 + 21) [a0]) fun s1 =>
  bck (bg s1 0 a0 0 = 1) <|
  bclx (F_X0_told s1 a0 (bnx s0 : Int)) fun s2 v1 v2 =>
  bck (v2 = -1) <|
  some (s2, v1)
set_option maxHeartbeats 4000000 in
set_option maxRecDepth 100000 in
theorem w_X0_meet (Γ0 : bG) (l0 : Launch) {s0 st' : bS} {v a0 : Int} (h : F_X0_meet s0 a0 = some (st', v)) : bCt Γ0 l0 yX0_meet cX0_meet 1 (some .int) 20 3236 [(2, a0)] s0 st' (some (0, v)) := by
  refine b_ent (own := RX0) (by decide +kernel) rfl (Nat.le_of_ble_eq_true rfl) (L := [(0, (2, a0))]) rfl ?_
  intro κ hκ hi hf
  unfold F_X0_meet at h
  refine r_aload_n hκ 0 rfl rfl dX0_meet_0 ?_
  refine r_aload_n hκ 0 rfl rfl dX0_meet_1 ?_
  obtain ⟨h1, h⟩ := bck_i h
  refine r_indyM hκ hi (k := 21) rfl rfl rfl rfl (lams_21 rfl) q3683 (v0 := a0) (xs := []) rfl rfl (by decide) h1 rfl (Nat.le_of_ble_eq_true rfl) (Nat.le_of_ble_eq_true rfl) dX0_meet_2 (fun s1 es1 => ?_)
  replace h := bst_i h s1 es1
  obtain ⟨h3, h⟩ := bck_i h
  obtain ⟨s2, v1, v2, h2, h⟩ := bclx_i h
  obtain ⟨h4, h⟩ := bck_i h
  refine r_seq (A := bJ κ s2 10 [(0, (2, a0))] [(0, v1)]) ?_ (fun k0 => r_xcallVW hκ (n' := 1) (index := 142) (w_X0_told Γ0 l0 h2) (lw_VW q833 q835 qs6 q121 q836) (by decide +kernel) (t := 0) h3 rfl rfl (by decide) rfl (Nat.le_of_ble_eq_true rfl) dX0_meet_7 (r_xj1 (fun _ => k0)) (r_xj2 (fun hn => absurd h4 hn)))
  exact r_iretH hκ hf h (nar_int _) dX0_meet_10
/-- EditsMeet.undo(I)I -/
def F_X0_undo (s0 : bS) (a0 a1 : Int) : Option (bS × Int) :=
  bck (bc s0 + 1 ≤ bCM ∧ bk s0 + 2 ≤ bKM) <|
  bst (blm s0 (500 + 22) [a0, a1]) fun s1 =>
  bck (bg s1 0 a0 0 = 1) <|
  bclx (F_X0_told s1 a0 (bnx s0 : Int)) fun s2 v1 v2 =>
  bck (v2 = -1) <|
  some (s2, v1)
set_option maxHeartbeats 4000000 in
set_option maxRecDepth 100000 in
theorem w_X0_undo (Γ0 : bG) (l0 : Launch) {s0 st' : bS} {v a0 a1 : Int} (h : F_X0_undo s0 a0 a1 = some (st', v)) : bCt Γ0 l0 yX0_undo cX0_undo 2 (some .int) 20 3236 [(2, a0), (0, a1)] s0 st' (some (0, v)) := by
  refine b_ent (own := RX0) (by decide +kernel) rfl (Nat.le_of_ble_eq_true rfl) (L := [(0, (2, a0)), (1, (0, a1))]) rfl ?_
  intro κ hκ hi hf
  unfold F_X0_undo at h
  refine r_aload_n hκ 0 rfl rfl dX0_undo_0 ?_
  refine r_aload_n hκ 0 rfl rfl dX0_undo_1 ?_
  refine r_iload_n hκ 1 rfl rfl dX0_undo_2 ?_
  obtain ⟨h1, h⟩ := bck_i h
  refine r_indyM hκ hi (k := 22) rfl rfl rfl rfl (lams_22 rfl) q3683 (v0 := a0) (xs := [a1]) rfl rfl (by decide) h1 rfl (Nat.le_of_ble_eq_true rfl) (Nat.le_of_ble_eq_true rfl) dX0_undo_3 (fun s1 es1 => ?_)
  replace h := bst_i h s1 es1
  obtain ⟨h3, h⟩ := bck_i h
  obtain ⟨s2, v1, v2, h2, h⟩ := bclx_i h
  obtain ⟨h4, h⟩ := bck_i h
  refine r_seq (A := bJ κ s2 11 [(0, (2, a0)), (1, (0, a1))] [(0, v1)]) ?_ (fun k0 => r_xcallVW hκ (n' := 1) (index := 142) (w_X0_told Γ0 l0 h2) (lw_VW q833 q835 qs6 q121 q836) (by decide +kernel) (t := 0) h3 rfl rfl (by decide) rfl (Nat.le_of_ble_eq_true rfl) dX0_undo_8 (r_xj1 (fun _ => k0)) (r_xj2 (fun hn => absurd h4 hn)))
  exact r_iretH hκ hf h (nar_int _) dX0_undo_11
/-- EditsMeet.redo(I)I -/
def F_X0_redo (s0 : bS) (a0 a1 : Int) : Option (bS × Int) :=
  bck (bc s0 + 1 ≤ bCM ∧ bk s0 + 2 ≤ bKM) <|
  bst (blm s0 (500 + 23) [a0, a1]) fun s1 =>
  bck (bg s1 0 a0 0 = 1) <|
  bclx (F_X0_told s1 a0 (bnx s0 : Int)) fun s2 v1 v2 =>
  bck (v2 = -1) <|
  some (s2, v1)
set_option maxHeartbeats 4000000 in
set_option maxRecDepth 100000 in
theorem w_X0_redo (Γ0 : bG) (l0 : Launch) {s0 st' : bS} {v a0 a1 : Int} (h : F_X0_redo s0 a0 a1 = some (st', v)) : bCt Γ0 l0 yX0_redo cX0_redo 2 (some .int) 20 3236 [(2, a0), (0, a1)] s0 st' (some (0, v)) := by
  refine b_ent (own := RX0) (by decide +kernel) rfl (Nat.le_of_ble_eq_true rfl) (L := [(0, (2, a0)), (1, (0, a1))]) rfl ?_
  intro κ hκ hi hf
  unfold F_X0_redo at h
  refine r_aload_n hκ 0 rfl rfl dX0_redo_0 ?_
  refine r_aload_n hκ 0 rfl rfl dX0_redo_1 ?_
  refine r_iload_n hκ 1 rfl rfl dX0_redo_2 ?_
  obtain ⟨h1, h⟩ := bck_i h
  refine r_indyM hκ hi (k := 23) rfl rfl rfl rfl (lams_23 rfl) q3683 (v0 := a0) (xs := [a1]) rfl rfl (by decide) h1 rfl (Nat.le_of_ble_eq_true rfl) (Nat.le_of_ble_eq_true rfl) dX0_redo_3 (fun s1 es1 => ?_)
  replace h := bst_i h s1 es1
  obtain ⟨h3, h⟩ := bck_i h
  obtain ⟨s2, v1, v2, h2, h⟩ := bclx_i h
  obtain ⟨h4, h⟩ := bck_i h
  refine r_seq (A := bJ κ s2 11 [(0, (2, a0)), (1, (0, a1))] [(0, v1)]) ?_ (fun k0 => r_xcallVW hκ (n' := 1) (index := 142) (w_X0_told Γ0 l0 h2) (lw_VW q833 q835 qs6 q121 q836) (by decide +kernel) (t := 0) h3 rfl rfl (by decide) rfl (Nat.le_of_ble_eq_true rfl) dX0_redo_8 (r_xj1 (fun _ => k0)) (r_xj2 (fun hn => absurd h4 hn)))
  exact r_iretH hκ hf h (nar_int _) dX0_redo_11
/-- EditsMeet.point(III)I -/
def F_X0_point (s0 : bS) (a0 a1 a2 a3 : Int) : Option (bS × Int) :=
  bck (bc s0 + 1 ≤ bCM ∧ bk s0 + 4 ≤ bKM) <|
  bst (blm s0 (500 + 24) [a0, a1, a2, a3]) fun s1 =>
  bck (bg s1 0 a0 0 = 1) <|
  bclx (F_X0_told s1 a0 (bnx s0 : Int)) fun s2 v1 v2 =>
  bck (v2 = -1) <|
  some (s2, v1)
set_option maxHeartbeats 4000000 in
set_option maxRecDepth 100000 in
theorem w_X0_point (Γ0 : bG) (l0 : Launch) {s0 st' : bS} {v a0 a1 a2 a3 : Int} (h : F_X0_point s0 a0 a1 a2 a3 = some (st', v)) : bCt Γ0 l0 yX0_point cX0_point 4 (some .int) 20 3236 [(2, a0), (0, a1), (0, a2), (0, a3)] s0 st' (some (0, v)) := by
  refine b_ent (own := RX0) (by decide +kernel) rfl (Nat.le_of_ble_eq_true rfl) (L := [(0, (2, a0)), (1, (0, a1)), (2, (0, a2)), (3, (0, a3))]) rfl ?_
  intro κ hκ hi hf
  unfold F_X0_point at h
  refine r_aload_n hκ 0 rfl rfl dX0_point_0 ?_
  refine r_aload_n hκ 0 rfl rfl dX0_point_1 ?_
  refine r_iload_n hκ 1 rfl rfl dX0_point_2 ?_
  refine r_iload_n hκ 2 rfl rfl dX0_point_3 ?_
  refine r_iload_n hκ 3 rfl rfl dX0_point_4 ?_
  obtain ⟨h1, h⟩ := bck_i h
  refine r_indyM hκ hi (k := 24) rfl rfl rfl rfl (lams_24 rfl) q3683 (v0 := a0) (xs := [a1, a2, a3]) rfl rfl (by decide) h1 rfl (Nat.le_of_ble_eq_true rfl) (Nat.le_of_ble_eq_true rfl) dX0_point_5 (fun s1 es1 => ?_)
  replace h := bst_i h s1 es1
  obtain ⟨h3, h⟩ := bck_i h
  obtain ⟨s2, v1, v2, h2, h⟩ := bclx_i h
  obtain ⟨h4, h⟩ := bck_i h
  refine r_seq (A := bJ κ s2 13 [(0, (2, a0)), (1, (0, a1)), (2, (0, a2)), (3, (0, a3))] [(0, v1)]) ?_ (fun k0 => r_xcallVW hκ (n' := 1) (index := 142) (w_X0_told Γ0 l0 h2) (lw_VW q833 q835 qs6 q121 q836) (by decide +kernel) (t := 0) h3 rfl rfl (by decide) rfl (Nat.le_of_ble_eq_true rfl) dX0_point_10 (r_xj1 (fun _ => k0)) (r_xj2 (fun hn => absurd h4 hn)))
  exact r_iretH hκ hf h (nar_int _) dX0_point_13
/-- EditsMeet.cursor(II)I -/
def F_X0_cursor_r (b : Nat) (x0 : Int) (s0 : bS) : Option (bS × Int) :=
  match b with
  | 0 =>
    bck (bg s0 0 x0 0 = 1) <|
    bcl (F_X0_no s0 x0 (-2)) fun s3 v3 =>
    some (s3, v3)
  | _ => none
def F_X0_cursor (s0 : bS) (a0 a1 a2 : Int) : Option (bS × Int) :=
  bcl (F_X0_isClient s0 a1) fun s1 v1 =>
  bte (i32 v1 = 0)
  (F_X0_cursor_r 0 a0 s1)
  (bcl (F_X0_isIn s1 a2 0 1) fun s2 v2 =>
  bte (i32 v2 = 0)
  (F_X0_cursor_r 0 a0 s2)
  (bck (bg s2 0 a0 0 = 1) <|
  bck (bg s2 0 (bg s2 34 a0 0) 0 = 2) <|
  bck (bg s2 0 (bg s2 66 (bg s2 34 a0 0) 0) 0 = 1007 ∧ (0 : Int) ≤ a1 ∧ a1 < bg s2 4 (bg s2 66 (bg s2 34 a0 0) 0) 0) <|
  bck (bg s2 0 (bg s2 10 (bg s2 66 (bg s2 34 a0 0) 0) a1) 0 = 8) <|
  bck (bg s2 0 (bg s2 150 (bg s2 10 (bg s2 66 (bg s2 34 a0 0) 0) a1) 0) 0 = 1003 ∧ (0 : Int) ≤ a2 ∧ a2 < bg s2 4 (bg s2 150 (bg s2 10 (bg s2 66 (bg s2 34 a0 0) 0) a1) 0) 0) <|
  some (s2, (bg s2 20 (bg s2 150 (bg s2 10 (bg s2 66 (bg s2 34 a0 0) 0) a1) 0) a2))))
set_option maxHeartbeats 4000000 in
set_option maxRecDepth 100000 in
set_option synthInstance.maxHeartbeats 4000000 in
theorem w_X0_cursor_r {Γ0 : bG} {l0 : Launch} {κ : bK} {st' : bS} {v : Int} (hκ : bOk κ Γ0 l0 cX0_cursor RX0 3 2 42) (hi : bIn κ yX0_cursor) (hf : bFin κ (some .int) st' (some (0, v))) (b : Nat) (x0 : Int) (s0 : bS) (h : F_X0_cursor_r b x0 s0 = some (st', v)) : match (generalizing := false) b with | 0 => bJ κ s0 33 [(0, (2, x0))] [] | _ => True := by
  unfold F_X0_cursor_r at h
  match b, h with
  | 0, h =>
      refine r_aload_n hκ 0 rfl rfl dX0_cursor_33 ?_
      refine r_bipush hκ (by decide) dX0_cursor_34 ?_
      obtain ⟨h12, h⟩ := bck_i h
      obtain ⟨s3, v3, h13, h⟩ := bcl_i h
      refine r_callV hκ (n' := 1) (index := 79) (w_X0_no Γ0 l0 h13) (lw_V q627 q629 qs2 q121 q630) (by decide +kernel) (t := 0) h12 rfl rfl (by decide) rfl (Nat.le_of_ble_eq_true rfl) dX0_cursor_36 ?_
      exact r_iretH hκ hf h (nar_int _) dX0_cursor_39
  | b + 1, h => trivial
set_option maxHeartbeats 4000000 in
set_option maxRecDepth 100000 in
theorem w_X0_cursor (Γ0 : bG) (l0 : Launch) {s0 st' : bS} {v a0 a1 a2 : Int} (h : F_X0_cursor s0 a0 a1 a2 = some (st', v)) : bCt Γ0 l0 yX0_cursor cX0_cursor 3 (some .int) 2 42 [(2, a0), (0, a1), (0, a2)] s0 st' (some (0, v)) := by
  refine b_ent (own := RX0) (by decide +kernel) rfl (Nat.le_of_ble_eq_true rfl) (L := [(0, (2, a0)), (1, (0, a1)), (2, (0, a2))]) rfl ?_
  intro κ hκ hi hf
  unfold F_X0_cursor at h
  refine r_iload_n hκ 1 rfl rfl dX0_cursor_0 ?_
  obtain ⟨s1, v1, h1, h⟩ := bcl_i h
  refine r_callS hκ (n' := 1) (index := 62) (w_X0_isClient Γ0 l0 h1) (lw_S q2159 q2160 q121 q2161) (by decide +kernel) rfl (by decide) rfl (Nat.le_of_ble_eq_true rfl) dX0_cursor_1 ?_
  refine r_if_eq hκ (tgt := 33) (by decide) dX0_cursor_4 (fun h2 => ?_) (fun h2 => ?_)
  · replace h := (bte_i h).1 h2
    exact r_sub [0] rfl (w_X0_cursor_r hκ hi hf 0 _ _ h)
  · replace h := (bte_i h).2 h2
    refine r_iload_n hκ 2 rfl rfl dX0_cursor_7 ?_
    refine r_iconst hκ dX0_cursor_8 ?_
    refine r_iconst hκ dX0_cursor_9 ?_
    obtain ⟨s2, v2, h3, h⟩ := bcl_i h
    refine r_callS hκ (n' := 3) (index := 45) (w_X0_isIn Γ0 l0 h3) (lw_S q624 q625 q121 q626) (by decide +kernel) rfl (by decide) rfl (Nat.le_of_ble_eq_true rfl) dX0_cursor_10 ?_
    refine r_if_eq hκ (tgt := 33) (by decide) dX0_cursor_13 (fun h4 => ?_) (fun h4 => ?_)
    · replace h := (bte_i h).1 h4
      exact r_sub [0] rfl (w_X0_cursor_r hκ hi hf 0 _ _ h)
    · replace h := (bte_i h).2 h4
      refine r_aload_n hκ 0 rfl rfl dX0_cursor_16 ?_
      obtain ⟨h5, h⟩ := bck_i h
      refine r_get hκ (t := 0) (k := 0) (r := 34) h5 rfl in_X0 (by decide) rfl q573 (Or.inl rfl) dX0_cursor_17 ?_
      obtain ⟨h6, h⟩ := bck_i h
      refine r_get hκ (t := 1) (k := 0) (r := 66) h6 rfl in_X1 (by decide) rfl q540 (Or.inl rfl) dX0_cursor_20 ?_
      refine r_iload_n hκ 1 rfl rfl dX0_cursor_23 ?_
      obtain ⟨⟨h7, h8⟩, h⟩ := bck_i h
      refine r_aald hκ (t := 7) (by decide) h7 h8 dX0_cursor_24 ?_
      obtain ⟨h9, h⟩ := bck_i h
      refine r_get hκ (t := 7) (k := 1) (r := 150) h9 rfl in_X9 (by decide) rfl q488 (Or.inl rfl) dX0_cursor_25 ?_
      refine r_iload_n hκ 2 rfl rfl dX0_cursor_28 ?_
      obtain ⟨⟨h10, h11⟩, h⟩ := bck_i h
      refine r_iald hκ h10 h11 dX0_cursor_29 ?_
      refine r_goto hκ (tgt := 39) (by decide) dX0_cursor_30 ?_
      exact r_iretH hκ hf h (nar_int _) dX0_cursor_39
/-- EditsMeet.partsOf(LEditsMeet$Edit;)I -/
def F_X0_partsOf (s0 : bS) (a0 : Int) : Option (bS × Int) :=
  bte (a0 < 0)
  (some (s0, 0))
  (bck (bg s0 0 a0 0 = 7) <|
  bcl (F_X8_many s0 a0) fun s1 v1 =>
  some (s1, v1))
set_option maxHeartbeats 4000000 in
set_option maxRecDepth 100000 in
theorem w_X0_partsOf (Γ0 : bG) (l0 : Launch) {s0 st' : bS} {v a0 : Int} (h : F_X0_partsOf s0 a0 = some (st', v)) : bCt Γ0 l0 yX0_partsOf cX0_partsOf 1 (some .int) 2 40 [(2, a0)] s0 st' (some (0, v)) := by
  refine b_ent (own := RX0) (by decide +kernel) rfl (Nat.le_of_ble_eq_true rfl) (L := [(0, (2, a0))]) rfl ?_
  intro κ hκ hi hf
  unfold F_X0_partsOf at h
  refine r_aload_n hκ 0 rfl rfl dX0_partsOf_0 ?_
  refine r_ifnonnull hκ (tgt := 8) (by decide) dX0_partsOf_1 (fun h1 => ?_) (fun h1 => ?_)
  · replace h := (bte_i h).2 h1
    refine r_aload_n hκ 0 rfl rfl dX0_partsOf_8 ?_
    obtain ⟨h2, h⟩ := bck_i h
    obtain ⟨s1, v1, h3, h⟩ := bcl_i h
    refine r_callV hκ (n' := 0) (index := 179) (w_X8_many Γ0 l0 h3) (lw_V q806 q807 q808 q140 q809) (by decide +kernel) (t := 6) h2 rfl rfl (by decide) rfl (Nat.le_of_ble_eq_true rfl) dX0_partsOf_9 ?_
    exact r_iretH hκ hf h (nar_int _) dX0_partsOf_12
  · replace h := (bte_i h).1 h1
    refine r_iconst hκ dX0_partsOf_4 ?_
    refine r_goto hκ (tgt := 12) (by decide) dX0_partsOf_5 ?_
    exact r_iretH hκ hf h (nar_int _) dX0_partsOf_12
/-- EditsMeet.clientOf(II)I -/
def F_X0_clientOf_r (b : Nat) (x0 : Int) (s0 : bS) : Option (bS × Int) :=
  match b with
  | 0 =>
    bck (bg s0 0 x0 0 = 1) <|
    bcl (F_X0_no s0 x0 (-2)) fun s10 v10 =>
    some (s10, v10)
  | _ => none
def F_X0_clientOf (s0 : bS) (a0 a1 a2 : Int) : Option (bS × Int) :=
  bcl (F_X0_isClient s0 a1) fun s1 v1 =>
  bte (i32 v1 = 0)
  (F_X0_clientOf_r 0 a0 s1)
  (bcl (F_X0_isIn s1 a2 0 6) fun s2 v2 =>
  bte (i32 v2 = 0)
  (F_X0_clientOf_r 0 a0 s2)
  (bck (bg s2 0 a0 0 = 1) <|
  bck (bg s2 0 (bg s2 34 a0 0) 0 = 2) <|
  bck (bg s2 0 (bg s2 66 (bg s2 34 a0 0) 0) 0 = 1007 ∧ (0 : Int) ≤ a1 ∧ a1 < bg s2 4 (bg s2 66 (bg s2 34 a0 0) 0) 0) <|
  bte (b_t a2 = 0) (bck (bg s2 0 (bg s2 10 (bg s2 66 (bg s2 34 a0 0) 0) a1) 0 = 8) <|
  some (s2, (bg s2 164 (bg s2 10 (bg s2 66 (bg s2 34 a0 0) 0) a1) 0))) (bte (b_t a2 = 1) (bck (bg s2 0 (bg s2 10 (bg s2 66 (bg s2 34 a0 0) 0) a1) 0 = 8) <|
  bcl (F_X9_sent s2 (bg s2 10 (bg s2 66 (bg s2 34 a0 0) 0) a1)) fun s3 v3 =>
  bcl (F_X0_partsOf s3 v3) fun s4 v4 =>
  some (s4, v4)) (bte (b_t a2 = 2) (bck (bg s2 0 (bg s2 10 (bg s2 66 (bg s2 34 a0 0) 0) a1) 0 = 8) <|
  bte (i32 (bg s2 172 (bg s2 10 (bg s2 66 (bg s2 34 a0 0) 0) a1) 0) = 0)
  (some (s2, 0))
  (bck (bg s2 0 (bg s2 10 (bg s2 66 (bg s2 34 a0 0) 0) a1) 0 = 8) <|
  bte (i32 (bg s2 184 (bg s2 10 (bg s2 66 (bg s2 34 a0 0) 0) a1) 0) = 0)
  (some (s2, 0))
  (some (s2, 1)))) (bte (b_t a2 = 3) (bck (bg s2 0 (bg s2 10 (bg s2 66 (bg s2 34 a0 0) 0) a1) 0 = 8) <|
  bcl (F_X9_waits s2 (bg s2 10 (bg s2 66 (bg s2 34 a0 0) 0) a1)) fun s5 v5 =>
  bcl (F_X0_partsOf s5 v5) fun s6 v6 =>
  some (s6, v6)) (bte (b_t a2 = 4) (bck (bg s2 0 (bg s2 10 (bg s2 66 (bg s2 34 a0 0) 0) a1) 0 = 8) <|
  bck (bg s2 0 (bg s2 154 (bg s2 10 (bg s2 66 (bg s2 34 a0 0) 0) a1) 0) 0 = 9) <|
  bcl (F_X10_size s2 (bg s2 154 (bg s2 10 (bg s2 66 (bg s2 34 a0 0) 0) a1) 0)) fun s7 v7 =>
  some (s7, v7)) (bte (b_t a2 = 5) (bck (bg s2 0 (bg s2 10 (bg s2 66 (bg s2 34 a0 0) 0) a1) 0 = 8) <|
  bck (bg s2 0 (bg s2 158 (bg s2 10 (bg s2 66 (bg s2 34 a0 0) 0) a1) 0) 0 = 9) <|
  bcl (F_X10_size s2 (bg s2 158 (bg s2 10 (bg s2 66 (bg s2 34 a0 0) 0) a1) 0)) fun s8 v8 =>
  some (s8, v8)) (bck (bg s2 0 a0 0 = 1) <|
  bck (bg s2 0 (bg s2 34 a0 0) 0 = 2) <|
  bck (bg s2 0 (bg s2 74 (bg s2 34 a0 0) 0) 0 = 21) <|
  bcl (F_J10_size s2 (bg s2 74 (bg s2 34 a0 0) 0)) fun s9 v9 =>
  bck (bg s9 0 (bg s2 10 (bg s2 66 (bg s2 34 a0 0) 0) a1) 0 = 8) <|
  some (s9, (v9 - (bg s9 164 (bg s2 10 (bg s2 66 (bg s2 34 a0 0) 0) a1) 0)))))))))))
set_option maxHeartbeats 4000000 in
set_option maxRecDepth 100000 in
set_option synthInstance.maxHeartbeats 4000000 in
theorem w_X0_clientOf_r {Γ0 : bG} {l0 : Launch} {κ : bK} {st' : bS} {v : Int} (hκ : bOk κ Γ0 l0 cX0_clientOf RX0 4 3 60) (hi : bIn κ yX0_clientOf) (hf : bFin κ (some .int) st' (some (0, v))) (b : Nat) (x0 : Int) (s0 : bS) (h : F_X0_clientOf_r b x0 s0 = some (st', v)) : match (generalizing := false) b with | 0 => bJ κ s0 17 [(0, (2, x0))] [] | _ => True := by
  unfold F_X0_clientOf_r at h
  match b, h with
  | 0, h =>
      refine r_aload_n hκ 0 rfl rfl dX0_clientOf_17 ?_
      refine r_bipush hκ (by decide) dX0_clientOf_18 ?_
      obtain ⟨h37, h⟩ := bck_i h
      obtain ⟨s10, v10, h38, h⟩ := bcl_i h
      refine r_callV hκ (n' := 1) (index := 79) (w_X0_no Γ0 l0 h38) (lw_V q627 q629 qs2 q121 q630) (by decide +kernel) (t := 0) h37 rfl rfl (by decide) rfl (Nat.le_of_ble_eq_true rfl) dX0_clientOf_20 ?_
      exact r_iretH hκ hf h (nar_int _) dX0_clientOf_23
  | b + 1, h => trivial
set_option maxHeartbeats 4000000 in
set_option maxRecDepth 100000 in
theorem w_X0_clientOf (Γ0 : bG) (l0 : Launch) {s0 st' : bS} {v a0 a1 a2 : Int} (h : F_X0_clientOf s0 a0 a1 a2 = some (st', v)) : bCt Γ0 l0 yX0_clientOf cX0_clientOf 4 (some .int) 3 60 [(2, a0), (0, a1), (0, a2)] s0 st' (some (0, v)) := by
  refine b_ent (own := RX0) (by decide +kernel) rfl (Nat.le_of_ble_eq_true rfl) (L := [(0, (2, a0)), (1, (0, a1)), (2, (0, a2))]) rfl ?_
  intro κ hκ hi hf
  unfold F_X0_clientOf at h
  refine r_iload_n hκ 1 rfl rfl dX0_clientOf_0 ?_
  obtain ⟨s1, v1, h1, h⟩ := bcl_i h
  refine r_callS hκ (n' := 1) (index := 62) (w_X0_isClient Γ0 l0 h1) (lw_S q2159 q2160 q121 q2161) (by decide +kernel) rfl (by decide) rfl (Nat.le_of_ble_eq_true rfl) dX0_clientOf_1 ?_
  refine r_if_eq hκ (tgt := 17) (by decide) dX0_clientOf_4 (fun h2 => ?_) (fun h2 => ?_)
  · replace h := (bte_i h).1 h2
    exact r_sub [0] rfl (w_X0_clientOf_r hκ hi hf 0 _ _ h)
  · replace h := (bte_i h).2 h2
    refine r_iload_n hκ 2 rfl rfl dX0_clientOf_7 ?_
    refine r_iconst hκ dX0_clientOf_8 ?_
    refine r_bipush hκ (by decide) dX0_clientOf_9 ?_
    obtain ⟨s2, v2, h3, h⟩ := bcl_i h
    refine r_callS hκ (n' := 3) (index := 45) (w_X0_isIn Γ0 l0 h3) (lw_S q624 q625 q121 q626) (by decide +kernel) rfl (by decide) rfl (Nat.le_of_ble_eq_true rfl) dX0_clientOf_11 ?_
    refine r_if_ne hκ (tgt := 24) (by decide) dX0_clientOf_14 (fun h4 => ?_) (fun h4 => ?_)
    · replace h := (bte_i h).2 h4
      refine r_aload_n hκ 0 rfl rfl dX0_clientOf_24 ?_
      obtain ⟨h5, h⟩ := bck_i h
      refine r_get hκ (t := 0) (k := 0) (r := 34) h5 rfl in_X0 (by decide) rfl q573 (Or.inl rfl) dX0_clientOf_25 ?_
      obtain ⟨h6, h⟩ := bck_i h
      refine r_get hκ (t := 1) (k := 0) (r := 66) h6 rfl in_X1 (by decide) rfl q540 (Or.inl rfl) dX0_clientOf_28 ?_
      refine r_iload_n hκ 1 rfl rfl dX0_clientOf_31 ?_
      obtain ⟨⟨h7, h8⟩, h⟩ := bck_i h
      refine r_aald hκ (t := 7) (by decide) h7 h8 dX0_clientOf_32 ?_
      refine r_astore_n hκ (L2 := [(3, (2, (bg s2 10 (bg s2 66 (bg s2 34 a0 0) 0) a1))), (0, (2, a0)), (1, (0, a1)), (2, (0, a2))]) (by decide) rfl rfl dX0_clientOf_33 ?_
      refine r_iload_n hκ 3 rfl rfl dX0_clientOf_34 ?_
      by_cases h9 : b_t a2 = 0
      · replace h := (bte_i h).1 h9
        refine r_tswIn hκ (kk := 0) (tgt := 72) h9 (by decide) (by decide) rfl (by decide) dX0_clientOf_35 ?_
        refine r_aload_n hκ 0 rfl rfl dX0_clientOf_72 ?_
        obtain ⟨h10, h⟩ := bck_i h
        refine r_get hκ (t := 7) (k := 5) (r := 164) h10 rfl in_X9 (by decide) rfl q496 (Or.inl rfl) dX0_clientOf_73 ?_
        refine r_goto hκ (tgt := 156) (by decide) dX0_clientOf_76 ?_
        exact r_iretH hκ hf h (nar_int _) dX0_clientOf_156
      replace h := (bte_i h).2 h9
      by_cases h11 : b_t a2 = 1
      · replace h := (bte_i h).1 h11
        refine r_tswIn hκ (kk := 1) (tgt := 79) h11 (by decide) (by decide) rfl (by decide) dX0_clientOf_35 ?_
        refine r_aload_n hκ 0 rfl rfl dX0_clientOf_79 ?_
        obtain ⟨h12, h⟩ := bck_i h
        obtain ⟨s3, v3, h13, h⟩ := bcl_i h
        refine r_callV hκ (n' := 0) (index := 374) (w_X9_sent Γ0 l0 h13) (lw_V q2696 q2697 q2698 q141 q2699) (by decide +kernel) (t := 7) h12 rfl rfl (by decide) rfl (Nat.le_of_ble_eq_true rfl) dX0_clientOf_80 ?_
        obtain ⟨s4, v4, h14, h⟩ := bcl_i h
        refine r_callS hκ (n' := 1) (index := 377) (w_X0_partsOf Γ0 l0 h14) (lw_S q2700 q2701 q121 q2702) (by decide +kernel) rfl (by decide) rfl (Nat.le_of_ble_eq_true rfl) dX0_clientOf_83 ?_
        refine r_goto hκ (tgt := 156) (by decide) dX0_clientOf_86 ?_
        exact r_iretH hκ hf h (nar_int _) dX0_clientOf_156
      replace h := (bte_i h).2 h11
      by_cases h15 : b_t a2 = 2
      · replace h := (bte_i h).1 h15
        refine r_tswIn hκ (kk := 2) (tgt := 89) h15 (by decide) (by decide) rfl (by decide) dX0_clientOf_35 ?_
        refine r_aload_n hκ 0 rfl rfl dX0_clientOf_89 ?_
        obtain ⟨h16, h⟩ := bck_i h
        refine r_getN hκ (ref := "EditsMeet$Client") (host := "EditsMeet") (t := 7) (k := 7) (r := 172) h16 rfl in_X9 (by decide) rfl (by decide) rfl dX0_clientOf_90 ?_
        refine r_if_eq hκ (tgt := 107) (by decide) dX0_clientOf_93 (fun h17 => ?_) (fun h17 => ?_)
        · replace h := (bte_i h).1 h17
          refine r_iconst hκ dX0_clientOf_107 ?_
          refine r_goto hκ (tgt := 156) (by decide) dX0_clientOf_108 ?_
          exact r_iretH hκ hf h (nar_int _) dX0_clientOf_156
        · replace h := (bte_i h).2 h17
          refine r_aload_n hκ 0 rfl rfl dX0_clientOf_96 ?_
          obtain ⟨h18, h⟩ := bck_i h
          refine r_get hκ (t := 7) (k := 10) (r := 184) h18 rfl in_X9 (by decide) rfl q506 (Or.inl rfl) dX0_clientOf_97 ?_
          refine r_if_eq hκ (tgt := 107) (by decide) dX0_clientOf_100 (fun h19 => ?_) (fun h19 => ?_)
          · replace h := (bte_i h).1 h19
            refine r_iconst hκ dX0_clientOf_107 ?_
            refine r_goto hκ (tgt := 156) (by decide) dX0_clientOf_108 ?_
            exact r_iretH hκ hf h (nar_int _) dX0_clientOf_156
          · replace h := (bte_i h).2 h19
            refine r_iconst hκ dX0_clientOf_103 ?_
            refine r_goto hκ (tgt := 156) (by decide) dX0_clientOf_104 ?_
            exact r_iretH hκ hf h (nar_int _) dX0_clientOf_156
      replace h := (bte_i h).2 h15
      by_cases h20 : b_t a2 = 3
      · replace h := (bte_i h).1 h20
        refine r_tswIn hκ (kk := 3) (tgt := 111) h20 (by decide) (by decide) rfl (by decide) dX0_clientOf_35 ?_
        refine r_aload_n hκ 0 rfl rfl dX0_clientOf_111 ?_
        obtain ⟨h21, h⟩ := bck_i h
        obtain ⟨s5, v5, h22, h⟩ := bcl_i h
        refine r_callV hκ (n' := 0) (index := 388) (w_X9_waits Γ0 l0 h22) (lw_V q2703 q2704 q2705 q141 q2706) (by decide +kernel) (t := 7) h21 rfl rfl (by decide) rfl (Nat.le_of_ble_eq_true rfl) dX0_clientOf_112 ?_
        obtain ⟨s6, v6, h23, h⟩ := bcl_i h
        refine r_callS hκ (n' := 1) (index := 377) (w_X0_partsOf Γ0 l0 h23) (lw_S q2700 q2701 q121 q2702) (by decide +kernel) rfl (by decide) rfl (Nat.le_of_ble_eq_true rfl) dX0_clientOf_115 ?_
        refine r_goto hκ (tgt := 156) (by decide) dX0_clientOf_118 ?_
        exact r_iretH hκ hf h (nar_int _) dX0_clientOf_156
      replace h := (bte_i h).2 h20
      by_cases h24 : b_t a2 = 4
      · replace h := (bte_i h).1 h24
        refine r_tswIn hκ (kk := 4) (tgt := 121) h24 (by decide) (by decide) rfl (by decide) dX0_clientOf_35 ?_
        refine r_aload_n hκ 0 rfl rfl dX0_clientOf_121 ?_
        obtain ⟨h25, h⟩ := bck_i h
        refine r_get hκ (t := 7) (k := 2) (r := 154) h25 rfl in_X9 (by decide) rfl q490 (Or.inl rfl) dX0_clientOf_122 ?_
        obtain ⟨h26, h⟩ := bck_i h
        obtain ⟨s7, v7, h27, h⟩ := bcl_i h
        refine r_callV hκ (n' := 0) (index := 359) (w_X10_size Γ0 l0 h27) (lw_V q2641 q2642 q2643 q142 q2644) (by decide +kernel) (t := 8) h26 rfl rfl (by decide) rfl (Nat.le_of_ble_eq_true rfl) dX0_clientOf_125 ?_
        refine r_goto hκ (tgt := 156) (by decide) dX0_clientOf_128 ?_
        exact r_iretH hκ hf h (nar_int _) dX0_clientOf_156
      replace h := (bte_i h).2 h24
      by_cases h28 : b_t a2 = 5
      · replace h := (bte_i h).1 h28
        refine r_tswIn hκ (kk := 5) (tgt := 131) h28 (by decide) (by decide) rfl (by decide) dX0_clientOf_35 ?_
        refine r_aload_n hκ 0 rfl rfl dX0_clientOf_131 ?_
        obtain ⟨h29, h⟩ := bck_i h
        refine r_get hκ (t := 7) (k := 3) (r := 158) h29 rfl in_X9 (by decide) rfl q492 (Or.inl rfl) dX0_clientOf_132 ?_
        obtain ⟨h30, h⟩ := bck_i h
        obtain ⟨s8, v8, h31, h⟩ := bcl_i h
        refine r_callV hκ (n' := 0) (index := 359) (w_X10_size Γ0 l0 h31) (lw_V q2641 q2642 q2643 q142 q2644) (by decide +kernel) (t := 8) h30 rfl rfl (by decide) rfl (Nat.le_of_ble_eq_true rfl) dX0_clientOf_135 ?_
        refine r_goto hκ (tgt := 156) (by decide) dX0_clientOf_138 ?_
        exact r_iretH hκ hf h (nar_int _) dX0_clientOf_156
      replace h := (bte_i h).2 h28
      refine r_tswOut hκ (tgt := 141) (by omega) (by decide) dX0_clientOf_35 ?_
      refine r_aload_n hκ 1 rfl rfl dX0_clientOf_141 ?_
      obtain ⟨h32, h⟩ := bck_i h
      refine r_get hκ (t := 0) (k := 0) (r := 34) h32 rfl in_X0 (by decide) rfl q573 (Or.inl rfl) dX0_clientOf_142 ?_
      obtain ⟨h33, h⟩ := bck_i h
      refine r_get hκ (t := 1) (k := 2) (r := 74) h33 rfl in_X1 (by decide) rfl q544 (Or.inl rfl) dX0_clientOf_145 ?_
      obtain ⟨h34, h⟩ := bck_i h
      obtain ⟨s9, v9, h35, h⟩ := bcl_i h
      refine r_callV hκ (n' := 0) (index := 339) (w_J10_size Γ0 l0 h35) (lw_V q2531 q811 q812 q134 q813) (by decide +kernel) (t := 20) h34 rfl rfl (by decide) rfl (Nat.le_of_ble_eq_true rfl) dX0_clientOf_148 ?_
      refine r_aload_n hκ 0 rfl rfl dX0_clientOf_151 ?_
      obtain ⟨h36, h⟩ := bck_i h
      refine r_get hκ (t := 7) (k := 5) (r := 164) h36 rfl in_X9 (by decide) rfl q496 (Or.inl rfl) dX0_clientOf_152 ?_
      refine r_isub hκ dX0_clientOf_155 ?_
      exact r_iretH hκ hf h (nar_int _) dX0_clientOf_156
    · replace h := (bte_i h).1 h4
      exact r_sub [0] rfl (w_X0_clientOf_r hκ hi hf 0 _ _ h)
/-- EditsMeet.takes(III)I -/
def F_X0_takes (s0 : bS) (a0 a1 a2 a3 : Int) : Option (bS × Int) :=
  bck (bc s0 + 1 ≤ bCM ∧ bk s0 + 4 ≤ bKM) <|
  bst (blm s0 (500 + 25) [a0, a1, a2, a3]) fun s1 =>
  bck (bg s1 0 a0 0 = 1) <|
  bclx (F_X0_told s1 a0 (bnx s0 : Int)) fun s2 v1 v2 =>
  bck (v2 = -1) <|
  some (s2, v1)
set_option maxHeartbeats 4000000 in
set_option maxRecDepth 100000 in
theorem w_X0_takes (Γ0 : bG) (l0 : Launch) {s0 st' : bS} {v a0 a1 a2 a3 : Int} (h : F_X0_takes s0 a0 a1 a2 a3 = some (st', v)) : bCt Γ0 l0 yX0_takes cX0_takes 4 (some .int) 20 3236 [(2, a0), (0, a1), (0, a2), (0, a3)] s0 st' (some (0, v)) := by
  refine b_ent (own := RX0) (by decide +kernel) rfl (Nat.le_of_ble_eq_true rfl) (L := [(0, (2, a0)), (1, (0, a1)), (2, (0, a2)), (3, (0, a3))]) rfl ?_
  intro κ hκ hi hf
  unfold F_X0_takes at h
  refine r_aload_n hκ 0 rfl rfl dX0_takes_0 ?_
  refine r_aload_n hκ 0 rfl rfl dX0_takes_1 ?_
  refine r_iload_n hκ 1 rfl rfl dX0_takes_2 ?_
  refine r_iload_n hκ 2 rfl rfl dX0_takes_3 ?_
  refine r_iload_n hκ 3 rfl rfl dX0_takes_4 ?_
  obtain ⟨h1, h⟩ := bck_i h
  refine r_indyM hκ hi (k := 25) rfl rfl rfl rfl (lams_25 rfl) q3683 (v0 := a0) (xs := [a1, a2, a3]) rfl rfl (by decide) h1 rfl (Nat.le_of_ble_eq_true rfl) (Nat.le_of_ble_eq_true rfl) dX0_takes_5 (fun s1 es1 => ?_)
  replace h := bst_i h s1 es1
  obtain ⟨h3, h⟩ := bck_i h
  obtain ⟨s2, v1, v2, h2, h⟩ := bclx_i h
  obtain ⟨h4, h⟩ := bck_i h
  refine r_seq (A := bJ κ s2 13 [(0, (2, a0)), (1, (0, a1)), (2, (0, a2)), (3, (0, a3))] [(0, v1)]) ?_ (fun k0 => r_xcallVW hκ (n' := 1) (index := 142) (w_X0_told Γ0 l0 h2) (lw_VW q833 q835 qs6 q121 q836) (by decide +kernel) (t := 0) h3 rfl rfl (by decide) rfl (Nat.le_of_ble_eq_true rfl) dX0_takes_10 (r_xj1 (fun _ => k0)) (r_xj2 (fun hn => absurd h4 hn)))
  exact r_iretH hκ hf h (nar_int _) dX0_takes_13
/-- EditsMeet.revision(II)I -/
def F_X0_revision (s0 : bS) (a0 a1 a2 : Int) : Option (bS × Int) :=
  bck (bc s0 + 1 ≤ bCM ∧ bk s0 + 3 ≤ bKM) <|
  bst (blm s0 (500 + 26) [a0, a1, a2]) fun s1 =>
  bck (bg s1 0 a0 0 = 1) <|
  bclx (F_X0_told s1 a0 (bnx s0 : Int)) fun s2 v1 v2 =>
  bck (v2 = -1) <|
  some (s2, v1)
set_option maxHeartbeats 4000000 in
set_option maxRecDepth 100000 in
theorem w_X0_revision (Γ0 : bG) (l0 : Launch) {s0 st' : bS} {v a0 a1 a2 : Int} (h : F_X0_revision s0 a0 a1 a2 = some (st', v)) : bCt Γ0 l0 yX0_revision cX0_revision 3 (some .int) 20 3236 [(2, a0), (0, a1), (0, a2)] s0 st' (some (0, v)) := by
  refine b_ent (own := RX0) (by decide +kernel) rfl (Nat.le_of_ble_eq_true rfl) (L := [(0, (2, a0)), (1, (0, a1)), (2, (0, a2))]) rfl ?_
  intro κ hκ hi hf
  unfold F_X0_revision at h
  refine r_aload_n hκ 0 rfl rfl dX0_revision_0 ?_
  refine r_aload_n hκ 0 rfl rfl dX0_revision_1 ?_
  refine r_iload_n hκ 1 rfl rfl dX0_revision_2 ?_
  refine r_iload_n hκ 2 rfl rfl dX0_revision_3 ?_
  obtain ⟨h1, h⟩ := bck_i h
  refine r_indyM hκ hi (k := 26) rfl rfl rfl rfl (lams_26 rfl) q3683 (v0 := a0) (xs := [a1, a2]) rfl rfl (by decide) h1 rfl (Nat.le_of_ble_eq_true rfl) (Nat.le_of_ble_eq_true rfl) dX0_revision_4 (fun s1 es1 => ?_)
  replace h := bst_i h s1 es1
  obtain ⟨h3, h⟩ := bck_i h
  obtain ⟨s2, v1, v2, h2, h⟩ := bclx_i h
  obtain ⟨h4, h⟩ := bck_i h
  refine r_seq (A := bJ κ s2 12 [(0, (2, a0)), (1, (0, a1)), (2, (0, a2))] [(0, v1)]) ?_ (fun k0 => r_xcallVW hκ (n' := 1) (index := 142) (w_X0_told Γ0 l0 h2) (lw_VW q833 q835 qs6 q121 q836) (by decide +kernel) (t := 0) h3 rfl rfl (by decide) rfl (Nat.le_of_ble_eq_true rfl) dX0_revision_9 (r_xj1 (fun _ => k0)) (r_xj2 (fun hn => absurd h4 hn)))
  exact r_iretH hκ hf h (nar_int _) dX0_revision_12
/-- EditsMeet.length(I)I -/
def F_X0_length (s0 : bS) (a0 a1 : Int) : Option (bS × Int) :=
  bcl (F_X0_isText s0 a1) fun s1 v1 =>
  bte (i32 v1 = 0)
  (bck (bg s1 0 a0 0 = 1) <|
  bcl (F_X0_no s1 a0 (-2)) fun s2 v2 =>
  some (s2, v2))
  (bck (bg s1 0 a0 0 = 1) <|
  bck (bg s1 0 (bg s1 34 a0 0) 0 = 2) <|
  bcl (F_X1_text s1 (bg s1 34 a0 0) a1) fun s3 v3 =>
  bck (bg s3 0 v3 0 = 3) <|
  bcl (F_X2_length s3 v3) fun s4 v4 =>
  some (s4, v4))
set_option maxHeartbeats 4000000 in
set_option maxRecDepth 100000 in
theorem w_X0_length (Γ0 : bG) (l0 : Launch) {s0 st' : bS} {v a0 a1 : Int} (h : F_X0_length s0 a0 a1 = some (st', v)) : bCt Γ0 l0 yX0_length cX0_length 2 (some .int) 3 60 [(2, a0), (0, a1)] s0 st' (some (0, v)) := by
  refine b_ent (own := RX0) (by decide +kernel) rfl (Nat.le_of_ble_eq_true rfl) (L := [(0, (2, a0)), (1, (0, a1))]) rfl ?_
  intro κ hκ hi hf
  unfold F_X0_length at h
  refine r_iload_n hκ 1 rfl rfl dX0_length_0 ?_
  obtain ⟨s1, v1, h1, h⟩ := bcl_i h
  refine r_callS hκ (n' := 1) (index := 393) (w_X0_isText Γ0 l0 h1) (lw_S q2728 q2729 q121 q2730) (by decide +kernel) rfl (by decide) rfl (Nat.le_of_ble_eq_true rfl) dX0_length_1 ?_
  refine r_if_eq hκ (tgt := 21) (by decide) dX0_length_4 (fun h2 => ?_) (fun h2 => ?_)
  · replace h := (bte_i h).1 h2
    refine r_aload_n hκ 0 rfl rfl dX0_length_21 ?_
    refine r_bipush hκ (by decide) dX0_length_22 ?_
    obtain ⟨h3, h⟩ := bck_i h
    obtain ⟨s2, v2, h4, h⟩ := bcl_i h
    refine r_callV hκ (n' := 1) (index := 79) (w_X0_no Γ0 l0 h4) (lw_V q627 q629 qs2 q121 q630) (by decide +kernel) (t := 0) h3 rfl rfl (by decide) rfl (Nat.le_of_ble_eq_true rfl) dX0_length_24 ?_
    exact r_iretH hκ hf h (nar_int _) dX0_length_27
  · replace h := (bte_i h).2 h2
    refine r_aload_n hκ 0 rfl rfl dX0_length_7 ?_
    obtain ⟨h5, h⟩ := bck_i h
    refine r_get hκ (t := 0) (k := 0) (r := 34) h5 rfl in_X0 (by decide) rfl q573 (Or.inl rfl) dX0_length_8 ?_
    refine r_iload_n hκ 1 rfl rfl dX0_length_11 ?_
    obtain ⟨h6, h⟩ := bck_i h
    obtain ⟨s3, v3, h7, h⟩ := bcl_i h
    refine r_callV hκ (n' := 1) (index := 396) (w_X1_text Γ0 l0 h7) (lw_V q2162 q2163 q2164 q122 q2165) (by decide +kernel) (t := 1) h6 rfl rfl (by decide) rfl (Nat.le_of_ble_eq_true rfl) dX0_length_12 ?_
    obtain ⟨h8, h⟩ := bck_i h
    obtain ⟨s4, v4, h9, h⟩ := bcl_i h
    refine r_callV hκ (n' := 0) (index := 245) (w_X2_length Γ0 l0 h9) (lw_V q2166 q2167 q2168 q123 q2169) (by decide +kernel) (t := 2) h8 rfl rfl (by decide) rfl (Nat.le_of_ble_eq_true rfl) dX0_length_15 ?_
    refine r_goto hκ (tgt := 27) (by decide) dX0_length_18 ?_
    exact r_iretH hκ hf h (nar_int _) dX0_length_27
/-- EditsMeet.text(III)I -/
def F_X0_text_r (b : Nat) (x0 : Int) (s0 : bS) : Option (bS × Int) :=
  match b with
  | 0 =>
    bck (bg s0 0 x0 0 = 1) <|
    bcl (F_X0_no s0 x0 (-2)) fun s9 v9 =>
    some (s9, v9)
  | _ => none
def F_X0_text (s0 : bS) (a0 a1 a2 a3 : Int) : Option (bS × Int) :=
  bcl (F_X0_isText s0 a1) fun s1 v1 =>
  bte (i32 v1 = 0)
  (F_X0_text_r 0 a0 s1)
  (bcl (F_X0_isIn s1 a3 0 1) fun s2 v2 =>
  bte (i32 v2 = 0)
  (F_X0_text_r 0 a0 s2)
  (bck (bg s2 0 a0 0 = 1) <|
  bck (bg s2 0 (bg s2 34 a0 0) 0 = 2) <|
  bcl (F_X1_text s2 (bg s2 34 a0 0) a1) fun s3 v3 =>
  bck (bg s3 0 v3 0 = 3) <|
  bcl (F_X2_isPlace s3 v3 a2) fun s4 v4 =>
  bte (i32 v4 = 0)
  (F_X0_text_r 0 a0 s4)
  (bte (i32 a3 = 0)
  (bck (bg s4 0 a0 0 = 1) <|
  bck (bg s4 0 (bg s4 34 a0 0) 0 = 2) <|
  bcl (F_X1_text s4 (bg s4 34 a0 0) a1) fun s7 v7 =>
  bck (bg s7 0 v7 0 = 3) <|
  bcl (F_X2_letter s7 v7 a2) fun s8 v8 =>
  some (s8, v8))
  (bck (bg s4 0 a0 0 = 1) <|
  bck (bg s4 0 (bg s4 34 a0 0) 0 = 2) <|
  bcl (F_X1_text s4 (bg s4 34 a0 0) a1) fun s5 v5 =>
  bck (bg s5 0 v5 0 = 3) <|
  bcl (F_X2_mark s5 v5 a2) fun s6 v6 =>
  some (s6, v6)))))
set_option maxHeartbeats 4000000 in
set_option maxRecDepth 100000 in
set_option synthInstance.maxHeartbeats 4000000 in
theorem w_X0_text_r {Γ0 : bG} {l0 : Launch} {κ : bK} {st' : bS} {v : Int} (hκ : bOk κ Γ0 l0 cX0_text RX0 4 5 109) (hi : bIn κ yX0_text) (hf : bFin κ (some .int) st' (some (0, v))) (b : Nat) (x0 : Int) (s0 : bS) (h : F_X0_text_r b x0 s0 = some (st', v)) : match (generalizing := false) b with | 0 => bJ κ s0 31 [(0, (2, x0))] [] | _ => True := by
  unfold F_X0_text_r at h
  match b, h with
  | 0, h =>
      refine r_aload_n hκ 0 rfl rfl dX0_text_31 ?_
      refine r_bipush hκ (by decide) dX0_text_32 ?_
      obtain ⟨h22, h⟩ := bck_i h
      obtain ⟨s9, v9, h23, h⟩ := bcl_i h
      refine r_callV hκ (n' := 1) (index := 79) (w_X0_no Γ0 l0 h23) (lw_V q627 q629 qs2 q121 q630) (by decide +kernel) (t := 0) h22 rfl rfl (by decide) rfl (Nat.le_of_ble_eq_true rfl) dX0_text_34 ?_
      exact r_iretH hκ hf h (nar_int _) dX0_text_37
  | b + 1, h => trivial
set_option maxHeartbeats 4000000 in
set_option maxRecDepth 100000 in
theorem w_X0_text (Γ0 : bG) (l0 : Launch) {s0 st' : bS} {v a0 a1 a2 a3 : Int} (h : F_X0_text s0 a0 a1 a2 a3 = some (st', v)) : bCt Γ0 l0 yX0_text cX0_text 4 (some .int) 5 109 [(2, a0), (0, a1), (0, a2), (0, a3)] s0 st' (some (0, v)) := by
  refine b_ent (own := RX0) (by decide +kernel) rfl (Nat.le_of_ble_eq_true rfl) (L := [(0, (2, a0)), (1, (0, a1)), (2, (0, a2)), (3, (0, a3))]) rfl ?_
  intro κ hκ hi hf
  unfold F_X0_text at h
  refine r_iload_n hκ 1 rfl rfl dX0_text_0 ?_
  obtain ⟨s1, v1, h1, h⟩ := bcl_i h
  refine r_callS hκ (n' := 1) (index := 393) (w_X0_isText Γ0 l0 h1) (lw_S q2728 q2729 q121 q2730) (by decide +kernel) rfl (by decide) rfl (Nat.le_of_ble_eq_true rfl) dX0_text_1 ?_
  refine r_if_eq hκ (tgt := 31) (by decide) dX0_text_4 (fun h2 => ?_) (fun h2 => ?_)
  · replace h := (bte_i h).1 h2
    exact r_sub [0] rfl (w_X0_text_r hκ hi hf 0 _ _ h)
  · replace h := (bte_i h).2 h2
    refine r_iload_n hκ 3 rfl rfl dX0_text_7 ?_
    refine r_iconst hκ dX0_text_8 ?_
    refine r_iconst hκ dX0_text_9 ?_
    obtain ⟨s2, v2, h3, h⟩ := bcl_i h
    refine r_callS hκ (n' := 3) (index := 45) (w_X0_isIn Γ0 l0 h3) (lw_S q624 q625 q121 q626) (by decide +kernel) rfl (by decide) rfl (Nat.le_of_ble_eq_true rfl) dX0_text_10 ?_
    refine r_if_eq hκ (tgt := 31) (by decide) dX0_text_13 (fun h4 => ?_) (fun h4 => ?_)
    · replace h := (bte_i h).1 h4
      exact r_sub [0] rfl (w_X0_text_r hκ hi hf 0 _ _ h)
    · replace h := (bte_i h).2 h4
      refine r_aload_n hκ 0 rfl rfl dX0_text_16 ?_
      obtain ⟨h5, h⟩ := bck_i h
      refine r_get hκ (t := 0) (k := 0) (r := 34) h5 rfl in_X0 (by decide) rfl q573 (Or.inl rfl) dX0_text_17 ?_
      refine r_iload_n hκ 1 rfl rfl dX0_text_20 ?_
      obtain ⟨h6, h⟩ := bck_i h
      obtain ⟨s3, v3, h7, h⟩ := bcl_i h
      refine r_callV hκ (n' := 1) (index := 396) (w_X1_text Γ0 l0 h7) (lw_V q2162 q2163 q2164 q122 q2165) (by decide +kernel) (t := 1) h6 rfl rfl (by decide) rfl (Nat.le_of_ble_eq_true rfl) dX0_text_21 ?_
      refine r_iload_n hκ 2 rfl rfl dX0_text_24 ?_
      obtain ⟨h8, h⟩ := bck_i h
      obtain ⟨s4, v4, h9, h⟩ := bcl_i h
      refine r_callV hκ (n' := 1) (index := 399) (w_X2_isPlace Γ0 l0 h9) (lw_V q2735 q2736 q2737 q123 q2738) (by decide +kernel) (t := 2) h8 rfl rfl (by decide) rfl (Nat.le_of_ble_eq_true rfl) dX0_text_25 ?_
      refine r_if_ne hκ (tgt := 38) (by decide) dX0_text_28 (fun h10 => ?_) (fun h10 => ?_)
      · replace h := (bte_i h).2 h10
        refine r_iload_n hκ 3 rfl rfl dX0_text_38 ?_
        refine r_if_ne hκ (tgt := 57) (by decide) dX0_text_39 (fun h11 => ?_) (fun h11 => ?_)
        · replace h := (bte_i h).2 h11
          refine r_aload_n hκ 0 rfl rfl dX0_text_57 ?_
          obtain ⟨h12, h⟩ := bck_i h
          refine r_get hκ (t := 0) (k := 0) (r := 34) h12 rfl in_X0 (by decide) rfl q573 (Or.inl rfl) dX0_text_58 ?_
          refine r_iload_n hκ 1 rfl rfl dX0_text_61 ?_
          obtain ⟨h13, h⟩ := bck_i h
          obtain ⟨s5, v5, h14, h⟩ := bcl_i h
          refine r_callV hκ (n' := 1) (index := 396) (w_X1_text Γ0 l0 h14) (lw_V q2162 q2163 q2164 q122 q2165) (by decide +kernel) (t := 1) h13 rfl rfl (by decide) rfl (Nat.le_of_ble_eq_true rfl) dX0_text_62 ?_
          refine r_iload_n hκ 2 rfl rfl dX0_text_65 ?_
          obtain ⟨h15, h⟩ := bck_i h
          obtain ⟨s6, v6, h16, h⟩ := bcl_i h
          refine r_callV hκ (n' := 1) (index := 309) (w_X2_mark Γ0 l0 h16) (lw_V q2467 q2207 q2208 q123 q2209) (by decide +kernel) (t := 2) h15 rfl rfl (by decide) rfl (Nat.le_of_ble_eq_true rfl) dX0_text_66 ?_
          exact r_iretH hκ hf h (nar_int _) dX0_text_69
        · replace h := (bte_i h).1 h11
          refine r_aload_n hκ 0 rfl rfl dX0_text_42 ?_
          obtain ⟨h17, h⟩ := bck_i h
          refine r_get hκ (t := 0) (k := 0) (r := 34) h17 rfl in_X0 (by decide) rfl q573 (Or.inl rfl) dX0_text_43 ?_
          refine r_iload_n hκ 1 rfl rfl dX0_text_46 ?_
          obtain ⟨h18, h⟩ := bck_i h
          obtain ⟨s7, v7, h19, h⟩ := bcl_i h
          refine r_callV hκ (n' := 1) (index := 396) (w_X1_text Γ0 l0 h19) (lw_V q2162 q2163 q2164 q122 q2165) (by decide +kernel) (t := 1) h18 rfl rfl (by decide) rfl (Nat.le_of_ble_eq_true rfl) dX0_text_47 ?_
          refine r_iload_n hκ 2 rfl rfl dX0_text_50 ?_
          obtain ⟨h20, h⟩ := bck_i h
          obtain ⟨s8, v8, h21, h⟩ := bcl_i h
          refine r_callV hκ (n' := 1) (index := 402) (w_X2_letter Γ0 l0 h21) (lw_V q2740 q2741 q2742 q123 q2743) (by decide +kernel) (t := 2) h20 rfl rfl (by decide) rfl (Nat.le_of_ble_eq_true rfl) dX0_text_51 ?_
          refine r_goto hκ (tgt := 69) (by decide) dX0_text_54 ?_
          exact r_iretH hκ hf h (nar_int _) dX0_text_69
      · replace h := (bte_i h).1 h10
        exact r_sub [0] rfl (w_X0_text_r hκ hi hf 0 _ _ h)
/-- EditsMeet.apart(II)I -/
def F_X0_apart_r (b : Nat) (x0 : Int) (s0 : bS) : Option (bS × Int) :=
  match b with
  | 0 =>
    bck (bg s0 0 x0 0 = 1) <|
    bcl (F_X0_no s0 x0 (-2)) fun s6 v6 =>
    some (s6, v6)
  | _ => none
def F_X0_apart (s0 : bS) (a0 a1 a2 : Int) : Option (bS × Int) :=
  bcl (F_X0_isText s0 a1) fun s1 v1 =>
  bte (i32 v1 = 0)
  (F_X0_apart_r 0 a0 s1)
  (bcl (F_X0_isText s1 a2) fun s2 v2 =>
  bte (i32 v2 = 0)
  (F_X0_apart_r 0 a0 s2)
  (bck (bg s2 0 a0 0 = 1) <|
  bck (bg s2 0 (bg s2 34 a0 0) 0 = 2) <|
  bcl (F_X1_text s2 (bg s2 34 a0 0) a1) fun s3 v3 =>
  bck (bg s3 0 a0 0 = 1) <|
  bck (bg s3 0 (bg s3 34 a0 0) 0 = 2) <|
  bcl (F_X1_text s3 (bg s3 34 a0 0) a2) fun s4 v4 =>
  bck (bg s4 0 v3 0 = 3) <|
  bcl (F_X2_differs s4 v3 v4) fun s5 v5 =>
  some (s5, v5)))
set_option maxHeartbeats 4000000 in
set_option maxRecDepth 100000 in
set_option synthInstance.maxHeartbeats 4000000 in
theorem w_X0_apart_r {Γ0 : bG} {l0 : Launch} {κ : bK} {st' : bS} {v : Int} (hκ : bOk κ Γ0 l0 cX0_apart RX0 3 6 132) (hi : bIn κ yX0_apart) (hf : bFin κ (some .int) st' (some (0, v))) (b : Nat) (x0 : Int) (s0 : bS) (h : F_X0_apart_r b x0 s0 = some (st', v)) : match (generalizing := false) b with | 0 => bJ κ s0 36 [(0, (2, x0))] [] | _ => True := by
  unfold F_X0_apart_r at h
  match b, h with
  | 0, h =>
      refine r_aload_n hκ 0 rfl rfl dX0_apart_36 ?_
      refine r_bipush hκ (by decide) dX0_apart_37 ?_
      obtain ⟨h13, h⟩ := bck_i h
      obtain ⟨s6, v6, h14, h⟩ := bcl_i h
      refine r_callV hκ (n' := 1) (index := 79) (w_X0_no Γ0 l0 h14) (lw_V q627 q629 qs2 q121 q630) (by decide +kernel) (t := 0) h13 rfl rfl (by decide) rfl (Nat.le_of_ble_eq_true rfl) dX0_apart_39 ?_
      exact r_iretH hκ hf h (nar_int _) dX0_apart_42
  | b + 1, h => trivial
set_option maxHeartbeats 4000000 in
set_option maxRecDepth 100000 in
theorem w_X0_apart (Γ0 : bG) (l0 : Launch) {s0 st' : bS} {v a0 a1 a2 : Int} (h : F_X0_apart s0 a0 a1 a2 = some (st', v)) : bCt Γ0 l0 yX0_apart cX0_apart 3 (some .int) 6 132 [(2, a0), (0, a1), (0, a2)] s0 st' (some (0, v)) := by
  refine b_ent (own := RX0) (by decide +kernel) rfl (Nat.le_of_ble_eq_true rfl) (L := [(0, (2, a0)), (1, (0, a1)), (2, (0, a2))]) rfl ?_
  intro κ hκ hi hf
  unfold F_X0_apart at h
  refine r_iload_n hκ 1 rfl rfl dX0_apart_0 ?_
  obtain ⟨s1, v1, h1, h⟩ := bcl_i h
  refine r_callS hκ (n' := 1) (index := 393) (w_X0_isText Γ0 l0 h1) (lw_S q2728 q2729 q121 q2730) (by decide +kernel) rfl (by decide) rfl (Nat.le_of_ble_eq_true rfl) dX0_apart_1 ?_
  refine r_if_eq hκ (tgt := 36) (by decide) dX0_apart_4 (fun h2 => ?_) (fun h2 => ?_)
  · replace h := (bte_i h).1 h2
    exact r_sub [0] rfl (w_X0_apart_r hκ hi hf 0 _ _ h)
  · replace h := (bte_i h).2 h2
    refine r_iload_n hκ 2 rfl rfl dX0_apart_7 ?_
    obtain ⟨s2, v2, h3, h⟩ := bcl_i h
    refine r_callS hκ (n' := 1) (index := 393) (w_X0_isText Γ0 l0 h3) (lw_S q2728 q2729 q121 q2730) (by decide +kernel) rfl (by decide) rfl (Nat.le_of_ble_eq_true rfl) dX0_apart_8 ?_
    refine r_if_eq hκ (tgt := 36) (by decide) dX0_apart_11 (fun h4 => ?_) (fun h4 => ?_)
    · replace h := (bte_i h).1 h4
      exact r_sub [0] rfl (w_X0_apart_r hκ hi hf 0 _ _ h)
    · replace h := (bte_i h).2 h4
      refine r_aload_n hκ 0 rfl rfl dX0_apart_14 ?_
      obtain ⟨h5, h⟩ := bck_i h
      refine r_get hκ (t := 0) (k := 0) (r := 34) h5 rfl in_X0 (by decide) rfl q573 (Or.inl rfl) dX0_apart_15 ?_
      refine r_iload_n hκ 1 rfl rfl dX0_apart_18 ?_
      obtain ⟨h6, h⟩ := bck_i h
      obtain ⟨s3, v3, h7, h⟩ := bcl_i h
      refine r_callV hκ (n' := 1) (index := 396) (w_X1_text Γ0 l0 h7) (lw_V q2162 q2163 q2164 q122 q2165) (by decide +kernel) (t := 1) h6 rfl rfl (by decide) rfl (Nat.le_of_ble_eq_true rfl) dX0_apart_19 ?_
      refine r_aload_n hκ 0 rfl rfl dX0_apart_22 ?_
      obtain ⟨h8, h⟩ := bck_i h
      refine r_get hκ (t := 0) (k := 0) (r := 34) h8 rfl in_X0 (by decide) rfl q573 (Or.inl rfl) dX0_apart_23 ?_
      refine r_iload_n hκ 2 rfl rfl dX0_apart_26 ?_
      obtain ⟨h9, h⟩ := bck_i h
      obtain ⟨s4, v4, h10, h⟩ := bcl_i h
      refine r_callV hκ (n' := 1) (index := 396) (w_X1_text Γ0 l0 h10) (lw_V q2162 q2163 q2164 q122 q2165) (by decide +kernel) (t := 1) h9 rfl rfl (by decide) rfl (Nat.le_of_ble_eq_true rfl) dX0_apart_27 ?_
      obtain ⟨h11, h⟩ := bck_i h
      obtain ⟨s5, v5, h12, h⟩ := bcl_i h
      refine r_callV hκ (n' := 1) (index := 403) (w_X2_differs Γ0 l0 h12) (lw_V q2748 q2749 q2750 q123 q2751) (by decide +kernel) (t := 2) h11 rfl rfl (by decide) rfl (Nat.le_of_ble_eq_true rfl) dX0_apart_30 ?_
      refine r_goto hκ (tgt := 42) (by decide) dX0_apart_33 ?_
      exact r_iretH hκ hf h (nar_int _) dX0_apart_42
/-- EditsMeet.marked(II)I -/
def F_X0_marked_r (b : Nat) (x0 x1 x2 x3 x4 : Int) (s0 : bS) : Option (bS × Int) :=
  match b with
  | 0 =>
    bck (bg s0 0 x0 0 = 1) <|
    bcl (F_X0_no s0 x0 (-2)) fun s4 v4 =>
    some (s4, v4)
  | 1 =>
    bck (bg s0 0 x1 0 = 3) <|
    bcl (F_X2_length s0 x1) fun s5 v5 =>
    bte (i32 v5 ≤ i32 x3)
    (some (s5, x2))
    (bte (i32 x0 = i32 4)
    (bck (bg s5 0 x1 0 = 3) <|
    bcl (F_X2_mark s5 x1 x3) fun s8 v8 =>
    bte (i32 v8 = 0)
    (F_X0_marked_r 2 x0 x1 x2 x3 1 s8)
    (F_X0_marked_r 2 x0 x1 x2 x3 0 s8))
    (bck (bg s5 0 x1 0 = 3) <|
    bcl (F_X2_mark s5 x1 x3) fun s6 v6 =>
    bcl (F_X0_has s6 v6 x0) fun s7 v7 =>
    F_X0_marked_r 2 x0 x1 x2 x3 v7 s7))
  | 2 =>
    bte (i32 x4 = 0)
    (F_X0_marked_r 3 x0 x1 x3 0 x2 s0)
    (bck (bg s0 0 x1 0 = 3) <|
    bcl (F_X2_letter s0 x1 x3) fun s9 v9 =>
    F_X0_marked_r 3 x0 x1 x3 (b_ishl 1 v9) x2 s9)
  | 3 =>
    F_X0_marked_r 1 x0 x1 (b_ior x4 x3) (x2 + 1) 0 s0
  | _ => none
partial_fixpoint
def F_X0_marked (s0 : bS) (a0 a1 a2 : Int) : Option (bS × Int) :=
  bcl (F_X0_isText s0 a1) fun s1 v1 =>
  bte (i32 v1 = 0)
  (F_X0_marked_r 0 a0 0 0 0 0 s1)
  (bcl (F_X0_isIn s1 a2 0 4) fun s2 v2 =>
  bte (i32 v2 = 0)
  (F_X0_marked_r 0 a0 0 0 0 0 s2)
  (bck (bg s2 0 a0 0 = 1) <|
  bck (bg s2 0 (bg s2 34 a0 0) 0 = 2) <|
  bcl (F_X1_text s2 (bg s2 34 a0 0) a1) fun s3 v3 =>
  F_X0_marked_r 1 a2 v3 0 0 0 s3))
set_option maxHeartbeats 4000000 in
set_option maxRecDepth 100000 in
set_option synthInstance.maxHeartbeats 4000000 in
theorem w_X0_marked_r {Γ0 : bG} {l0 : Launch} {κ : bK} {st' : bS} {v : Int} (hκ : bOk κ Γ0 l0 cX0_marked RX0 7 5 109) (hi : bIn κ yX0_marked) (hf : bFin κ (some .int) st' (some (0, v))) (b : Nat) (x0 x1 x2 x3 x4 : Int) (s0 : bS) (h : F_X0_marked_r b x0 x1 x2 x3 x4 s0 = some (st', v)) : match (generalizing := false) b with | 0 => bJ κ s0 16 [(0, (2, x0))] [] | 1 => bJ κ s0 38 [(2, (0, x0)), (3, (2, x1)), (4, (0, x2)), (5, (0, x3))] [] | 2 => bJ κ s0 79 [(2, (0, x0)), (3, (2, x1)), (4, (0, x2)), (5, (0, x3))] [(0, x4)] | 3 => bJ κ s0 100 [(2, (0, x0)), (3, (2, x1)), (5, (0, x2))] [(0, x3), (0, x4)] | _ => True := by
  refine F_X0_marked_r.partial_correctness x0 x1 (fun b x2 x3 x4 s0 r => r = (st', v) → match (generalizing := false) b with | 0 => bJ κ s0 16 [(0, (2, x0))] [] | 1 => bJ κ s0 38 [(2, (0, x0)), (3, (2, x1)), (4, (0, x2)), (5, (0, x3))] [] | 2 => bJ κ s0 79 [(2, (0, x0)), (3, (2, x1)), (4, (0, x2)), (5, (0, x3))] [(0, x4)] | 3 => bJ κ s0 100 [(2, (0, x0)), (3, (2, x1)), (5, (0, x2))] [(0, x3), (0, x4)] | _ => True) ?_ b x2 x3 x4 s0 _ h rfl
  intro f' ih b x2 x3 x4 s0 r h hr
  subst hr
  match b, h with
  | 0, h =>
      refine r_aload_n hκ 0 rfl rfl dX0_marked_16 ?_
      refine r_bipush hκ (by decide) dX0_marked_17 ?_
      obtain ⟨h8, h⟩ := bck_i h
      obtain ⟨s4, v4, h9, h⟩ := bcl_i h
      refine r_callV hκ (n' := 1) (index := 79) (w_X0_no Γ0 l0 h9) (lw_V q627 q629 qs2 q121 q630) (by decide +kernel) (t := 0) h8 rfl rfl (by decide) rfl (Nat.le_of_ble_eq_true rfl) dX0_marked_19 ?_
      exact r_iretH hκ hf h (nar_int _) dX0_marked_22
  | 1, h =>
      refine r_iload hκ 3 rfl dX0_marked_38 ?_
      refine r_aload_n hκ 1 rfl rfl dX0_marked_40 ?_
      obtain ⟨h10, h⟩ := bck_i h
      obtain ⟨s5, v5, h11, h⟩ := bcl_i h
      refine r_callV hκ (n' := 0) (index := 245) (w_X2_length Γ0 l0 h11) (lw_V q2166 q2167 q2168 q123 q2169) (by decide +kernel) (t := 2) h10 rfl rfl (by decide) rfl (Nat.le_of_ble_eq_true rfl) dX0_marked_41 ?_
      refine r_icmp_ge hκ (tgt := 109) (by decide) dX0_marked_44 (fun h12 => ?_) (fun h12 => ?_)
      · replace h := (bte_i h).1 h12
        refine r_iload hκ 2 rfl dX0_marked_109 ?_
        exact r_iretH hκ hf h (nar_int _) dX0_marked_111
      · replace h := (bte_i h).2 h12
        refine r_iload_n hκ 0 rfl rfl dX0_marked_47 ?_
        refine r_iconst hκ dX0_marked_48 ?_
        refine r_icmp_ne hκ (tgt := 69) (by decide) dX0_marked_49 (fun h13 => ?_) (fun h13 => ?_)
        · replace h := (bte_i h).2 h13
          refine r_aload_n hκ 1 rfl rfl dX0_marked_69 ?_
          refine r_iload hκ 3 rfl dX0_marked_70 ?_
          obtain ⟨h14, h⟩ := bck_i h
          obtain ⟨s6, v6, h15, h⟩ := bcl_i h
          refine r_callV hκ (n' := 1) (index := 309) (w_X2_mark Γ0 l0 h15) (lw_V q2467 q2207 q2208 q123 q2209) (by decide +kernel) (t := 2) h14 rfl rfl (by decide) rfl (Nat.le_of_ble_eq_true rfl) dX0_marked_72 ?_
          refine r_iload_n hκ 0 rfl rfl dX0_marked_75 ?_
          obtain ⟨s7, v7, h16, h⟩ := bcl_i h
          refine r_callS hκ (n' := 2) (index := 312) (w_X0_has Γ0 l0 h16) (lw_S q2468 q2469 q121 q2470) (by decide +kernel) rfl (by decide) rfl (Nat.le_of_ble_eq_true rfl) dX0_marked_76 ?_
          exact r_sub [0, 1, 2, 3] rfl (ih 2 _ _ _ _ _ h rfl)
        · replace h := (bte_i h).1 h13
          refine r_aload_n hκ 1 rfl rfl dX0_marked_52 ?_
          refine r_iload hκ 3 rfl dX0_marked_53 ?_
          obtain ⟨h17, h⟩ := bck_i h
          obtain ⟨s8, v8, h18, h⟩ := bcl_i h
          refine r_callV hκ (n' := 1) (index := 309) (w_X2_mark Γ0 l0 h18) (lw_V q2467 q2207 q2208 q123 q2209) (by decide +kernel) (t := 2) h17 rfl rfl (by decide) rfl (Nat.le_of_ble_eq_true rfl) dX0_marked_55 ?_
          refine r_if_ne hκ (tgt := 65) (by decide) dX0_marked_58 (fun h19 => ?_) (fun h19 => ?_)
          · replace h := (bte_i h).2 h19
            refine r_iconst hκ dX0_marked_65 ?_
            refine r_goto hκ (tgt := 79) (by decide) dX0_marked_66 ?_
            exact r_sub [0, 1, 2, 3] rfl (ih 2 _ _ _ _ _ h rfl)
          · replace h := (bte_i h).1 h19
            refine r_iconst hκ dX0_marked_61 ?_
            refine r_goto hκ (tgt := 79) (by decide) dX0_marked_62 ?_
            exact r_sub [0, 1, 2, 3] rfl (ih 2 _ _ _ _ _ h rfl)
  | 2, h =>
      refine r_istore hκ (L2 := [(6, (0, x4)), (2, (0, x0)), (3, (2, x1)), (4, (0, x2)), (5, (0, x3))]) (by decide) rfl dX0_marked_79 ?_
      refine r_iload hκ 3 rfl dX0_marked_81 ?_
      refine r_iload hκ 0 rfl dX0_marked_83 ?_
      refine r_if_eq hκ (tgt := 99) (by decide) dX0_marked_85 (fun h20 => ?_) (fun h20 => ?_)
      · replace h := (bte_i h).1 h20
        refine r_iconst hκ dX0_marked_99 ?_
        exact r_sub [1, 2, 4] rfl (ih 3 _ _ _ _ _ h rfl)
      · replace h := (bte_i h).2 h20
        refine r_iconst hκ dX0_marked_88 ?_
        refine r_aload_n hκ 2 rfl rfl dX0_marked_89 ?_
        refine r_iload hκ 4 rfl dX0_marked_90 ?_
        obtain ⟨h21, h⟩ := bck_i h
        obtain ⟨s9, v9, h22, h⟩ := bcl_i h
        refine r_callV hκ (n' := 1) (index := 402) (w_X2_letter Γ0 l0 h22) (lw_V q2740 q2741 q2742 q123 q2743) (by decide +kernel) (t := 2) h21 rfl rfl (by decide) rfl (Nat.le_of_ble_eq_true rfl) dX0_marked_92 ?_
        refine r_ishl hκ dX0_marked_95 ?_
        refine r_goto hκ (tgt := 100) (by decide) dX0_marked_96 ?_
        exact r_sub [1, 2, 4] rfl (ih 3 _ _ _ _ _ h rfl)
  | 3, h =>
      refine r_ior hκ dX0_marked_100 ?_
      refine r_istore hκ (L2 := [(4, (0, (b_ior x4 x3))), (2, (0, x0)), (3, (2, x1)), (5, (0, x2))]) (by decide) rfl dX0_marked_101 ?_
      refine r_iinc hκ (L2 := [(5, (0, (x2 + 1))), (4, (0, (b_ior x4 x3))), (2, (0, x0)), (3, (2, x1))]) 3 rfl (by decide) rfl dX0_marked_103 ?_
      refine r_goto hκ (tgt := 38) (by decide) dX0_marked_106 ?_
      exact r_sub [2, 3, 1, 0] rfl (ih 1 _ _ _ _ _ h rfl)
  | b + 4, h => trivial
set_option maxHeartbeats 4000000 in
set_option maxRecDepth 100000 in
theorem w_X0_marked (Γ0 : bG) (l0 : Launch) {s0 st' : bS} {v a0 a1 a2 : Int} (h : F_X0_marked s0 a0 a1 a2 = some (st', v)) : bCt Γ0 l0 yX0_marked cX0_marked 7 (some .int) 5 109 [(2, a0), (0, a1), (0, a2)] s0 st' (some (0, v)) := by
  refine b_ent (own := RX0) (by decide +kernel) rfl (Nat.le_of_ble_eq_true rfl) (L := [(0, (2, a0)), (1, (0, a1)), (2, (0, a2))]) rfl ?_
  intro κ hκ hi hf
  unfold F_X0_marked at h
  refine r_iload_n hκ 1 rfl rfl dX0_marked_0 ?_
  obtain ⟨s1, v1, h1, h⟩ := bcl_i h
  refine r_callS hκ (n' := 1) (index := 393) (w_X0_isText Γ0 l0 h1) (lw_S q2728 q2729 q121 q2730) (by decide +kernel) rfl (by decide) rfl (Nat.le_of_ble_eq_true rfl) dX0_marked_1 ?_
  refine r_if_eq hκ (tgt := 16) (by decide) dX0_marked_4 (fun h2 => ?_) (fun h2 => ?_)
  · replace h := (bte_i h).1 h2
    exact r_sub [0] rfl (w_X0_marked_r hκ hi hf 0 _ _ _ _ _ _ h)
  · replace h := (bte_i h).2 h2
    refine r_iload_n hκ 2 rfl rfl dX0_marked_7 ?_
    refine r_iconst hκ dX0_marked_8 ?_
    refine r_iconst hκ dX0_marked_9 ?_
    obtain ⟨s2, v2, h3, h⟩ := bcl_i h
    refine r_callS hκ (n' := 3) (index := 45) (w_X0_isIn Γ0 l0 h3) (lw_S q624 q625 q121 q626) (by decide +kernel) rfl (by decide) rfl (Nat.le_of_ble_eq_true rfl) dX0_marked_10 ?_
    refine r_if_ne hκ (tgt := 23) (by decide) dX0_marked_13 (fun h4 => ?_) (fun h4 => ?_)
    · replace h := (bte_i h).2 h4
      refine r_aload_n hκ 0 rfl rfl dX0_marked_23 ?_
      obtain ⟨h5, h⟩ := bck_i h
      refine r_get hκ (t := 0) (k := 0) (r := 34) h5 rfl in_X0 (by decide) rfl q573 (Or.inl rfl) dX0_marked_24 ?_
      refine r_iload_n hκ 1 rfl rfl dX0_marked_27 ?_
      obtain ⟨h6, h⟩ := bck_i h
      obtain ⟨s3, v3, h7, h⟩ := bcl_i h
      refine r_callV hκ (n' := 1) (index := 396) (w_X1_text Γ0 l0 h7) (lw_V q2162 q2163 q2164 q122 q2165) (by decide +kernel) (t := 1) h6 rfl rfl (by decide) rfl (Nat.le_of_ble_eq_true rfl) dX0_marked_28 ?_
      refine r_astore_n hκ (L2 := [(3, (2, v3)), (0, (2, a0)), (1, (0, a1)), (2, (0, a2))]) (by decide) rfl rfl dX0_marked_31 ?_
      refine r_iconst hκ dX0_marked_32 ?_
      refine r_istore hκ (L2 := [(4, (0, 0)), (3, (2, v3)), (0, (2, a0)), (1, (0, a1)), (2, (0, a2))]) (by decide) rfl dX0_marked_33 ?_
      refine r_iconst hκ dX0_marked_35 ?_
      refine r_istore hκ (L2 := [(5, (0, 0)), (4, (0, 0)), (3, (2, v3)), (0, (2, a0)), (1, (0, a1)), (2, (0, a2))]) (by decide) rfl dX0_marked_36 ?_
      exact r_sub [5, 2, 1, 0] rfl (w_X0_marked_r hκ hi hf 1 _ _ _ _ _ _ h)
    · replace h := (bte_i h).1 h4
      exact r_sub [0] rfl (w_X0_marked_r hκ hi hf 0 _ _ _ _ _ _ h)
/-- EditsMeet.judge(III)I -/
def F_X0_judge (s0 : bS) (a0 a1 a2 a3 : Int) : Option (bS × Int) :=
  bck (bc s0 + 1 ≤ bCM ∧ bk s0 + 4 ≤ bKM) <|
  bst (blm s0 (500 + 27) [a0, a1, a2, a3]) fun s1 =>
  bck (bg s1 0 a0 0 = 1) <|
  bclx (F_X0_told s1 a0 (bnx s0 : Int)) fun s2 v1 v2 =>
  bck (v2 = -1) <|
  some (s2, v1)
set_option maxHeartbeats 4000000 in
set_option maxRecDepth 100000 in
theorem w_X0_judge (Γ0 : bG) (l0 : Launch) {s0 st' : bS} {v a0 a1 a2 a3 : Int} (h : F_X0_judge s0 a0 a1 a2 a3 = some (st', v)) : bCt Γ0 l0 yX0_judge cX0_judge 4 (some .int) 20 3236 [(2, a0), (0, a1), (0, a2), (0, a3)] s0 st' (some (0, v)) := by
  refine b_ent (own := RX0) (by decide +kernel) rfl (Nat.le_of_ble_eq_true rfl) (L := [(0, (2, a0)), (1, (0, a1)), (2, (0, a2)), (3, (0, a3))]) rfl ?_
  intro κ hκ hi hf
  unfold F_X0_judge at h
  refine r_aload_n hκ 0 rfl rfl dX0_judge_0 ?_
  refine r_aload_n hκ 0 rfl rfl dX0_judge_1 ?_
  refine r_iload_n hκ 1 rfl rfl dX0_judge_2 ?_
  refine r_iload_n hκ 2 rfl rfl dX0_judge_3 ?_
  refine r_iload_n hκ 3 rfl rfl dX0_judge_4 ?_
  obtain ⟨h1, h⟩ := bck_i h
  refine r_indyM hκ hi (k := 27) rfl rfl rfl rfl (lams_27 rfl) q3683 (v0 := a0) (xs := [a1, a2, a3]) rfl rfl (by decide) h1 rfl (Nat.le_of_ble_eq_true rfl) (Nat.le_of_ble_eq_true rfl) dX0_judge_5 (fun s1 es1 => ?_)
  replace h := bst_i h s1 es1
  obtain ⟨h3, h⟩ := bck_i h
  obtain ⟨s2, v1, v2, h2, h⟩ := bclx_i h
  obtain ⟨h4, h⟩ := bck_i h
  refine r_seq (A := bJ κ s2 13 [(0, (2, a0)), (1, (0, a1)), (2, (0, a2)), (3, (0, a3))] [(0, v1)]) ?_ (fun k0 => r_xcallVW hκ (n' := 1) (index := 142) (w_X0_told Γ0 l0 h2) (lw_VW q833 q835 qs6 q121 q836) (by decide +kernel) (t := 0) h3 rfl rfl (by decide) rfl (Nat.le_of_ble_eq_true rfl) dX0_judge_10 (r_xj1 (fun _ => k0)) (r_xj2 (fun hn => absurd h4 hn)))
  exact r_iretH hκ hf h (nar_int _) dX0_judge_13
/-- EditsMeet.acts(II)Z -/
def F_X0_acts_r (b : Nat) (x0 : Int) (s0 : bS) : Option (bS × Int × Int) :=
  match b with
  | 0 =>
    bte (i32 x0 < 0)
    (bck ((0 : Int) = 0 ∨ (0 : Int) = 1) <|
    some (s0, 0, -1))
    (bck ((1 : Int) = 0 ∨ (1 : Int) = 1) <|
    some (s0, 1, -1))
  | _ => none
def F_X0_acts (s0 : bS) (a0 a1 a2 : Int) : Option (bS × Int × Int) :=
  bte (i32 a2 = i32 5)
  (bck (bg s0 0 a0 0 = 1) <|
  bclx (F_X0_undoes s0 a0 a1) fun s3 v5 v6 =>
  bte (v6 = -1)
  (F_X0_acts_r 0 v5 s3)
  (bte (v6 = 0) (bck ((0 : Int) = 0 ∨ (0 : Int) = 1) <|
  some (s3, 0, -1)) (none)))
  (bte (i32 a2 = i32 6)
  (bck (bg s0 0 a0 0 = 1) <|
  bclx (F_X0_serves s0 a0 a1) fun s2 v3 v4 =>
  bte (v4 = -1)
  (F_X0_acts_r 0 v3 s2)
  (bte (v4 = 0) (bck ((0 : Int) = 0 ∨ (0 : Int) = 1) <|
  some (s2, 0, -1)) (none)))
  (bck (bg s0 0 a0 0 = 1) <|
  bclx (F_X0_hears s0 a0 a1) fun s1 v1 v2 =>
  bte (v2 = -1)
  (F_X0_acts_r 0 v1 s1)
  (bte (v2 = 0) (bck ((0 : Int) = 0 ∨ (0 : Int) = 1) <|
  some (s1, 0, -1)) (none))))
set_option maxHeartbeats 4000000 in
set_option maxRecDepth 100000 in
set_option synthInstance.maxHeartbeats 4000000 in
theorem w_X0_acts_r {Γ0 : bG} {l0 : Launch} {κ : bK} {st' : bS} {v xx : Int} (hκ : bOk κ Γ0 l0 cX0_acts RX0 4 17 3165) (hi : bIn κ yX0_acts) (ht : xTab κ [(0, 42, 43, 53)]) (hf : xFin κ (some .boolean) (some 0) (bEq st' v xx)) (b : Nat) (x0 : Int) (s0 : bS) (h : F_X0_acts_r b x0 s0 = some (st', v, xx)) : match (generalizing := false) b with | 0 => bJ κ s0 32 [] [(0, x0)] | _ => True := by
  unfold F_X0_acts_r at h
  match b, h with
  | 0, h =>
      refine r_istore_n hκ (L2 := [(3, (0, x0))]) (by decide) rfl rfl dX0_acts_32 ?_
      refine r_iload_n hκ 0 rfl rfl dX0_acts_33 ?_
      refine r_if_lt hκ (tgt := 41) (by decide) dX0_acts_34 (fun h18 => ?_) (fun h18 => ?_)
      · replace h := (bte_i h).1 h18
        refine r_iconst hκ dX0_acts_41 ?_
        obtain ⟨h19, h⟩ := bck_i h
        exact x_ret hκ hf (x_P h) (fun κ hκ hf => r_iret hκ hf (nar_bool h19) dX0_acts_42)
      · replace h := (bte_i h).2 h18
        refine r_iconst hκ dX0_acts_37 ?_
        refine r_goto hκ (tgt := 42) (by decide) dX0_acts_38 ?_
        obtain ⟨h20, h⟩ := bck_i h
        exact x_ret hκ hf (x_P h) (fun κ hκ hf => r_iret hκ hf (nar_bool h20) dX0_acts_42)
  | b + 1, h => trivial
set_option maxHeartbeats 4000000 in
set_option maxRecDepth 100000 in
theorem w_X0_acts (Γ0 : bG) (l0 : Launch) {s0 st' : bS} {v xx a0 a1 a2 : Int} (h : F_X0_acts s0 a0 a1 a2 = some (st', v, xx)) : bCx Γ0 l0 yX0_acts (wsW_ yX0_acts cX0_acts 4 (some .boolean) [(0, 42, 43, 53)]) 17 3165 (some 0) [(2, a0), (0, a1), (0, a2)] s0 (bEq st' v xx) := by
  refine xb_entW (own := RX0) (by decide +kernel) rfl (Nat.le_of_ble_eq_true rfl) (L := [(0, (2, a0)), (1, (0, a1)), (2, (0, a2))]) rfl ?_
  intro κ hκ hi ht hf
  unfold F_X0_acts at h
  refine r_iload_n hκ 2 rfl rfl dX0_acts_0 ?_
  refine r_iconst hκ dX0_acts_1 ?_
  refine r_icmp_ne hκ (tgt := 13) (by decide) dX0_acts_2 (fun h1 => ?_) (fun h1 => ?_)
  · replace h := (bte_i h).2 h1
    refine r_iload_n hκ 2 rfl rfl dX0_acts_13 ?_
    refine r_bipush hκ (by decide) dX0_acts_14 ?_
    refine r_icmp_ne hκ (tgt := 27) (by decide) dX0_acts_16 (fun h2 => ?_) (fun h2 => ?_)
    · replace h := (bte_i h).2 h2
      refine r_aload_n hκ 0 rfl rfl dX0_acts_27 ?_
      refine r_iload_n hκ 1 rfl rfl dX0_acts_28 ?_
      obtain ⟨h4, h⟩ := bck_i h
      obtain ⟨s1, v1, v2, h3, h⟩ := bclx_i h
      refine r_seq (A := (v2 = -1 → bJ κ s1 32 [(0, (2, a0)), (1, (0, a1)), (2, (0, a2))] [(0, v1)]) ∧ (¬ v2 = -1 → bT κ s1 29 [(0, (2, a0)), (1, (0, a1)), (2, (0, a2))] v1 v2)) ⟨fun h5 => ?_, fun h5 => ?_⟩ (fun k0 => r_xcallV hκ (n' := 1) (index := 434) (w_X0_hears Γ0 l0 h3) (lw_V q2539 q2541 qs50 q121 q2542) (by decide +kernel) (t := 0) h4 rfl rfl (by decide) rfl (Nat.le_of_ble_eq_true rfl) dX0_acts_29 (r_xj1 k0.1) (r_xj2 k0.2))
      · replace h := (bte_i h).1 h5
        exact r_sub [] rfl (w_X0_acts_r hκ hi ht hf 0 _ _ h)
      · replace h := (bte_i h).2 h5
        by_cases h6 : v2 = 0
        · replace h := (bte_i h).1 h6
          refine r_xcatchE hκ ht (jn := 0) (ih := 0) (E := "EditsMeet$Refused") (name := "EditsMeet$Refused") h6 rfl rfl (fun z hz => nomatch hz) (by decide) (by decide) q641 (by decide +kernel) ?_
          refine r_astore_n hκ (L2 := [(3, (2, v1)), (0, (2, a0)), (1, (0, a1)), (2, (0, a2))]) (by decide) rfl rfl dX0_acts_43 ?_
          refine r_iconst hκ dX0_acts_44 ?_
          obtain ⟨h7, h⟩ := bck_i h
          exact x_ret hκ hf (x_P h) (fun κ hκ hf => r_iret hκ hf (nar_bool h7) dX0_acts_45)
        replace h := (bte_i h).2 h6
        cases h
    · replace h := (bte_i h).1 h2
      refine r_aload_n hκ 0 rfl rfl dX0_acts_19 ?_
      refine r_iload_n hκ 1 rfl rfl dX0_acts_20 ?_
      obtain ⟨h9, h⟩ := bck_i h
      obtain ⟨s2, v3, v4, h8, h⟩ := bclx_i h
      refine r_seq (A := (v4 = -1 → bJ κ s2 24 [(0, (2, a0)), (1, (0, a1)), (2, (0, a2))] [(0, v3)]) ∧ (¬ v4 = -1 → bT κ s2 21 [(0, (2, a0)), (1, (0, a1)), (2, (0, a2))] v3 v4)) ⟨fun h10 => ?_, fun h10 => ?_⟩ (fun k0 => r_xcallV hκ (n' := 1) (index := 432) (w_X0_serves Γ0 l0 h8) (lw_V q2479 q2481 qs48 q121 q2482) (by decide +kernel) (t := 0) h9 rfl rfl (by decide) rfl (Nat.le_of_ble_eq_true rfl) dX0_acts_21 (r_xj1 k0.1) (r_xj2 k0.2))
      · replace h := (bte_i h).1 h10
        refine r_goto hκ (tgt := 32) (by decide) dX0_acts_24 ?_
        exact r_sub [] rfl (w_X0_acts_r hκ hi ht hf 0 _ _ h)
      · replace h := (bte_i h).2 h10
        by_cases h11 : v4 = 0
        · replace h := (bte_i h).1 h11
          refine r_xcatchE hκ ht (jn := 0) (ih := 0) (E := "EditsMeet$Refused") (name := "EditsMeet$Refused") h11 rfl rfl (fun z hz => nomatch hz) (by decide) (by decide) q641 (by decide +kernel) ?_
          refine r_astore_n hκ (L2 := [(3, (2, v3)), (0, (2, a0)), (1, (0, a1)), (2, (0, a2))]) (by decide) rfl rfl dX0_acts_43 ?_
          refine r_iconst hκ dX0_acts_44 ?_
          obtain ⟨h12, h⟩ := bck_i h
          exact x_ret hκ hf (x_P h) (fun κ hκ hf => r_iret hκ hf (nar_bool h12) dX0_acts_45)
        replace h := (bte_i h).2 h11
        cases h
  · replace h := (bte_i h).1 h1
    refine r_aload_n hκ 0 rfl rfl dX0_acts_5 ?_
    refine r_iload_n hκ 1 rfl rfl dX0_acts_6 ?_
    obtain ⟨h14, h⟩ := bck_i h
    obtain ⟨s3, v5, v6, h13, h⟩ := bclx_i h
    refine r_seq (A := (v6 = -1 → bJ κ s3 10 [(0, (2, a0)), (1, (0, a1)), (2, (0, a2))] [(0, v5)]) ∧ (¬ v6 = -1 → bT κ s3 7 [(0, (2, a0)), (1, (0, a1)), (2, (0, a2))] v5 v6)) ⟨fun h15 => ?_, fun h15 => ?_⟩ (fun k0 => r_xcallV hκ (n' := 1) (index := 429) (w_X0_undoes Γ0 l0 h13) (lw_V q2634 q2636 qs54 q121 q2637) (by decide +kernel) (t := 0) h14 rfl rfl (by decide) rfl (Nat.le_of_ble_eq_true rfl) dX0_acts_7 (r_xj1 k0.1) (r_xj2 k0.2))
    · replace h := (bte_i h).1 h15
      refine r_goto hκ (tgt := 32) (by decide) dX0_acts_10 ?_
      exact r_sub [] rfl (w_X0_acts_r hκ hi ht hf 0 _ _ h)
    · replace h := (bte_i h).2 h15
      by_cases h16 : v6 = 0
      · replace h := (bte_i h).1 h16
        refine r_xcatchE hκ ht (jn := 0) (ih := 0) (E := "EditsMeet$Refused") (name := "EditsMeet$Refused") h16 rfl rfl (fun z hz => nomatch hz) (by decide) (by decide) q641 (by decide +kernel) ?_
        refine r_astore_n hκ (L2 := [(3, (2, v5)), (0, (2, a0)), (1, (0, a1)), (2, (0, a2))]) (by decide) rfl rfl dX0_acts_43 ?_
        refine r_iconst hκ dX0_acts_44 ?_
        obtain ⟨h17, h⟩ := bck_i h
        exact x_ret hκ hf (x_P h) (fun κ hκ hf => r_iret hκ hf (nar_bool h17) dX0_acts_45)
      replace h := (bte_i h).2 h16
      cases h
/-- EditsMeet.day()Z -/
def F_X0_day (s0 : bS) (a0 : Int) : Option (bS × Int) :=
  bck (bg s0 0 a0 0 = 1) <|
  bck (bg s0 0 (bg s0 34 a0 0) 0 = 2) <|
  bcl (F_X1_draw s0 (bg s0 34 a0 0) 4) fun s1 v1 =>
  bck (bg s1 0 a0 0 = 1) <|
  bck (bg s1 0 (bg s1 34 a0 0) 0 = 2) <|
  bcl (F_X1_draw s1 (bg s1 34 a0 0) 8) fun s2 v2 =>
  bck (bg s2 0 a0 0 = 1) <|
  bck (bg s2 0 (bg s2 34 a0 0) 0 = 2) <|
  bck (bg s2 0 (bg s2 66 (bg s2 34 a0 0) 0) 0 = 1007 ∧ (0 : Int) ≤ v1 ∧ v1 < bg s2 4 (bg s2 66 (bg s2 34 a0 0) 0) 0) <|
  bck (bg s2 0 (bg s2 10 (bg s2 66 (bg s2 34 a0 0) 0) v1) 0 = 8) <|
  bck (bg s2 0 (bg s2 146 (bg s2 10 (bg s2 66 (bg s2 34 a0 0) 0) v1) 0) 0 = 3) <|
  bcl (F_X2_length s2 (bg s2 146 (bg s2 10 (bg s2 66 (bg s2 34 a0 0) 0) v1) 0)) fun s3 v3 =>
  bte (b_t v2 = 0 ∨ b_t v2 = 1 ∨ b_t v2 = 2) (bte (i32 60 ≤ i32 v3)
  (some (s3, 0))
  (bck (bg s3 0 a0 0 = 1) <|
  bck (bg s3 0 (bg s3 34 a0 0) 0 = 2) <|
  bcl (F_X1_draw s3 (bg s3 34 a0 0) 26) fun s4 v4 =>
  bck (bg s4 0 a0 0 = 1) <|
  bck (bg s4 0 (bg s4 34 a0 0) 0 = 2) <|
  bcl (F_X1_draw s4 (bg s4 34 a0 0) (v3 + 1)) fun s5 v5 =>
  bclx (F_X0_inserts s5 (bg s2 10 (bg s2 66 (bg s2 34 a0 0) 0) v1) v5 v4 0) fun s6 v6 v7 =>
  bck (v7 = -1) <|
  some (s6, 1))) (bte (b_t v2 = 3) (bte (i32 v3 ≤ 0)
  (some (s3, 0))
  (bck (bg s3 0 (bg s2 10 (bg s2 66 (bg s2 34 a0 0) 0) v1) 0 = 8) <|
  bck (bg s3 0 a0 0 = 1) <|
  bck (bg s3 0 (bg s3 34 a0 0) 0 = 2) <|
  bcl (F_X1_draw s3 (bg s3 34 a0 0) v3) fun s7 v8 =>
  bcl (F_X5_delete s7 1) fun s8 v9 =>
  bck (bg s8 0 (bg s3 146 (bg s2 10 (bg s2 66 (bg s2 34 a0 0) 0) v1) 0) 0 = 3) <|
  bcl (F_X2_edit s8 (bg s3 146 (bg s2 10 (bg s2 66 (bg s2 34 a0 0) 0) v1) 0) v8 v9) fun s9 v10 =>
  bclx (F_X0_does_2 s9 (bg s2 10 (bg s2 66 (bg s2 34 a0 0) 0) v1) v10) fun s10 v11 v12 =>
  bck (v12 = -1) <|
  some (s10, 1))) (bte (b_t v2 = 4) (bte (i32 v3 ≤ 0)
  (some (s3, 0))
  (bck (bg s3 0 a0 0 = 1) <|
  bck (bg s3 0 (bg s3 34 a0 0) 0 = 2) <|
  bcl (F_X1_draw s3 (bg s3 34 a0 0) v3) fun s11 v13 =>
  bck (bg s11 0 a0 0 = 1) <|
  bck (bg s11 0 (bg s11 34 a0 0) 0 = 2) <|
  bcl (F_X1_draw s11 (bg s11 34 a0 0) 4) fun s12 v14 =>
  bclx (F_X0_marks s12 (bg s2 10 (bg s2 66 (bg s2 34 a0 0) 0) v1) v13 1 v14 1) fun s13 v15 v16 =>
  bck (v16 = -1) <|
  some (s13, 1))) (bck (bg s3 0 a0 0 = 1) <|
  bclx (F_X0_acts s3 a0 v1 v2) fun s14 v17 v18 =>
  bck (v18 = -1) <|
  bck (v17 = 0 ∨ v17 = 1) <|
  some (s14, v17))))
set_option maxHeartbeats 4000000 in
set_option maxRecDepth 100000 in
theorem w_X0_day (Γ0 : bG) (l0 : Launch) {s0 st' : bS} {v a0 : Int} (h : F_X0_day s0 a0 = some (st', v)) : bCt Γ0 l0 yX0_day cX0_day 6 (some .boolean) 18 3188 [(2, a0)] s0 st' (some (0, v)) := by
  refine b_ent (own := RX0) (by decide +kernel) rfl (Nat.le_of_ble_eq_true rfl) (L := [(0, (2, a0))]) rfl ?_
  intro κ hκ hi hf
  unfold F_X0_day at h
  refine r_aload_n hκ 0 rfl rfl dX0_day_0 ?_
  obtain ⟨h1, h⟩ := bck_i h
  refine r_get hκ (t := 0) (k := 0) (r := 34) h1 rfl in_X0 (by decide) rfl q573 (Or.inl rfl) dX0_day_1 ?_
  refine r_iconst hκ dX0_day_4 ?_
  obtain ⟨h2, h⟩ := bck_i h
  obtain ⟨s1, v1, h3, h⟩ := bcl_i h
  refine r_callV hκ (n' := 1) (index := 412) (w_X1_draw Γ0 l0 h3) (lw_V q2780 q2781 q2782 q122 q2783) (by decide +kernel) (t := 1) h2 rfl rfl (by decide) rfl (Nat.le_of_ble_eq_true rfl) dX0_day_5 ?_
  refine r_istore_n hκ (L2 := [(1, (0, v1)), (0, (2, a0))]) (by decide) rfl rfl dX0_day_8 ?_
  refine r_aload_n hκ 1 rfl rfl dX0_day_9 ?_
  obtain ⟨h4, h⟩ := bck_i h
  refine r_get hκ (t := 0) (k := 0) (r := 34) h4 rfl in_X0 (by decide) rfl q573 (Or.inl rfl) dX0_day_10 ?_
  refine r_bipush hκ (by decide) dX0_day_13 ?_
  obtain ⟨h5, h⟩ := bck_i h
  obtain ⟨s2, v2, h6, h⟩ := bcl_i h
  refine r_callV hκ (n' := 1) (index := 412) (w_X1_draw Γ0 l0 h6) (lw_V q2780 q2781 q2782 q122 q2783) (by decide +kernel) (t := 1) h5 rfl rfl (by decide) rfl (Nat.le_of_ble_eq_true rfl) dX0_day_15 ?_
  refine r_istore_n hκ (L2 := [(2, (0, v2)), (1, (0, v1)), (0, (2, a0))]) (by decide) rfl rfl dX0_day_18 ?_
  refine r_aload_n hκ 2 rfl rfl dX0_day_19 ?_
  obtain ⟨h7, h⟩ := bck_i h
  refine r_get hκ (t := 0) (k := 0) (r := 34) h7 rfl in_X0 (by decide) rfl q573 (Or.inl rfl) dX0_day_20 ?_
  obtain ⟨h8, h⟩ := bck_i h
  refine r_get hκ (t := 1) (k := 0) (r := 66) h8 rfl in_X1 (by decide) rfl q540 (Or.inl rfl) dX0_day_23 ?_
  refine r_iload_n hκ 1 rfl rfl dX0_day_26 ?_
  obtain ⟨⟨h9, h10⟩, h⟩ := bck_i h
  refine r_aald hκ (t := 7) (by decide) h9 h10 dX0_day_27 ?_
  refine r_astore_n hκ (L2 := [(3, (2, (bg s2 10 (bg s2 66 (bg s2 34 a0 0) 0) v1))), (2, (0, v2)), (1, (0, v1)), (0, (2, a0))]) (by decide) rfl rfl dX0_day_28 ?_
  refine r_aload_n hκ 0 rfl rfl dX0_day_29 ?_
  obtain ⟨h11, h⟩ := bck_i h
  refine r_get hκ (t := 7) (k := 0) (r := 146) h11 rfl in_X9 (by decide) rfl q486 (Or.inl rfl) dX0_day_30 ?_
  obtain ⟨h12, h⟩ := bck_i h
  obtain ⟨s3, v3, h13, h⟩ := bcl_i h
  refine r_callV hκ (n' := 0) (index := 245) (w_X2_length Γ0 l0 h13) (lw_V q2166 q2167 q2168 q123 q2169) (by decide +kernel) (t := 2) h12 rfl rfl (by decide) rfl (Nat.le_of_ble_eq_true rfl) dX0_day_33 ?_
  refine r_istore hκ (L2 := [(4, (0, v3)), (3, (2, (bg s2 10 (bg s2 66 (bg s2 34 a0 0) 0) v1))), (2, (0, v2)), (1, (0, v1)), (0, (2, a0))]) (by decide) rfl dX0_day_36 ?_
  refine r_iload_n hκ 2 rfl rfl dX0_day_38 ?_
  by_cases h14 : b_t v2 = 0 ∨ b_t v2 = 1 ∨ b_t v2 = 2
  · replace h := (bte_i h).1 h14
    refine r_seq (A := bJ κ s3 72 [(4, (0, v3)), (3, (2, (bg s2 10 (bg s2 66 (bg s2 34 a0 0) 0) v1))), (2, (0, v2)), (1, (0, v1)), (0, (2, a0))] []) ?_ (fun k0 => Or.elim h14 (fun h14 => r_tswIn hκ (kk := 0) (tgt := 72) h14 (by decide) (by decide) rfl (by decide) dX0_day_39 k0) (fun h14 => Or.elim h14 (fun h14 => r_tswIn hκ (kk := 1) (tgt := 72) h14 (by decide) (by decide) rfl (by decide) dX0_day_39 k0) (fun h14 => r_tswIn hκ (kk := 2) (tgt := 72) h14 (by decide) (by decide) rfl (by decide) dX0_day_39 k0)))
    refine r_iload hκ 0 rfl dX0_day_72 ?_
    refine r_bipush hκ (by decide) dX0_day_74 ?_
    refine r_icmp_ge hκ (tgt := 111) (by decide) dX0_day_76 (fun h15 => ?_) (fun h15 => ?_)
    · replace h := (bte_i h).1 h15
      refine r_iconst hκ dX0_day_111 ?_
      exact r_iretH hκ hf h (nar_bool (by decide)) dX0_day_112
    · replace h := (bte_i h).2 h15
      refine r_aload_n hκ 4 rfl rfl dX0_day_79 ?_
      obtain ⟨h16, h⟩ := bck_i h
      refine r_get hκ (t := 0) (k := 0) (r := 34) h16 rfl in_X0 (by decide) rfl q573 (Or.inl rfl) dX0_day_80 ?_
      refine r_bipush hκ (by decide) dX0_day_83 ?_
      obtain ⟨h17, h⟩ := bck_i h
      obtain ⟨s4, v4, h18, h⟩ := bcl_i h
      refine r_callV hκ (n' := 1) (index := 412) (w_X1_draw Γ0 l0 h18) (lw_V q2780 q2781 q2782 q122 q2783) (by decide +kernel) (t := 1) h17 rfl rfl (by decide) rfl (Nat.le_of_ble_eq_true rfl) dX0_day_85 ?_
      refine r_istore hκ (L2 := [(5, (0, v4)), (4, (0, v3)), (3, (2, (bg s2 10 (bg s2 66 (bg s2 34 a0 0) 0) v1))), (2, (0, v2)), (1, (0, v1)), (0, (2, a0))]) (by decide) rfl dX0_day_88 ?_
      refine r_aload_n hκ 2 rfl rfl dX0_day_90 ?_
      refine r_aload_n hκ 5 rfl rfl dX0_day_91 ?_
      obtain ⟨h19, h⟩ := bck_i h
      refine r_get hκ (t := 0) (k := 0) (r := 34) h19 rfl in_X0 (by decide) rfl q573 (Or.inl rfl) dX0_day_92 ?_
      refine r_iload hκ 1 rfl dX0_day_95 ?_
      refine r_iconst hκ dX0_day_97 ?_
      refine r_iadd hκ dX0_day_98 ?_
      obtain ⟨h20, h⟩ := bck_i h
      obtain ⟨s5, v5, h21, h⟩ := bcl_i h
      refine r_callV hκ (n' := 1) (index := 412) (w_X1_draw Γ0 l0 h21) (lw_V q2780 q2781 q2782 q122 q2783) (by decide +kernel) (t := 1) h20 rfl rfl (by decide) rfl (Nat.le_of_ble_eq_true rfl) dX0_day_99 ?_
      refine r_iload hκ 0 rfl dX0_day_102 ?_
      refine r_iconst hκ dX0_day_104 ?_
      obtain ⟨s6, v6, v7, h22, h⟩ := bclx_i h
      obtain ⟨h23, h⟩ := bck_i h
      refine r_seq (A := bJ κ s6 108 [(5, (0, v4)), (4, (0, v3)), (3, (2, (bg s2 10 (bg s2 66 (bg s2 34 a0 0) 0) v1))), (2, (0, v2)), (1, (0, v1)), (0, (2, a0))] [(0, v6)]) ?_ (fun k0 => r_xcallS hκ (n' := 4) (index := 415) (w_X0_inserts Γ0 l0 h22) (lw_S q2425 q2426 q121 q2427) (by decide +kernel) rfl (by decide) rfl (Nat.le_of_ble_eq_true rfl) dX0_day_105 (r_xj1 (fun _ => k0)) (r_xj2 (fun hn => absurd h23 hn)))
      refine r_pop hκ (bd_cat0k _) dX0_day_108 ?_
      refine r_iconst hκ dX0_day_109 ?_
      exact r_iretH hκ hf h (nar_bool (by decide)) dX0_day_110
  replace h := (bte_i h).2 h14
  by_cases h24 : b_t v2 = 3
  · replace h := (bte_i h).1 h24
    refine r_tswIn hκ (kk := 3) (tgt := 113) h24 (by decide) (by decide) rfl (by decide) dX0_day_39 ?_
    refine r_iload hκ 0 rfl dX0_day_113 ?_
    refine r_if_le hκ (tgt := 145) (by decide) dX0_day_115 (fun h25 => ?_) (fun h25 => ?_)
    · replace h := (bte_i h).1 h25
      refine r_iconst hκ dX0_day_145 ?_
      exact r_iretH hκ hf h (nar_bool (by decide)) dX0_day_146
    · replace h := (bte_i h).2 h25
      refine r_aload_n hκ 1 rfl rfl dX0_day_118 ?_
      refine r_aload_n hκ 1 rfl rfl dX0_day_119 ?_
      obtain ⟨h26, h⟩ := bck_i h
      refine r_get hκ (t := 7) (k := 0) (r := 146) h26 rfl in_X9 (by decide) rfl q486 (Or.inl rfl) dX0_day_120 ?_
      refine r_aload_n hκ 4 rfl rfl dX0_day_123 ?_
      obtain ⟨h27, h⟩ := bck_i h
      refine r_get hκ (t := 0) (k := 0) (r := 34) h27 rfl in_X0 (by decide) rfl q573 (Or.inl rfl) dX0_day_124 ?_
      refine r_iload hκ 0 rfl dX0_day_127 ?_
      obtain ⟨h28, h⟩ := bck_i h
      obtain ⟨s7, v8, h29, h⟩ := bcl_i h
      refine r_callV hκ (n' := 1) (index := 412) (w_X1_draw Γ0 l0 h29) (lw_V q2780 q2781 q2782 q122 q2783) (by decide +kernel) (t := 1) h28 rfl rfl (by decide) rfl (Nat.le_of_ble_eq_true rfl) dX0_day_129 ?_
      refine r_iconst hκ dX0_day_132 ?_
      obtain ⟨s8, v9, h30, h⟩ := bcl_i h
      refine r_callS hκ (n' := 1) (index := 419) (w_X5_delete Γ0 l0 h30) (lw_S q2456 q1276 q137 q1277) (by decide +kernel) rfl (by decide) rfl (Nat.le_of_ble_eq_true rfl) dX0_day_133 ?_
      obtain ⟨h31, h⟩ := bck_i h
      obtain ⟨s9, v10, h32, h⟩ := bcl_i h
      refine r_callV hκ (n' := 2) (index := 301) (w_X2_edit Γ0 l0 h32) (lw_V q2438 q2439 q2440 q123 q2441) (by decide +kernel) (t := 2) h31 rfl rfl (by decide) rfl (Nat.le_of_ble_eq_true rfl) dX0_day_136 ?_
      obtain ⟨s10, v11, v12, h33, h⟩ := bclx_i h
      obtain ⟨h34, h⟩ := bck_i h
      refine r_seq (A := bJ κ s10 142 [(4, (0, v3)), (3, (2, (bg s2 10 (bg s2 66 (bg s2 34 a0 0) 0) v1))), (2, (0, v2)), (1, (0, v1)), (0, (2, a0))] [(0, v11)]) ?_ (fun k0 => r_xcallS hκ (n' := 2) (index := 304) (w_X0_does_2 Γ0 l0 h33) (lw_S q2240 q2241 q121 q2242) (by decide +kernel) rfl (by decide) rfl (Nat.le_of_ble_eq_true rfl) dX0_day_139 (r_xj1 (fun _ => k0)) (r_xj2 (fun hn => absurd h34 hn)))
      refine r_pop hκ (bd_cat0k _) dX0_day_142 ?_
      refine r_iconst hκ dX0_day_143 ?_
      exact r_iretH hκ hf h (nar_bool (by decide)) dX0_day_144
  replace h := (bte_i h).2 h24
  by_cases h35 : b_t v2 = 4
  · replace h := (bte_i h).1 h35
    refine r_tswIn hκ (kk := 4) (tgt := 147) h35 (by decide) (by decide) rfl (by decide) dX0_day_39 ?_
    refine r_iload hκ 0 rfl dX0_day_147 ?_
    refine r_if_le hκ (tgt := 182) (by decide) dX0_day_149 (fun h36 => ?_) (fun h36 => ?_)
    · replace h := (bte_i h).1 h36
      refine r_iconst hκ dX0_day_182 ?_
      exact r_iretH hκ hf h (nar_bool (by decide)) dX0_day_183
    · replace h := (bte_i h).2 h36
      refine r_aload_n hκ 4 rfl rfl dX0_day_152 ?_
      obtain ⟨h37, h⟩ := bck_i h
      refine r_get hκ (t := 0) (k := 0) (r := 34) h37 rfl in_X0 (by decide) rfl q573 (Or.inl rfl) dX0_day_153 ?_
      refine r_iload hκ 0 rfl dX0_day_156 ?_
      obtain ⟨h38, h⟩ := bck_i h
      obtain ⟨s11, v13, h39, h⟩ := bcl_i h
      refine r_callV hκ (n' := 1) (index := 412) (w_X1_draw Γ0 l0 h39) (lw_V q2780 q2781 q2782 q122 q2783) (by decide +kernel) (t := 1) h38 rfl rfl (by decide) rfl (Nat.le_of_ble_eq_true rfl) dX0_day_158 ?_
      refine r_istore hκ (L2 := [(5, (0, v13)), (4, (0, v3)), (3, (2, (bg s2 10 (bg s2 66 (bg s2 34 a0 0) 0) v1))), (2, (0, v2)), (1, (0, v1)), (0, (2, a0))]) (by decide) rfl dX0_day_161 ?_
      refine r_aload_n hκ 2 rfl rfl dX0_day_163 ?_
      refine r_iload hκ 0 rfl dX0_day_164 ?_
      refine r_iconst hκ dX0_day_166 ?_
      refine r_aload_n hκ 5 rfl rfl dX0_day_167 ?_
      obtain ⟨h40, h⟩ := bck_i h
      refine r_get hκ (t := 0) (k := 0) (r := 34) h40 rfl in_X0 (by decide) rfl q573 (Or.inl rfl) dX0_day_168 ?_
      refine r_iconst hκ dX0_day_171 ?_
      obtain ⟨h41, h⟩ := bck_i h
      obtain ⟨s12, v14, h42, h⟩ := bcl_i h
      refine r_callV hκ (n' := 1) (index := 412) (w_X1_draw Γ0 l0 h42) (lw_V q2780 q2781 q2782 q122 q2783) (by decide +kernel) (t := 1) h41 rfl rfl (by decide) rfl (Nat.le_of_ble_eq_true rfl) dX0_day_172 ?_
      refine r_iconst hκ dX0_day_175 ?_
      obtain ⟨s13, v15, v16, h43, h⟩ := bclx_i h
      obtain ⟨h44, h⟩ := bck_i h
      refine r_seq (A := bJ κ s13 179 [(5, (0, v13)), (4, (0, v3)), (3, (2, (bg s2 10 (bg s2 66 (bg s2 34 a0 0) 0) v1))), (2, (0, v2)), (1, (0, v1)), (0, (2, a0))] [(0, v15)]) ?_ (fun k0 => r_xcallS hκ (n' := 5) (index := 423) (w_X0_marks Γ0 l0 h43) (lw_S q2464 q2465 q121 q2466) (by decide +kernel) rfl (by decide) rfl (Nat.le_of_ble_eq_true rfl) dX0_day_176 (r_xj1 (fun _ => k0)) (r_xj2 (fun hn => absurd h44 hn)))
      refine r_pop hκ (bd_cat0k _) dX0_day_179 ?_
      refine r_iconst hκ dX0_day_180 ?_
      exact r_iretH hκ hf h (nar_bool (by decide)) dX0_day_181
  replace h := (bte_i h).2 h35
  refine r_tswOut hκ (tgt := 184) (by omega) (by decide) dX0_day_39 ?_
  refine r_aload_n hκ 4 rfl rfl dX0_day_184 ?_
  refine r_iload_n hκ 3 rfl rfl dX0_day_185 ?_
  refine r_iload_n hκ 2 rfl rfl dX0_day_186 ?_
  obtain ⟨h46, h⟩ := bck_i h
  obtain ⟨s14, v17, v18, h45, h⟩ := bclx_i h
  obtain ⟨h47, h⟩ := bck_i h
  refine r_seq (A := bJ κ s14 190 [(4, (0, v3)), (3, (2, (bg s2 10 (bg s2 66 (bg s2 34 a0 0) 0) v1))), (2, (0, v2)), (1, (0, v1)), (0, (2, a0))] [(0, v17)]) ?_ (fun k0 => r_xcallVW hκ (n' := 2) (index := 426) (w_X0_acts Γ0 l0 h45) (lw_VW q2785 q2787 qs63 q121 q2788) (by decide +kernel) (t := 0) h46 rfl rfl (by decide) rfl (Nat.le_of_ble_eq_true rfl) dX0_day_187 (r_xj1 (fun _ => k0)) (r_xj2 (fun hn => absurd h47 hn)))
  obtain ⟨h48, h⟩ := bck_i h
  exact r_iretH hκ hf h (nar_bool h48) dX0_day_190
/-- EditsMeet.days(I)I -/
def F_X0_days_r (b : Nat) (x0 x1 x2 x3 x4 : Int) (s0 : bS) : Option (bS × Int) :=
  match b with
  | 0 =>
    bte (i32 x1 ≤ i32 x3)
    (some (s0, x2))
    (bck (bg s0 0 x0 0 = 1) <|
    bcl (F_X0_day s0 x0) fun s3 v3 =>
    bte (i32 v3 = 0)
    (F_X0_days_r 1 x0 x1 x3 0 x2 s3)
    (F_X0_days_r 1 x0 x1 x3 1 x2 s3))
  | 1 =>
    F_X0_days_r 0 x0 x1 (x4 + x3) (x2 + 1) 0 s0
  | _ => none
partial_fixpoint
def F_X0_days (s0 : bS) (a0 a1 : Int) : Option (bS × Int) :=
  bcl (F_X0_isIn s0 a1 1 60) fun s1 v1 =>
  bte (i32 v1 = 0)
  (bck (bg s1 0 a0 0 = 1) <|
  bcl (F_X0_no s1 a0 (-2)) fun s2 v2 =>
  some (s2, v2))
  (F_X0_days_r 0 a0 a1 0 0 0 s1)
set_option maxHeartbeats 4000000 in
set_option maxRecDepth 100000 in
set_option synthInstance.maxHeartbeats 4000000 in
theorem w_X0_days_r {Γ0 : bG} {l0 : Launch} {κ : bK} {st' : bS} {v : Int} (hκ : bOk κ Γ0 l0 cX0_days RX0 4 19 3213) (hi : bIn κ yX0_days) (hf : bFin κ (some .int) st' (some (0, v))) (b : Nat) (x0 x1 x2 x3 x4 : Int) (s0 : bS) (h : F_X0_days_r b x0 x1 x2 x3 x4 s0 = some (st', v)) : match (generalizing := false) b with | 0 => bJ κ s0 21 [(0, (2, x0)), (1, (0, x1)), (2, (0, x2)), (3, (0, x3))] [] | 1 => bJ κ s0 39 [(0, (2, x0)), (1, (0, x1)), (3, (0, x2))] [(0, x3), (0, x4)] | _ => True := by
  refine F_X0_days_r.partial_correctness x0 x1 (fun b x2 x3 x4 s0 r => r = (st', v) → match (generalizing := false) b with | 0 => bJ κ s0 21 [(0, (2, x0)), (1, (0, x1)), (2, (0, x2)), (3, (0, x3))] [] | 1 => bJ κ s0 39 [(0, (2, x0)), (1, (0, x1)), (3, (0, x2))] [(0, x3), (0, x4)] | _ => True) ?_ b x2 x3 x4 s0 _ h rfl
  intro f' ih b x2 x3 x4 s0 r h hr
  subst hr
  match b, h with
  | 0, h =>
      refine r_iload_n hκ 3 rfl rfl dX0_days_21 ?_
      refine r_iload_n hκ 1 rfl rfl dX0_days_22 ?_
      refine r_icmp_ge hκ (tgt := 47) (by decide) dX0_days_23 (fun h5 => ?_) (fun h5 => ?_)
      · replace h := (bte_i h).1 h5
        refine r_iload_n hκ 2 rfl rfl dX0_days_47 ?_
        exact r_iretH hκ hf h (nar_int _) dX0_days_48
      · replace h := (bte_i h).2 h5
        refine r_iload_n hκ 2 rfl rfl dX0_days_26 ?_
        refine r_aload_n hκ 0 rfl rfl dX0_days_27 ?_
        obtain ⟨h6, h⟩ := bck_i h
        obtain ⟨s3, v3, h7, h⟩ := bcl_i h
        refine r_callV hκ (n' := 0) (index := 436) (w_X0_day Γ0 l0 h7) (lw_V q2776 q2778 qs62 q121 q2779) (by decide +kernel) (t := 0) h6 rfl rfl (by decide) rfl (Nat.le_of_ble_eq_true rfl) dX0_days_28 ?_
        refine r_if_eq hκ (tgt := 38) (by decide) dX0_days_31 (fun h8 => ?_) (fun h8 => ?_)
        · replace h := (bte_i h).1 h8
          refine r_iconst hκ dX0_days_38 ?_
          exact r_sub [0, 1, 3] rfl (ih 1 _ _ _ _ _ h rfl)
        · replace h := (bte_i h).2 h8
          refine r_iconst hκ dX0_days_34 ?_
          refine r_goto hκ (tgt := 39) (by decide) dX0_days_35 ?_
          exact r_sub [0, 1, 3] rfl (ih 1 _ _ _ _ _ h rfl)
  | 1, h =>
      refine r_iadd hκ dX0_days_39 ?_
      refine r_istore_n hκ (L2 := [(2, (0, (x4 + x3))), (0, (2, x0)), (1, (0, x1)), (3, (0, x2))]) (by decide) rfl rfl dX0_days_40 ?_
      refine r_iinc hκ (L2 := [(3, (0, (x2 + 1))), (2, (0, (x4 + x3))), (0, (2, x0)), (1, (0, x1))]) 3 rfl (by decide) rfl dX0_days_41 ?_
      refine r_goto hκ (tgt := 21) (by decide) dX0_days_44 ?_
      exact r_sub [2, 3, 1, 0] rfl (ih 0 _ _ _ _ _ h rfl)
  | b + 2, h => trivial
set_option maxHeartbeats 4000000 in
set_option maxRecDepth 100000 in
theorem w_X0_days (Γ0 : bG) (l0 : Launch) {s0 st' : bS} {v a0 a1 : Int} (h : F_X0_days s0 a0 a1 = some (st', v)) : bCt Γ0 l0 yX0_days cX0_days 4 (some .int) 19 3213 [(2, a0), (0, a1)] s0 st' (some (0, v)) := by
  refine b_ent (own := RX0) (by decide +kernel) rfl (Nat.le_of_ble_eq_true rfl) (L := [(0, (2, a0)), (1, (0, a1))]) rfl ?_
  intro κ hκ hi hf
  unfold F_X0_days at h
  refine r_iload_n hκ 1 rfl rfl dX0_days_0 ?_
  refine r_iconst hκ dX0_days_1 ?_
  refine r_bipush hκ (by decide) dX0_days_2 ?_
  obtain ⟨s1, v1, h1, h⟩ := bcl_i h
  refine r_callS hκ (n' := 3) (index := 45) (w_X0_isIn Γ0 l0 h1) (lw_S q624 q625 q121 q626) (by decide +kernel) rfl (by decide) rfl (Nat.le_of_ble_eq_true rfl) dX0_days_4 ?_
  refine r_if_ne hκ (tgt := 17) (by decide) dX0_days_7 (fun h2 => ?_) (fun h2 => ?_)
  · replace h := (bte_i h).2 h2
    refine r_iconst hκ dX0_days_17 ?_
    refine r_istore_n hκ (L2 := [(2, (0, 0)), (0, (2, a0)), (1, (0, a1))]) (by decide) rfl rfl dX0_days_18 ?_
    refine r_iconst hκ dX0_days_19 ?_
    refine r_istore_n hκ (L2 := [(3, (0, 0)), (2, (0, 0)), (0, (2, a0)), (1, (0, a1))]) (by decide) rfl rfl dX0_days_20 ?_
    exact r_sub [2, 3, 1, 0] rfl (w_X0_days_r hκ hi hf 0 _ _ _ _ _ _ h)
  · replace h := (bte_i h).1 h2
    refine r_aload_n hκ 0 rfl rfl dX0_days_10 ?_
    refine r_bipush hκ (by decide) dX0_days_11 ?_
    obtain ⟨h3, h⟩ := bck_i h
    obtain ⟨s2, v2, h4, h⟩ := bcl_i h
    refine r_callV hκ (n' := 1) (index := 79) (w_X0_no Γ0 l0 h4) (lw_V q627 q629 qs2 q121 q630) (by decide +kernel) (t := 0) h3 rfl rfl (by decide) rfl (Nat.le_of_ble_eq_true rfl) dX0_days_13 ?_
    exact r_iretH hκ hf h (nar_int _) dX0_days_16
/-- EditsMeet.seed(I)I -/
def F_X0_seed (s0 : bS) (a0 a1 : Int) : Option (bS × Int) :=
  bck (bg s0 0 a0 0 = 1) <|
  bck (bg s0 0 (bg s0 34 a0 0) 0 = 2) <|
  bvl ((bg s0 80 (bg s0 34 a0 0) 0)) fun t1 =>
  bck (bg s0 0 a0 0 = 1) <|
  bck ((bg s0 0 (bg s0 34 a0 0) 0 = 2)) <|
  bst (bw s0 80 (bg s0 34 a0 0) 0 a1) fun s1 =>
  some (s1, t1)
set_option maxHeartbeats 4000000 in
set_option maxRecDepth 100000 in
theorem w_X0_seed (Γ0 : bG) (l0 : Launch) {s0 st' : bS} {v a0 a1 : Int} (h : F_X0_seed s0 a0 a1 = some (st', v)) : bCt Γ0 l0 yX0_seed cX0_seed 3 (some .int) 0 0 [(2, a0), (0, a1)] s0 st' (some (0, v)) := by
  refine b_ent (own := RX0) (by decide +kernel) rfl (Nat.le_of_ble_eq_true rfl) (L := [(0, (2, a0)), (1, (0, a1))]) rfl ?_
  intro κ hκ hi hf
  unfold F_X0_seed at h
  refine r_aload_n hκ 0 rfl rfl dX0_seed_0 ?_
  obtain ⟨h1, h⟩ := bck_i h
  refine r_get hκ (t := 0) (k := 0) (r := 34) h1 rfl in_X0 (by decide) rfl q573 (Or.inl rfl) dX0_seed_1 ?_
  obtain ⟨h2, h⟩ := bck_i h
  refine r_get hκ (t := 1) (k := 4) (r := 80) h2 rfl in_X1 (by decide) rfl q548 (Or.inl rfl) dX0_seed_4 ?_
  refine r_nm (fun t1 et1 => ?_)
  replace h := bvl_i h t1 et1
  refine r_istore_n hκ (L2 := [(2, (0, t1)), (0, (2, a0)), (1, (0, a1))]) (by decide) rfl rfl dX0_seed_7 ?_
  refine r_aload_n hκ 1 rfl rfl dX0_seed_8 ?_
  obtain ⟨h3, h⟩ := bck_i h
  refine r_get hκ (t := 0) (k := 0) (r := 34) h3 rfl in_X0 (by decide) rfl q573 (Or.inl rfl) dX0_seed_9 ?_
  refine r_iload_n hκ 2 rfl rfl dX0_seed_12 ?_
  obtain ⟨h4, h⟩ := bck_i h
  refine r_put hκ (t := 1) (k := 4) (r := 80) (ty := .int) tyX1 tyX1_ok nmX1 h4 rfl in_X1 (by decide) rfl q548 (Or.inl rfl) rfl rfl rfl trivial (Or.inl (by decide)) dX0_seed_13 (fun s1 es1 => ?_)
  replace h := bst_i h s1 es1
  refine r_iload_n hκ 0 rfl rfl dX0_seed_16 ?_
  exact r_iretH hκ hf h (nar_int _) dX0_seed_17
/-- EditsMeet.image()I -/
def F_X0_image (s0 : bS) (a0 : Int) : Option (bS × Int) :=
  bck (bg s0 0 a0 0 = 1) <|
  bck (bg s0 0 a0 0 = 1) <|
  bck (bg s0 0 (bg s0 38 a0 0) 0 = 2) <|
  bcl (F_X1_becomes s0 (bg s0 38 a0 0) (bg s0 34 a0 0)) fun s1 v1 =>
  bck ((bg s1 0 a0 0 = 1) ∧ ((1 : Int) = 0 ∨ (1 : Int) = 1)) <|
  bst (bw s1 40 a0 0 1) fun s2 =>
  some (s2, 1)
set_option maxHeartbeats 4000000 in
set_option maxRecDepth 100000 in
theorem w_X0_image (Γ0 : bG) (l0 : Launch) {s0 st' : bS} {v a0 : Int} (h : F_X0_image s0 a0 = some (st', v)) : bCt Γ0 l0 yX0_image cX0_image 1 (some .int) 14 322 [(2, a0)] s0 st' (some (0, v)) := by
  refine b_ent (own := RX0) (by decide +kernel) rfl (Nat.le_of_ble_eq_true rfl) (L := [(0, (2, a0))]) rfl ?_
  intro κ hκ hi hf
  unfold F_X0_image at h
  refine r_aload_n hκ 0 rfl rfl dX0_image_0 ?_
  obtain ⟨h1, h⟩ := bck_i h
  refine r_get hκ (t := 0) (k := 1) (r := 38) h1 rfl in_X0 (by decide) rfl q574 (Or.inl rfl) dX0_image_1 ?_
  refine r_aload_n hκ 0 rfl rfl dX0_image_4 ?_
  obtain ⟨h2, h⟩ := bck_i h
  refine r_get hκ (t := 0) (k := 0) (r := 34) h2 rfl in_X0 (by decide) rfl q573 (Or.inl rfl) dX0_image_5 ?_
  obtain ⟨h3, h⟩ := bck_i h
  obtain ⟨s1, v1, h4, h⟩ := bcl_i h
  refine r_callV hκ (n' := 1) (index := 442) (w_X1_becomes Γ0 l0 h4) (lw_V q2797 q2798 q2799 q122 q2800) (by decide +kernel) (t := 1) h3 rfl rfl (by decide) rfl (Nat.le_of_ble_eq_true rfl) dX0_image_8 ?_
  refine r_pop hκ (bd_cat2k _) dX0_image_11 ?_
  refine r_aload_n hκ 0 rfl rfl dX0_image_12 ?_
  refine r_iconst hκ dX0_image_13 ?_
  obtain ⟨⟨h5, h6⟩, h⟩ := bck_i h
  refine r_put hκ (t := 0) (k := 2) (r := 40) (ty := .boolean) tyX0 tyX0_ok nmX0 h5 rfl in_X0 (by decide) rfl q575 (Or.inl rfl) rfl rfl rfl h6 (Or.inl (by decide)) dX0_image_14 (fun s2 es2 => ?_)
  replace h := bst_i h s2 es2
  refine r_iconst hκ dX0_image_17 ?_
  exact r_iretH hκ hf h (nar_int _) dX0_image_18
/-- EditsMeet.back()I -/
def F_X0_back (s0 : bS) (a0 : Int) : Option (bS × Int) :=
  bck (bg s0 0 a0 0 = 1) <|
  bte (i32 (bg s0 40 a0 0) = 0)
  (bck (bg s0 0 a0 0 = 1) <|
  bcl (F_X0_no s0 a0 (-5)) fun s2 v2 =>
  some (s2, v2))
  (bck (bg s0 0 a0 0 = 1) <|
  bck (bg s0 0 a0 0 = 1) <|
  bck (bg s0 0 (bg s0 34 a0 0) 0 = 2) <|
  bcl (F_X1_becomes s0 (bg s0 34 a0 0) (bg s0 38 a0 0)) fun s1 v1 =>
  some (s1, 1))
set_option maxHeartbeats 4000000 in
set_option maxRecDepth 100000 in
theorem w_X0_back (Γ0 : bG) (l0 : Launch) {s0 st' : bS} {v a0 : Int} (h : F_X0_back s0 a0 = some (st', v)) : bCt Γ0 l0 yX0_back cX0_back 1 (some .int) 14 322 [(2, a0)] s0 st' (some (0, v)) := by
  refine b_ent (own := RX0) (by decide +kernel) rfl (Nat.le_of_ble_eq_true rfl) (L := [(0, (2, a0))]) rfl ?_
  intro κ hκ hi hf
  unfold F_X0_back at h
  refine r_aload_n hκ 0 rfl rfl dX0_back_0 ?_
  obtain ⟨h1, h⟩ := bck_i h
  refine r_get hκ (t := 0) (k := 2) (r := 40) h1 rfl in_X0 (by decide) rfl q575 (Or.inl rfl) dX0_back_1 ?_
  refine r_if_ne hκ (tgt := 14) (by decide) dX0_back_4 (fun h2 => ?_) (fun h2 => ?_)
  · replace h := (bte_i h).2 h2
    refine r_aload_n hκ 0 rfl rfl dX0_back_14 ?_
    obtain ⟨h3, h⟩ := bck_i h
    refine r_get hκ (t := 0) (k := 0) (r := 34) h3 rfl in_X0 (by decide) rfl q573 (Or.inl rfl) dX0_back_15 ?_
    refine r_aload_n hκ 0 rfl rfl dX0_back_18 ?_
    obtain ⟨h4, h⟩ := bck_i h
    refine r_get hκ (t := 0) (k := 1) (r := 38) h4 rfl in_X0 (by decide) rfl q574 (Or.inl rfl) dX0_back_19 ?_
    obtain ⟨h5, h⟩ := bck_i h
    obtain ⟨s1, v1, h6, h⟩ := bcl_i h
    refine r_callV hκ (n' := 1) (index := 442) (w_X1_becomes Γ0 l0 h6) (lw_V q2797 q2798 q2799 q122 q2800) (by decide +kernel) (t := 1) h5 rfl rfl (by decide) rfl (Nat.le_of_ble_eq_true rfl) dX0_back_22 ?_
    refine r_pop hκ (bd_cat2k _) dX0_back_25 ?_
    refine r_iconst hκ dX0_back_26 ?_
    exact r_iretH hκ hf h (nar_int _) dX0_back_27
  · replace h := (bte_i h).1 h2
    refine r_aload_n hκ 0 rfl rfl dX0_back_7 ?_
    refine r_bipush hκ (by decide) dX0_back_8 ?_
    obtain ⟨h7, h⟩ := bck_i h
    obtain ⟨s2, v2, h8, h⟩ := bcl_i h
    refine r_callV hκ (n' := 1) (index := 79) (w_X0_no Γ0 l0 h8) (lw_V q627 q629 qs2 q121 q630) (by decide +kernel) (t := 0) h7 rfl rfl (by decide) rfl (Nat.le_of_ble_eq_true rfl) dX0_back_10 ?_
    exact r_iretH hκ hf h (nar_int _) dX0_back_13
/-- EditsMeet.lambda$status$26(I)I -/
def F_X0_lambda_status_26 (s0 : bS) (a0 a1 : Int) : Option (bS × Int × Int) :=
  bck (bg s0 0 a0 0 = 1) <|
  bck (bg s0 0 (bg s0 34 a0 0) 0 = 2) <|
  bcl (F_X1_text s0 (bg s0 34 a0 0) a1) fun s1 v1 =>
  bck (bg s1 0 a0 0 = 1) <|
  bck (bg s1 0 (bg s1 34 a0 0) 0 = 2) <|
  bck (bg s1 0 v1 0 = 3) <|
  bcl (F_X2_differs s1 v1 (bg s1 70 (bg s1 34 a0 0) 0)) fun s2 v2 =>
  bte (i32 v2 = i32 (-1))
  (some (s2, 1, -1))
  (some (s2, 0, -1))
set_option maxHeartbeats 4000000 in
set_option maxRecDepth 100000 in
theorem w_X0_lambda_status_26 (Γ0 : bG) (l0 : Launch) {s0 st' : bS} {v xx a0 a1 : Int} (h : F_X0_lambda_status_26 s0 a0 a1 = some (st', v, xx)) : bCx Γ0 l0 yX0_lambda_status_26 (ws_ yX0_lambda_status_26 cX0_lambda_status_26 2 (some .int)) 6 132 (some 0) [(2, a0), (0, a1)] s0 (bEq st' v xx) := by
  refine xb_ent (own := RX0) (by decide +kernel) rfl (Nat.le_of_ble_eq_true rfl) (L := [(0, (2, a0)), (1, (0, a1))]) rfl ?_
  intro κ hκ hi ht hf
  unfold F_X0_lambda_status_26 at h
  refine r_aload_n hκ 0 rfl rfl dX0_lambda_status_26_0 ?_
  obtain ⟨h1, h⟩ := bck_i h
  refine r_get hκ (t := 0) (k := 0) (r := 34) h1 rfl in_X0 (by decide) rfl q573 (Or.inl rfl) dX0_lambda_status_26_1 ?_
  refine r_iload_n hκ 1 rfl rfl dX0_lambda_status_26_4 ?_
  obtain ⟨h2, h⟩ := bck_i h
  obtain ⟨s1, v1, h3, h⟩ := bcl_i h
  refine r_callV hκ (n' := 1) (index := 396) (w_X1_text Γ0 l0 h3) (lw_V q2162 q2163 q2164 q122 q2165) (by decide +kernel) (t := 1) h2 rfl rfl (by decide) rfl (Nat.le_of_ble_eq_true rfl) dX0_lambda_status_26_5 ?_
  refine r_aload_n hκ 0 rfl rfl dX0_lambda_status_26_8 ?_
  obtain ⟨h4, h⟩ := bck_i h
  refine r_get hκ (t := 0) (k := 0) (r := 34) h4 rfl in_X0 (by decide) rfl q573 (Or.inl rfl) dX0_lambda_status_26_9 ?_
  obtain ⟨h5, h⟩ := bck_i h
  refine r_get hκ (t := 1) (k := 1) (r := 70) h5 rfl in_X1 (by decide) rfl q542 (Or.inl rfl) dX0_lambda_status_26_12 ?_
  obtain ⟨h6, h⟩ := bck_i h
  obtain ⟨s2, v2, h7, h⟩ := bcl_i h
  refine r_callV hκ (n' := 1) (index := 403) (w_X2_differs Γ0 l0 h7) (lw_V q2748 q2749 q2750 q123 q2751) (by decide +kernel) (t := 2) h6 rfl rfl (by decide) rfl (Nat.le_of_ble_eq_true rfl) dX0_lambda_status_26_15 ?_
  refine r_iconst hκ dX0_lambda_status_26_18 ?_
  refine r_icmp_ne hκ (tgt := 26) (by decide) dX0_lambda_status_26_19 (fun h8 => ?_) (fun h8 => ?_)
  · replace h := (bte_i h).2 h8
    refine r_iconst hκ dX0_lambda_status_26_26 ?_
    exact x_ret hκ hf (x_P h) (fun κ hκ hf => r_iret hκ hf (nar_int _) dX0_lambda_status_26_27)
  · replace h := (bte_i h).1 h8
    refine r_iconst hκ dX0_lambda_status_26_22 ?_
    refine r_goto hκ (tgt := 27) (by decide) dX0_lambda_status_26_23 ?_
    exact x_ret hκ hf (x_P h) (fun κ hκ hf => r_iret hκ hf (nar_int _) dX0_lambda_status_26_27)
/-- EditsMeet.lambda$status$27(I)I -/
def F_X0_lambda_status_27 (s0 : bS) (a0 a1 : Int) : Option (bS × Int × Int) :=
  bck (bg s0 0 a0 0 = 1) <|
  bck (bg s0 0 (bg s0 46 a0 0) 0 = 1008 ∧ (0 : Int) ≤ a1 ∧ a1 < bg s0 4 (bg s0 46 a0 0) 0) <|
  bte ((bg s0 10 (bg s0 46 a0 0) a1) < 0)
  (some (s0, 0, -1))
  (some (s0, 1, -1))
set_option maxHeartbeats 4000000 in
set_option maxRecDepth 100000 in
theorem w_X0_lambda_status_27 (Γ0 : bG) (l0 : Launch) {s0 st' : bS} {v xx a0 a1 : Int} (h : F_X0_lambda_status_27 s0 a0 a1 = some (st', v, xx)) : bCx Γ0 l0 yX0_lambda_status_27 (ws_ yX0_lambda_status_27 cX0_lambda_status_27 2 (some .int)) 0 0 (some 0) [(2, a0), (0, a1)] s0 (bEq st' v xx) := by
  refine xb_ent (own := RX0) (by decide +kernel) rfl (Nat.le_of_ble_eq_true rfl) (L := [(0, (2, a0)), (1, (0, a1))]) rfl ?_
  intro κ hκ hi ht hf
  unfold F_X0_lambda_status_27 at h
  refine r_aload_n hκ 0 rfl rfl dX0_lambda_status_27_0 ?_
  obtain ⟨h1, h⟩ := bck_i h
  refine r_get hκ (t := 0) (k := 3) (r := 46) h1 rfl in_X0 (by decide) rfl q576 (Or.inl rfl) dX0_lambda_status_27_1 ?_
  refine r_iload_n hκ 1 rfl rfl dX0_lambda_status_27_4 ?_
  obtain ⟨⟨h2, h3⟩, h⟩ := bck_i h
  refine r_aald hκ (t := 8) (by decide) h2 h3 dX0_lambda_status_27_5 ?_
  refine r_ifnull hκ (tgt := 13) (by decide) dX0_lambda_status_27_6 (fun h4 => ?_) (fun h4 => ?_)
  · replace h := (bte_i h).1 h4
    refine r_iconst hκ dX0_lambda_status_27_13 ?_
    exact x_ret hκ hf (x_P h) (fun κ hκ hf => r_iret hκ hf (nar_int _) dX0_lambda_status_27_14)
  · replace h := (bte_i h).2 h4
    refine r_iconst hκ dX0_lambda_status_27_9 ?_
    refine r_goto hκ (tgt := 14) (by decide) dX0_lambda_status_27_10 ?_
    exact x_ret hκ hf (x_P h) (fun κ hκ hf => r_iret hκ hf (nar_int _) dX0_lambda_status_27_14)
/-- EditsMeet.lambda$status$28(I)I -/
def F_X0_lambda_status_28 (s0 : bS) (a0 a1 : Int) : Option (bS × Int × Int) :=
  bck (bg s0 0 a0 0 = 1) <|
  bck (bg s0 0 (bg s0 34 a0 0) 0 = 2) <|
  bcl (F_X1_text s0 (bg s0 34 a0 0) a1) fun s1 v1 =>
  bck (bg s1 0 v1 0 = 3) <|
  bcl (F_X2_length s1 v1) fun s2 v2 =>
  some (s2, v2, -1)
set_option maxHeartbeats 4000000 in
set_option maxRecDepth 100000 in
theorem w_X0_lambda_status_28 (Γ0 : bG) (l0 : Launch) {s0 st' : bS} {v xx a0 a1 : Int} (h : F_X0_lambda_status_28 s0 a0 a1 = some (st', v, xx)) : bCx Γ0 l0 yX0_lambda_status_28 (ws_ yX0_lambda_status_28 cX0_lambda_status_28 2 (some .int)) 3 60 (some 0) [(2, a0), (0, a1)] s0 (bEq st' v xx) := by
  refine xb_ent (own := RX0) (by decide +kernel) rfl (Nat.le_of_ble_eq_true rfl) (L := [(0, (2, a0)), (1, (0, a1))]) rfl ?_
  intro κ hκ hi ht hf
  unfold F_X0_lambda_status_28 at h
  refine r_aload_n hκ 0 rfl rfl dX0_lambda_status_28_0 ?_
  obtain ⟨h1, h⟩ := bck_i h
  refine r_get hκ (t := 0) (k := 0) (r := 34) h1 rfl in_X0 (by decide) rfl q573 (Or.inl rfl) dX0_lambda_status_28_1 ?_
  refine r_iload_n hκ 1 rfl rfl dX0_lambda_status_28_4 ?_
  obtain ⟨h2, h⟩ := bck_i h
  obtain ⟨s1, v1, h3, h⟩ := bcl_i h
  refine r_callV hκ (n' := 1) (index := 396) (w_X1_text Γ0 l0 h3) (lw_V q2162 q2163 q2164 q122 q2165) (by decide +kernel) (t := 1) h2 rfl rfl (by decide) rfl (Nat.le_of_ble_eq_true rfl) dX0_lambda_status_28_5 ?_
  obtain ⟨h4, h⟩ := bck_i h
  obtain ⟨s2, v2, h5, h⟩ := bcl_i h
  refine r_callV hκ (n' := 0) (index := 245) (w_X2_length Γ0 l0 h5) (lw_V q2166 q2167 q2168 q123 q2169) (by decide +kernel) (t := 2) h4 rfl rfl (by decide) rfl (Nat.le_of_ble_eq_true rfl) dX0_lambda_status_28_8 ?_
  exact x_ret hκ hf (x_P h) (fun κ hκ hf => r_iret hκ hf (nar_int _) dX0_lambda_status_28_11)
/-- EditsMeet.lambda$status$29(I)I -/
def F_X0_lambda_status_29 (s0 : bS) (a0 a1 : Int) : Option (bS × Int × Int) :=
  bck (bg s0 0 a0 0 = 1) <|
  bck (bg s0 0 (bg s0 34 a0 0) 0 = 2) <|
  bck (bg s0 0 (bg s0 66 (bg s0 34 a0 0) 0) 0 = 1007 ∧ (0 : Int) ≤ a1 ∧ a1 < bg s0 4 (bg s0 66 (bg s0 34 a0 0) 0) 0) <|
  bck (bg s0 0 (bg s0 10 (bg s0 66 (bg s0 34 a0 0) 0) a1) 0 = 8) <|
  bcl (F_X9_sent s0 (bg s0 10 (bg s0 66 (bg s0 34 a0 0) 0) a1)) fun s1 v1 =>
  bte (v1 < 0)
  (some (s1, 0, -1))
  (some (s1, 1, -1))
set_option maxHeartbeats 4000000 in
set_option maxRecDepth 100000 in
theorem w_X0_lambda_status_29 (Γ0 : bG) (l0 : Launch) {s0 st' : bS} {v xx a0 a1 : Int} (h : F_X0_lambda_status_29 s0 a0 a1 = some (st', v, xx)) : bCx Γ0 l0 yX0_lambda_status_29 (ws_ yX0_lambda_status_29 cX0_lambda_status_29 2 (some .int)) 1 20 (some 0) [(2, a0), (0, a1)] s0 (bEq st' v xx) := by
  refine xb_ent (own := RX0) (by decide +kernel) rfl (Nat.le_of_ble_eq_true rfl) (L := [(0, (2, a0)), (1, (0, a1))]) rfl ?_
  intro κ hκ hi ht hf
  unfold F_X0_lambda_status_29 at h
  refine r_aload_n hκ 0 rfl rfl dX0_lambda_status_29_0 ?_
  obtain ⟨h1, h⟩ := bck_i h
  refine r_get hκ (t := 0) (k := 0) (r := 34) h1 rfl in_X0 (by decide) rfl q573 (Or.inl rfl) dX0_lambda_status_29_1 ?_
  obtain ⟨h2, h⟩ := bck_i h
  refine r_get hκ (t := 1) (k := 0) (r := 66) h2 rfl in_X1 (by decide) rfl q540 (Or.inl rfl) dX0_lambda_status_29_4 ?_
  refine r_iload_n hκ 1 rfl rfl dX0_lambda_status_29_7 ?_
  obtain ⟨⟨h3, h4⟩, h⟩ := bck_i h
  refine r_aald hκ (t := 7) (by decide) h3 h4 dX0_lambda_status_29_8 ?_
  obtain ⟨h5, h⟩ := bck_i h
  obtain ⟨s1, v1, h6, h⟩ := bcl_i h
  refine r_callV hκ (n' := 0) (index := 374) (w_X9_sent Γ0 l0 h6) (lw_V q2696 q2697 q2698 q141 q2699) (by decide +kernel) (t := 7) h5 rfl rfl (by decide) rfl (Nat.le_of_ble_eq_true rfl) dX0_lambda_status_29_9 ?_
  refine r_ifnull hκ (tgt := 19) (by decide) dX0_lambda_status_29_12 (fun h7 => ?_) (fun h7 => ?_)
  · replace h := (bte_i h).1 h7
    refine r_iconst hκ dX0_lambda_status_29_19 ?_
    exact x_ret hκ hf (x_P h) (fun κ hκ hf => r_iret hκ hf (nar_int _) dX0_lambda_status_29_20)
  · replace h := (bte_i h).2 h7
    refine r_iconst hκ dX0_lambda_status_29_15 ?_
    refine r_goto hκ (tgt := 20) (by decide) dX0_lambda_status_29_16 ?_
    exact x_ret hκ hf (x_P h) (fun κ hκ hf => r_iret hκ hf (nar_int _) dX0_lambda_status_29_20)
/-- EditsMeet.lambda$status$30(I)I -/
def F_X0_lambda_status_30 (s0 : bS) (a0 a1 : Int) : Option (bS × Int × Int) :=
  bck (bg s0 0 a0 0 = 1) <|
  bck (bg s0 0 (bg s0 50 a0 0) 0 = 1009 ∧ (0 : Int) ≤ a1 ∧ a1 < bg s0 4 (bg s0 50 a0 0) 0) <|
  bck (bg s0 0 (bg s0 10 (bg s0 50 a0 0) a1) 0 = 10) <|
  bte ((bg s0 210 (bg s0 10 (bg s0 50 a0 0) a1) 0) < 0)
  (some (s0, 0, -1))
  (some (s0, 1, -1))
set_option maxHeartbeats 4000000 in
set_option maxRecDepth 100000 in
theorem w_X0_lambda_status_30 (Γ0 : bG) (l0 : Launch) {s0 st' : bS} {v xx a0 a1 : Int} (h : F_X0_lambda_status_30 s0 a0 a1 = some (st', v, xx)) : bCx Γ0 l0 yX0_lambda_status_30 (ws_ yX0_lambda_status_30 cX0_lambda_status_30 2 (some .int)) 0 0 (some 0) [(2, a0), (0, a1)] s0 (bEq st' v xx) := by
  refine xb_ent (own := RX0) (by decide +kernel) rfl (Nat.le_of_ble_eq_true rfl) (L := [(0, (2, a0)), (1, (0, a1))]) rfl ?_
  intro κ hκ hi ht hf
  unfold F_X0_lambda_status_30 at h
  refine r_aload_n hκ 0 rfl rfl dX0_lambda_status_30_0 ?_
  obtain ⟨h1, h⟩ := bck_i h
  refine r_get hκ (t := 0) (k := 4) (r := 50) h1 rfl in_X0 (by decide) rfl q577 (Or.inl rfl) dX0_lambda_status_30_1 ?_
  refine r_iload_n hκ 1 rfl rfl dX0_lambda_status_30_4 ?_
  obtain ⟨⟨h2, h3⟩, h⟩ := bck_i h
  refine r_aald hκ (t := 9) (by decide) h2 h3 dX0_lambda_status_30_5 ?_
  obtain ⟨h4, h⟩ := bck_i h
  refine r_get hκ (t := 9) (k := 0) (r := 210) h4 rfl in_X11 (by decide) rfl q569 (Or.inl rfl) dX0_lambda_status_30_6 ?_
  refine r_ifnull hκ (tgt := 16) (by decide) dX0_lambda_status_30_9 (fun h5 => ?_) (fun h5 => ?_)
  · replace h := (bte_i h).1 h5
    refine r_iconst hκ dX0_lambda_status_30_16 ?_
    exact x_ret hκ hf (x_P h) (fun κ hκ hf => r_iret hκ hf (nar_int _) dX0_lambda_status_30_17)
  · replace h := (bte_i h).2 h5
    refine r_iconst hκ dX0_lambda_status_30_12 ?_
    refine r_goto hκ (tgt := 17) (by decide) dX0_lambda_status_30_13 ?_
    exact x_ret hκ hf (x_P h) (fun κ hκ hf => r_iret hκ hf (nar_int _) dX0_lambda_status_30_17)
/-- EditsMeet.sum(ILEditsMeet$Tally;)I -/
def F_X0_sum_r (b : Nat) (x0 x1 x2 x3 : Int) (s0 : bS) : Option (bS × Int) :=
  match b with
  | 0 =>
    bte (i32 x0 ≤ i32 x3)
    (some (s0, x2))
    (bclx (bte (bg s0 0 x1 0 = 528) (bck (bg s0 0 (bg s0 2402 x1 0) 0 = 1) <| F_X0_lambda_status_26 s0 (bg s0 2402 x1 0) x3) (bte (bg s0 0 x1 0 = 529) (bck (bg s0 0 (bg s0 2402 x1 0) 0 = 1) <| F_X0_lambda_status_27 s0 (bg s0 2402 x1 0) x3) (bte (bg s0 0 x1 0 = 530) (bck (bg s0 0 (bg s0 2402 x1 0) 0 = 1) <| F_X0_lambda_status_28 s0 (bg s0 2402 x1 0) x3) (bte (bg s0 0 x1 0 = 531) (bck (bg s0 0 (bg s0 2402 x1 0) 0 = 1) <| F_X0_lambda_status_29 s0 (bg s0 2402 x1 0) x3) (bte (bg s0 0 x1 0 = 532) (bck (bg s0 0 (bg s0 2402 x1 0) 0 = 1) <| F_X0_lambda_status_30 s0 (bg s0 2402 x1 0) x3) (none)))))) fun s1 v1 v2 =>
    bck (v2 = -1) <|
    F_X0_sum_r 0 x0 x1 (x2 + v1) (x3 + 1) s1)
  | _ => none
partial_fixpoint
def F_X0_sum (s0 : bS) (a0 a1 : Int) : Option (bS × Int) :=
  F_X0_sum_r 0 a0 a1 0 0 s0
set_option maxHeartbeats 4000000 in
set_option maxRecDepth 100000 in
set_option synthInstance.maxHeartbeats 4000000 in
theorem w_X0_sum_r {Γ0 : bG} {l0 : Launch} {κ : bK} {st' : bS} {v : Int} (hκ : bOk κ Γ0 l0 cX0_sum RX0 4 8 174) (hi : bIn κ yX0_sum) (hf : bFin κ (some .int) st' (some (0, v))) (b : Nat) (x0 x1 x2 x3 : Int) (s0 : bS) (h : F_X0_sum_r b x0 x1 x2 x3 s0 = some (st', v)) : match (generalizing := false) b with | 0 => bJ κ s0 4 [(0, (0, x0)), (1, (2, x1)), (2, (0, x2)), (3, (0, x3))] [] | _ => True := by
  refine F_X0_sum_r.partial_correctness x0 x1 (fun b x2 x3 s0 r => r = (st', v) → match (generalizing := false) b with | 0 => bJ κ s0 4 [(0, (0, x0)), (1, (2, x1)), (2, (0, x2)), (3, (0, x3))] [] | _ => True) ?_ b x2 x3 s0 _ h rfl
  intro f' ih b x2 x3 s0 r h hr
  subst hr
  match b, h with
  | 0, h =>
      refine r_iload_n hκ 3 rfl rfl dX0_sum_4 ?_
      refine r_iload_n hκ 0 rfl rfl dX0_sum_5 ?_
      refine r_icmp_ge hκ (tgt := 25) (by decide) dX0_sum_6 (fun h1 => ?_) (fun h1 => ?_)
      · replace h := (bte_i h).1 h1
        refine r_iload_n hκ 2 rfl rfl dX0_sum_25 ?_
        exact r_iretH hκ hf h (nar_int _) dX0_sum_26
      · replace h := (bte_i h).2 h1
        refine r_iload_n hκ 2 rfl rfl dX0_sum_9 ?_
        refine r_aload_n hκ 1 rfl rfl dX0_sum_10 ?_
        refine r_iload_n hκ 3 rfl rfl dX0_sum_11 ?_
        obtain ⟨s1, v1, v2, h2, h⟩ := bclx_i h
        obtain ⟨h3, h⟩ := bck_i h
        refine r_seq (A := bJ κ s1 17 [(0, (0, x0)), (1, (2, x1)), (2, (0, x2)), (3, (0, x3))] [(0, v1), (0, x2)]) ?_ (fun k0 => ?_)
        case refine_2 =>
          by_cases h4 : bg s0 0 x1 0 = 528
          · have hq0 := (bte_i h2).1 h4
            obtain ⟨hq1, hq0⟩ := bck_i hq0
            exact r_callL5 hκ (k := 28) (xi := ⟨"EditsMeet$Tally", "of", "(I)I"⟩) rfl (lams_28 rfl) q3683 (v0 := (bg s0 2402 x1 0)) (xs := []) (ps := [x3]) rfl rfl (by decide) h4 rfl (fun j hj => by
      match j, hj with
      | j + 0, hj => exact absurd hj (by simp)) ⟨rfl, rfl, by decide +kernel, rfl⟩ (y := yX0_lambda_status_26) rfl (by decide +kernel) rfl (Nat.le_of_ble_eq_true rfl) rfl lmd1_1 (fun _ => lmp1_1) lmi1_1 lmr1_1 (w_X0_lambda_status_26 Γ0 l0 hq0) hq1 q3028 (by decide +kernel) (by decide +kernel) q3022 qs68 q121 q3023 (by decide) (by decide) (Eq.trans (b := some 1) (by decide +kernel) rfl) (Eq.trans (b := some 1) (by decide +kernel) rfl) (by decide) rfl (Nat.le_of_ble_eq_true rfl) dX0_sum_12 (r_xj1L (fun _ => k0)) (r_xj2 (fun hn => absurd h3 hn))
          replace h2 := (bte_i h2).2 h4
          by_cases h5 : bg s0 0 x1 0 = 529
          · have hq0 := (bte_i h2).1 h5
            obtain ⟨hq1, hq0⟩ := bck_i hq0
            exact r_callL5 hκ (k := 29) (xi := ⟨"EditsMeet$Tally", "of", "(I)I"⟩) rfl (lams_29 rfl) q3683 (v0 := (bg s0 2402 x1 0)) (xs := []) (ps := [x3]) rfl rfl (by decide) h5 rfl (fun j hj => by
      match j, hj with
      | j + 0, hj => exact absurd hj (by simp)) ⟨rfl, rfl, by decide +kernel, rfl⟩ (y := yX0_lambda_status_27) rfl (by decide +kernel) rfl (Nat.le_of_ble_eq_true rfl) rfl lmd1_1 (fun _ => lmp1_1) lmi1_1 lmr1_1 (w_X0_lambda_status_27 Γ0 l0 hq0) hq1 q3028 (by decide +kernel) (by decide +kernel) q3032 qs69 q121 q3033 (by decide) (by decide) (Eq.trans (b := some 1) (by decide +kernel) rfl) (Eq.trans (b := some 1) (by decide +kernel) rfl) (by decide) rfl (Nat.le_of_ble_eq_true rfl) dX0_sum_12 (r_xj1L (fun _ => k0)) (r_xj2 (fun hn => absurd h3 hn))
          replace h2 := (bte_i h2).2 h5
          by_cases h6 : bg s0 0 x1 0 = 530
          · have hq0 := (bte_i h2).1 h6
            obtain ⟨hq1, hq0⟩ := bck_i hq0
            exact r_callL5 hκ (k := 30) (xi := ⟨"EditsMeet$Tally", "of", "(I)I"⟩) rfl (lams_30 rfl) q3683 (v0 := (bg s0 2402 x1 0)) (xs := []) (ps := [x3]) rfl rfl (by decide) h6 rfl (fun j hj => by
      match j, hj with
      | j + 0, hj => exact absurd hj (by simp)) ⟨rfl, rfl, by decide +kernel, rfl⟩ (y := yX0_lambda_status_28) rfl (by decide +kernel) rfl (Nat.le_of_ble_eq_true rfl) rfl lmd1_1 (fun _ => lmp1_1) lmi1_1 lmr1_1 (w_X0_lambda_status_28 Γ0 l0 hq0) hq1 q3028 (by decide +kernel) (by decide +kernel) q3035 qs70 q121 q3036 (by decide) (by decide) (Eq.trans (b := some 1) (by decide +kernel) rfl) (Eq.trans (b := some 1) (by decide +kernel) rfl) (by decide) rfl (Nat.le_of_ble_eq_true rfl) dX0_sum_12 (r_xj1L (fun _ => k0)) (r_xj2 (fun hn => absurd h3 hn))
          replace h2 := (bte_i h2).2 h6
          by_cases h7 : bg s0 0 x1 0 = 531
          · have hq0 := (bte_i h2).1 h7
            obtain ⟨hq1, hq0⟩ := bck_i hq0
            exact r_callL5 hκ (k := 31) (xi := ⟨"EditsMeet$Tally", "of", "(I)I"⟩) rfl (lams_31 rfl) q3683 (v0 := (bg s0 2402 x1 0)) (xs := []) (ps := [x3]) rfl rfl (by decide) h7 rfl (fun j hj => by
      match j, hj with
      | j + 0, hj => exact absurd hj (by simp)) ⟨rfl, rfl, by decide +kernel, rfl⟩ (y := yX0_lambda_status_29) rfl (by decide +kernel) rfl (Nat.le_of_ble_eq_true rfl) rfl lmd1_1 (fun _ => lmp1_1) lmi1_1 lmr1_1 (w_X0_lambda_status_29 Γ0 l0 hq0) hq1 q3028 (by decide +kernel) (by decide +kernel) q3038 qs71 q121 q3039 (by decide) (by decide) (Eq.trans (b := some 1) (by decide +kernel) rfl) (Eq.trans (b := some 1) (by decide +kernel) rfl) (by decide) rfl (Nat.le_of_ble_eq_true rfl) dX0_sum_12 (r_xj1L (fun _ => k0)) (r_xj2 (fun hn => absurd h3 hn))
          replace h2 := (bte_i h2).2 h7
          by_cases h8 : bg s0 0 x1 0 = 532
          · have hq0 := (bte_i h2).1 h8
            obtain ⟨hq1, hq0⟩ := bck_i hq0
            exact r_callL5 hκ (k := 32) (xi := ⟨"EditsMeet$Tally", "of", "(I)I"⟩) rfl (lams_32 rfl) q3683 (v0 := (bg s0 2402 x1 0)) (xs := []) (ps := [x3]) rfl rfl (by decide) h8 rfl (fun j hj => by
      match j, hj with
      | j + 0, hj => exact absurd hj (by simp)) ⟨rfl, rfl, by decide +kernel, rfl⟩ (y := yX0_lambda_status_30) rfl (by decide +kernel) rfl (Nat.le_of_ble_eq_true rfl) rfl lmd1_1 (fun _ => lmp1_1) lmi1_1 lmr1_1 (w_X0_lambda_status_30 Γ0 l0 hq0) hq1 q3028 (by decide +kernel) (by decide +kernel) q3041 qs72 q121 q3042 (by decide) (by decide) (Eq.trans (b := some 1) (by decide +kernel) rfl) (Eq.trans (b := some 1) (by decide +kernel) rfl) (by decide) rfl (Nat.le_of_ble_eq_true rfl) dX0_sum_12 (r_xj1L (fun _ => k0)) (r_xj2 (fun hn => absurd h3 hn))
          replace h2 := (bte_i h2).2 h8
          cases h2
        refine r_iadd hκ dX0_sum_17 ?_
        refine r_istore_n hκ (L2 := [(2, (0, (x2 + v1))), (0, (0, x0)), (1, (2, x1)), (3, (0, x3))]) (by decide) rfl rfl dX0_sum_18 ?_
        refine r_iinc hκ (L2 := [(3, (0, (x3 + 1))), (2, (0, (x2 + v1))), (0, (0, x0)), (1, (2, x1))]) 3 rfl (by decide) rfl dX0_sum_19 ?_
        refine r_goto hκ (tgt := 4) (by decide) dX0_sum_22 ?_
        exact r_sub [2, 3, 1, 0] rfl (ih 0 _ _ _ _ h rfl)
  | b + 1, h => trivial
set_option maxHeartbeats 4000000 in
set_option maxRecDepth 100000 in
theorem w_X0_sum (Γ0 : bG) (l0 : Launch) {s0 st' : bS} {v a0 a1 : Int} (h : F_X0_sum s0 a0 a1 = some (st', v)) : bCt Γ0 l0 yX0_sum cX0_sum 4 (some .int) 8 174 [(0, a0), (2, a1)] s0 st' (some (0, v)) := by
  refine b_ent (own := RX0) (by decide +kernel) rfl (Nat.le_of_ble_eq_true rfl) (L := [(0, (0, a0)), (1, (2, a1))]) rfl ?_
  intro κ hκ hi hf
  unfold F_X0_sum at h
  refine r_iconst hκ dX0_sum_0 ?_
  refine r_istore_n hκ (L2 := [(2, (0, 0)), (0, (0, a0)), (1, (2, a1))]) (by decide) rfl rfl dX0_sum_1 ?_
  refine r_iconst hκ dX0_sum_2 ?_
  refine r_istore_n hκ (L2 := [(3, (0, 0)), (2, (0, 0)), (0, (0, a0)), (1, (2, a1))]) (by decide) rfl rfl dX0_sum_3 ?_
  exact r_sub [2, 3, 1, 0] rfl (w_X0_sum_r hκ hi hf 0 _ _ _ _ _ h)
/-- EditsMeet.status(I)I -/
def F_X0_status (s0 : bS) (a0 a1 : Int) : Option (bS × Int) :=
  bcl (F_X0_isIn s0 a1 12 16) fun s1 v1 =>
  bte (i32 v1 = 0)
  (bte (b_t a1 = 0) (bck (bg s1 0 a0 0 = 1) <|
  bck (bg s1 0 (bg s1 34 a0 0) 0 = 2) <|
  bck (bg s1 0 (bg s1 74 (bg s1 34 a0 0) 0) 0 = 21) <|
  bcl (F_J10_size s1 (bg s1 74 (bg s1 34 a0 0) 0)) fun s2 v2 =>
  some (s2, v2)) (bte (b_t a1 = 1) (bck (bc s1 + 1 ≤ bCM ∧ bk s1 + 1 ≤ bKM) <|
  bst (blm s1 (500 + 28) [a0]) fun s3 =>
  bcl (F_X0_sum s3 4 (bnx s1 : Int)) fun s4 v3 =>
  some (s4, v3)) (bte (b_t a1 = 2) (bck (bc s1 + 1 ≤ bCM ∧ bk s1 + 1 ≤ bKM) <|
  bst (blm s1 (500 + 29) [a0]) fun s5 =>
  bcl (F_X0_sum s5 12 (bnx s1 : Int)) fun s6 v4 =>
  some (s6, v4)) (bte (b_t a1 = 3) (bck (bc s1 + 1 ≤ bCM ∧ bk s1 + 1 ≤ bKM) <|
  bst (blm s1 (500 + 30) [a0]) fun s7 =>
  bcl (F_X0_sum s7 5 (bnx s1 : Int)) fun s8 v5 =>
  some (s8, v5)) (bte (b_t a1 = 4) (bck (bc s1 + 1 ≤ bCM ∧ bk s1 + 1 ≤ bKM) <|
  bst (blm s1 (500 + 31) [a0]) fun s9 =>
  bcl (F_X0_sum s9 4 (bnx s1 : Int)) fun s10 v6 =>
  some (s10, v6)) (bte (b_t a1 = 5) (bck (bg s1 0 a0 0 = 1) <|
  some (s1, (bg s1 56 a0 0))) (bte (b_t a1 = 6) (bck (bg s1 0 a0 0 = 1) <|
  bck (bg s1 0 (bg s1 34 a0 0) 0 = 2) <|
  some (s1, (bg s1 80 (bg s1 34 a0 0) 0))) (bte (b_t a1 = 7) (bck (bc s1 + 1 ≤ bCM ∧ bk s1 + 1 ≤ bKM) <|
  bst (blm s1 (500 + 32) [a0]) fun s11 =>
  bcl (F_X0_sum s11 8 (bnx s1 : Int)) fun s12 v7 =>
  some (s12, v7)) (some (s1, (-1)))))))))))
  (bck (bg s1 0 a0 0 = 1) <|
  bck (bg s1 0 (bg s1 62 a0 0) 0 = 1003 ∧ (0 : Int) ≤ (a1 - 10) ∧ (a1 - 10) < bg s1 4 (bg s1 62 a0 0) 0) <|
  some (s1, (bg s1 20 (bg s1 62 a0 0) (a1 - 10))))
set_option maxHeartbeats 4000000 in
set_option maxRecDepth 100000 in
theorem w_X0_status (Γ0 : bG) (l0 : Launch) {s0 st' : bS} {v a0 a1 : Int} (h : F_X0_status s0 a0 a1 = some (st', v)) : bCt Γ0 l0 yX0_status cX0_status 2 (some .int) 9 3080 [(2, a0), (0, a1)] s0 st' (some (0, v)) := by
  refine b_ent (own := RX0) (by decide +kernel) rfl (Nat.le_of_ble_eq_true rfl) (L := [(0, (2, a0)), (1, (0, a1))]) rfl ?_
  intro κ hκ hi hf
  unfold F_X0_status at h
  refine r_iload_n hκ 1 rfl rfl dX0_status_0 ?_
  refine r_bipush hκ (by decide) dX0_status_1 ?_
  refine r_bipush hκ (by decide) dX0_status_3 ?_
  obtain ⟨s1, v1, h1, h⟩ := bcl_i h
  refine r_callS hκ (n' := 3) (index := 45) (w_X0_isIn Γ0 l0 h1) (lw_S q624 q625 q121 q626) (by decide +kernel) rfl (by decide) rfl (Nat.le_of_ble_eq_true rfl) dX0_status_5 ?_
  refine r_if_eq hκ (tgt := 21) (by decide) dX0_status_8 (fun h2 => ?_) (fun h2 => ?_)
  · replace h := (bte_i h).1 h2
    refine r_iload_n hκ 1 rfl rfl dX0_status_21 ?_
    by_cases h3 : b_t a1 = 0
    · replace h := (bte_i h).1 h3
      refine r_tswIn hκ (kk := 0) (tgt := 68) h3 (by decide) (by decide) rfl (by decide) dX0_status_22 ?_
      refine r_aload_n hκ 0 rfl rfl dX0_status_68 ?_
      obtain ⟨h4, h⟩ := bck_i h
      refine r_get hκ (t := 0) (k := 0) (r := 34) h4 rfl in_X0 (by decide) rfl q573 (Or.inl rfl) dX0_status_69 ?_
      obtain ⟨h5, h⟩ := bck_i h
      refine r_get hκ (t := 1) (k := 2) (r := 74) h5 rfl in_X1 (by decide) rfl q544 (Or.inl rfl) dX0_status_72 ?_
      obtain ⟨h6, h⟩ := bck_i h
      obtain ⟨s2, v2, h7, h⟩ := bcl_i h
      refine r_callV hκ (n' := 0) (index := 339) (w_J10_size Γ0 l0 h7) (lw_V q2531 q811 q812 q134 q813) (by decide +kernel) (t := 20) h6 rfl rfl (by decide) rfl (Nat.le_of_ble_eq_true rfl) dX0_status_75 ?_
      refine r_goto hκ (tgt := 166) (by decide) dX0_status_78 ?_
      exact r_iretH hκ hf h (nar_int _) dX0_status_166
    replace h := (bte_i h).2 h3
    by_cases h8 : b_t a1 = 1
    · replace h := (bte_i h).1 h8
      refine r_tswIn hκ (kk := 1) (tgt := 81) h8 (by decide) (by decide) rfl (by decide) dX0_status_22 ?_
      refine r_iconst hκ dX0_status_81 ?_
      refine r_aload_n hκ 0 rfl rfl dX0_status_82 ?_
      obtain ⟨h9, h⟩ := bck_i h
      refine r_indyM hκ hi (k := 28) rfl rfl rfl rfl (lams_28 rfl) q3683 (v0 := a0) (xs := []) rfl rfl (by decide) h9 rfl (Nat.le_of_ble_eq_true rfl) (Nat.le_of_ble_eq_true rfl) dX0_status_83 (fun s3 es3 => ?_)
      replace h := bst_i h s3 es3
      obtain ⟨s4, v3, h10, h⟩ := bcl_i h
      refine r_callS hκ (n' := 2) (index := 455) (w_X0_sum Γ0 l0 h10) (lw_S q3024 q3025 q121 q3026) (by decide +kernel) rfl (by decide) rfl (Nat.le_of_ble_eq_true rfl) dX0_status_88 ?_
      refine r_goto hκ (tgt := 166) (by decide) dX0_status_91 ?_
      exact r_iretH hκ hf h (nar_int _) dX0_status_166
    replace h := (bte_i h).2 h8
    by_cases h11 : b_t a1 = 2
    · replace h := (bte_i h).1 h11
      refine r_tswIn hκ (kk := 2) (tgt := 94) h11 (by decide) (by decide) rfl (by decide) dX0_status_22 ?_
      refine r_bipush hκ (by decide) dX0_status_94 ?_
      refine r_aload_n hκ 0 rfl rfl dX0_status_96 ?_
      obtain ⟨h12, h⟩ := bck_i h
      refine r_indyM hκ hi (k := 29) rfl rfl rfl rfl (lams_29 rfl) q3683 (v0 := a0) (xs := []) rfl rfl (by decide) h12 rfl (Nat.le_of_ble_eq_true rfl) (Nat.le_of_ble_eq_true rfl) dX0_status_97 (fun s5 es5 => ?_)
      replace h := bst_i h s5 es5
      obtain ⟨s6, v4, h13, h⟩ := bcl_i h
      refine r_callS hκ (n' := 2) (index := 455) (w_X0_sum Γ0 l0 h13) (lw_S q3024 q3025 q121 q3026) (by decide +kernel) rfl (by decide) rfl (Nat.le_of_ble_eq_true rfl) dX0_status_102 ?_
      refine r_goto hκ (tgt := 166) (by decide) dX0_status_105 ?_
      exact r_iretH hκ hf h (nar_int _) dX0_status_166
    replace h := (bte_i h).2 h11
    by_cases h14 : b_t a1 = 3
    · replace h := (bte_i h).1 h14
      refine r_tswIn hκ (kk := 3) (tgt := 108) h14 (by decide) (by decide) rfl (by decide) dX0_status_22 ?_
      refine r_iconst hκ dX0_status_108 ?_
      refine r_aload_n hκ 0 rfl rfl dX0_status_109 ?_
      obtain ⟨h15, h⟩ := bck_i h
      refine r_indyM hκ hi (k := 30) rfl rfl rfl rfl (lams_30 rfl) q3683 (v0 := a0) (xs := []) rfl rfl (by decide) h15 rfl (Nat.le_of_ble_eq_true rfl) (Nat.le_of_ble_eq_true rfl) dX0_status_110 (fun s7 es7 => ?_)
      replace h := bst_i h s7 es7
      obtain ⟨s8, v5, h16, h⟩ := bcl_i h
      refine r_callS hκ (n' := 2) (index := 455) (w_X0_sum Γ0 l0 h16) (lw_S q3024 q3025 q121 q3026) (by decide +kernel) rfl (by decide) rfl (Nat.le_of_ble_eq_true rfl) dX0_status_115 ?_
      refine r_goto hκ (tgt := 166) (by decide) dX0_status_118 ?_
      exact r_iretH hκ hf h (nar_int _) dX0_status_166
    replace h := (bte_i h).2 h14
    by_cases h17 : b_t a1 = 4
    · replace h := (bte_i h).1 h17
      refine r_tswIn hκ (kk := 4) (tgt := 121) h17 (by decide) (by decide) rfl (by decide) dX0_status_22 ?_
      refine r_iconst hκ dX0_status_121 ?_
      refine r_aload_n hκ 0 rfl rfl dX0_status_122 ?_
      obtain ⟨h18, h⟩ := bck_i h
      refine r_indyM hκ hi (k := 31) rfl rfl rfl rfl (lams_31 rfl) q3683 (v0 := a0) (xs := []) rfl rfl (by decide) h18 rfl (Nat.le_of_ble_eq_true rfl) (Nat.le_of_ble_eq_true rfl) dX0_status_123 (fun s9 es9 => ?_)
      replace h := bst_i h s9 es9
      obtain ⟨s10, v6, h19, h⟩ := bcl_i h
      refine r_callS hκ (n' := 2) (index := 455) (w_X0_sum Γ0 l0 h19) (lw_S q3024 q3025 q121 q3026) (by decide +kernel) rfl (by decide) rfl (Nat.le_of_ble_eq_true rfl) dX0_status_128 ?_
      refine r_goto hκ (tgt := 166) (by decide) dX0_status_131 ?_
      exact r_iretH hκ hf h (nar_int _) dX0_status_166
    replace h := (bte_i h).2 h17
    by_cases h20 : b_t a1 = 5
    · replace h := (bte_i h).1 h20
      refine r_tswIn hκ (kk := 5) (tgt := 134) h20 (by decide) (by decide) rfl (by decide) dX0_status_22 ?_
      refine r_aload_n hκ 0 rfl rfl dX0_status_134 ?_
      obtain ⟨h21, h⟩ := bck_i h
      refine r_get hκ (t := 0) (k := 6) (r := 56) h21 rfl in_X0 (by decide) rfl q581 (Or.inl rfl) dX0_status_135 ?_
      refine r_goto hκ (tgt := 166) (by decide) dX0_status_138 ?_
      exact r_iretH hκ hf h (nar_int _) dX0_status_166
    replace h := (bte_i h).2 h20
    by_cases h22 : b_t a1 = 6
    · replace h := (bte_i h).1 h22
      refine r_tswIn hκ (kk := 6) (tgt := 141) h22 (by decide) (by decide) rfl (by decide) dX0_status_22 ?_
      refine r_aload_n hκ 0 rfl rfl dX0_status_141 ?_
      obtain ⟨h23, h⟩ := bck_i h
      refine r_get hκ (t := 0) (k := 0) (r := 34) h23 rfl in_X0 (by decide) rfl q573 (Or.inl rfl) dX0_status_142 ?_
      obtain ⟨h24, h⟩ := bck_i h
      refine r_get hκ (t := 1) (k := 4) (r := 80) h24 rfl in_X1 (by decide) rfl q548 (Or.inl rfl) dX0_status_145 ?_
      refine r_goto hκ (tgt := 166) (by decide) dX0_status_148 ?_
      exact r_iretH hκ hf h (nar_int _) dX0_status_166
    replace h := (bte_i h).2 h22
    by_cases h25 : b_t a1 = 7
    · replace h := (bte_i h).1 h25
      refine r_tswIn hκ (kk := 7) (tgt := 151) h25 (by decide) (by decide) rfl (by decide) dX0_status_22 ?_
      refine r_bipush hκ (by decide) dX0_status_151 ?_
      refine r_aload_n hκ 0 rfl rfl dX0_status_153 ?_
      obtain ⟨h26, h⟩ := bck_i h
      refine r_indyM hκ hi (k := 32) rfl rfl rfl rfl (lams_32 rfl) q3683 (v0 := a0) (xs := []) rfl rfl (by decide) h26 rfl (Nat.le_of_ble_eq_true rfl) (Nat.le_of_ble_eq_true rfl) dX0_status_154 (fun s11 es11 => ?_)
      replace h := bst_i h s11 es11
      obtain ⟨s12, v7, h27, h⟩ := bcl_i h
      refine r_callS hκ (n' := 2) (index := 455) (w_X0_sum Γ0 l0 h27) (lw_S q3024 q3025 q121 q3026) (by decide +kernel) rfl (by decide) rfl (Nat.le_of_ble_eq_true rfl) dX0_status_159 ?_
      refine r_goto hκ (tgt := 166) (by decide) dX0_status_162 ?_
      exact r_iretH hκ hf h (nar_int _) dX0_status_166
    replace h := (bte_i h).2 h25
    refine r_tswOut hκ (tgt := 165) (by omega) (by decide) dX0_status_22 ?_
    refine r_iconst hκ dX0_status_165 ?_
    exact r_iretH hκ hf h (nar_int _) dX0_status_166
  · replace h := (bte_i h).2 h2
    refine r_aload_n hκ 0 rfl rfl dX0_status_11 ?_
    obtain ⟨h28, h⟩ := bck_i h
    refine r_get hκ (t := 0) (k := 7) (r := 62) h28 rfl in_X0 (by decide) rfl q582 (Or.inl rfl) dX0_status_12 ?_
    refine r_iload_n hκ 1 rfl rfl dX0_status_15 ?_
    refine r_bipush hκ (by decide) dX0_status_16 ?_
    refine r_isub hκ dX0_status_18 ?_
    obtain ⟨⟨h29, h30⟩, h⟩ := bck_i h
    refine r_iald hκ h29 h30 dX0_status_19 ?_
    exact r_iretH hκ hf h (nar_int _) dX0_status_20
