theorem q120 : (Jvm.Cond.initialized "EditsMeetLaw") ∈ lw_all := lw_g (lw_at lw_m1 0 rfl) rfl
set_option maxRecDepth 100000
theorem q177 : (Jvm.Cond.classLink "EditsMeetLaw" (7 : Nat) "EditsMeet") ∈ lw_all := lw_g (lw_at lw_m1 57 rfl) rfl
theorem q179 : (Jvm.Cond.methodLink "EditsMeetLaw" (9 : Nat) ({ cls := "EditsMeet", name := "<init>", desc := "()V" } : Jvm.MethodName)) ∈ lw_all := lw_g (lw_at lw_m1 59 rfl) rfl
theorem q600 : (Jvm.Cond.methodLink "EditsMeetLaw" (13 : Nat) ({ cls := "EditsMeet", name := "row", desc := "(III)I" } : Jvm.MethodName)) ∈ lw_all := lw_g (lw_at lw_m3 0 rfl) rfl
theorem q637 : (Jvm.Cond.methodLink "EditsMeetLaw" (20 : Nat) ({ cls := "EditsMeet", name := "set", desc := "(IIJ)I" } : Jvm.MethodName)) ∈ lw_all := lw_g (lw_at lw_m3 37 rfl) rfl
theorem q703 : (Jvm.Cond.methodLink "EditsMeetLaw" (25 : Nat) ({ cls := "EditsMeet", name := "copy", desc := "(IIIII)I" } : Jvm.MethodName)) ∈ lw_all := lw_g (lw_at lw_m3 103 rfl) rfl
theorem q744 : (Jvm.Cond.methodLink "EditsMeetLaw" (30 : Nat) ({ cls := "EditsMeet", name := "element", desc := "(II)J" } : Jvm.MethodName)) ∈ lw_all := lw_g (lw_at lw_m3 144 rfl) rfl
theorem q751 : (Jvm.Cond.methodLink "EditsMeetLaw" (35 : Nat) ({ cls := "EditsMeet", name := "holds", desc := "(I)I" } : Jvm.MethodName)) ∈ lw_all := lw_g (lw_at lw_m3 151 rfl) rfl
theorem q789 : (Jvm.Cond.methodLink "EditsMeetLaw" (40 : Nat) ({ cls := "EditsMeet", name := "show", desc := "(III)I" } : Jvm.MethodName)) ∈ lw_all := lw_g (lw_at lw_m3 189 rfl) rfl
theorem q841 : (Jvm.Cond.methodLink "EditsMeetLaw" (44 : Nat) ({ cls := "EditsMeet", name := "says", desc := "(II)I" } : Jvm.MethodName)) ∈ lw_all := lw_g (lw_at lw_m4 1 rfl) rfl
theorem q975 : (Jvm.Cond.methodLink "EditsMeetLaw" (49 : Nat) ({ cls := "EditsMeet", name := "feed", desc := "(I)I" } : Jvm.MethodName)) ∈ lw_all := lw_g (lw_at lw_m4 135 rfl) rfl
theorem q979 : (Jvm.Cond.methodLink "EditsMeetLaw" (53 : Nat) ({ cls := "EditsMeet", name := "wipe", desc := "()I" } : Jvm.MethodName)) ∈ lw_all := lw_g (lw_at lw_m4 139 rfl) rfl
theorem q983 : (Jvm.Cond.methodLink "EditsMeetLaw" (58 : Nat) ({ cls := "EditsMeet", name := "edit", desc := "(I)I" } : Jvm.MethodName)) ∈ lw_all := lw_g (lw_at lw_m4 143 rfl) rfl
theorem q1550 : (Jvm.Cond.methodLink "EditsMeetLaw" (62 : Nat) ({ cls := "EditsMeet", name := "of", desc := "(II)I" } : Jvm.MethodName)) ∈ lw_all := lw_g (lw_at lw_m6 230 rfl) rfl
theorem q1625 : (Jvm.Cond.methodLink "EditsMeetLaw" (66 : Nat) ({ cls := "EditsMeet", name := "part", desc := "(III)I" } : Jvm.MethodName)) ∈ lw_all := lw_g (lw_at lw_m7 65 rfl) rfl
theorem q1636 : (Jvm.Cond.methodLink "EditsMeetLaw" (70 : Nat) ({ cls := "EditsMeet", name := "letter", desc := "(III)I" } : Jvm.MethodName)) ∈ lw_all := lw_g (lw_at lw_m7 76 rfl) rfl
theorem q1648 : (Jvm.Cond.methodLink "EditsMeetLaw" (74 : Nat) ({ cls := "EditsMeet", name := "spelled", desc := "(II)I" } : Jvm.MethodName)) ∈ lw_all := lw_g (lw_at lw_m7 88 rfl) rfl
theorem q2043 : (Jvm.Cond.methodLink "EditsMeetLaw" (78 : Nat) ({ cls := "EditsMeet", name := "behind", desc := "(III)I" } : Jvm.MethodName)) ∈ lw_all := lw_g (lw_at lw_m9 3 rfl) rfl
theorem q2134 : (Jvm.Cond.methodLink "EditsMeetLaw" (82 : Nat) ({ cls := "EditsMeet", name := "over", desc := "(IIII)I" } : Jvm.MethodName)) ∈ lw_all := lw_g (lw_at lw_m9 94 rfl) rfl
theorem q2152 : (Jvm.Cond.methodLink "EditsMeetLaw" (87 : Nat) ({ cls := "EditsMeet", name := "turned", desc := "(III)I" } : Jvm.MethodName)) ∈ lw_all := lw_g (lw_at lw_m9 112 rfl) rfl
theorem q2221 : (Jvm.Cond.methodLink "EditsMeetLaw" (91 : Nat) ({ cls := "EditsMeet", name := "differ", desc := "(II)I" } : Jvm.MethodName)) ∈ lw_all := lw_g (lw_at lw_m9 181 rfl) rfl
theorem q2233 : (Jvm.Cond.methodLink "EditsMeetLaw" (95 : Nat) ({ cls := "EditsMeet", name := "does", desc := "(II)I" } : Jvm.MethodName)) ∈ lw_all := lw_g (lw_at lw_m9 193 rfl) rfl
theorem q2414 : (Jvm.Cond.methodLink "EditsMeetLaw" (99 : Nat) ({ cls := "EditsMeet", name := "insert", desc := "(IIII)I" } : Jvm.MethodName)) ∈ lw_all := lw_g (lw_at lw_m10 134 rfl) rfl
theorem q2446 : (Jvm.Cond.methodLink "EditsMeetLaw" (103 : Nat) ({ cls := "EditsMeet", name := "cut", desc := "(III)I" } : Jvm.MethodName)) ∈ lw_all := lw_g (lw_at lw_m10 166 rfl) rfl
theorem q2457 : (Jvm.Cond.methodLink "EditsMeetLaw" (107 : Nat) ({ cls := "EditsMeet", name := "mark", desc := "(IIIII)I" } : Jvm.MethodName)) ∈ lw_all := lw_g (lw_at lw_m10 177 rfl) rfl
theorem q2472 : (Jvm.Cond.methodLink "EditsMeetLaw" (111 : Nat) ({ cls := "EditsMeet", name := "serve", desc := "(I)I" } : Jvm.MethodName)) ∈ lw_all := lw_g (lw_at lw_m10 192 rfl) rfl
theorem q2532 : (Jvm.Cond.methodLink "EditsMeetLaw" (115 : Nat) ({ cls := "EditsMeet", name := "hear", desc := "(I)I" } : Jvm.MethodName)) ∈ lw_all := lw_g (lw_at lw_m11 12 rfl) rfl
theorem q2616 : (Jvm.Cond.methodLink "EditsMeetLaw" (119 : Nat) ({ cls := "EditsMeet", name := "meet", desc := "()I" } : Jvm.MethodName)) ∈ lw_all := lw_g (lw_at lw_m11 96 rfl) rfl
theorem q2627 : (Jvm.Cond.methodLink "EditsMeetLaw" (123 : Nat) ({ cls := "EditsMeet", name := "undo", desc := "(I)I" } : Jvm.MethodName)) ∈ lw_all := lw_g (lw_at lw_m11 107 rfl) rfl
theorem q2674 : (Jvm.Cond.methodLink "EditsMeetLaw" (127 : Nat) ({ cls := "EditsMeet", name := "redo", desc := "(I)I" } : Jvm.MethodName)) ∈ lw_all := lw_g (lw_at lw_m11 154 rfl) rfl
theorem q2681 : (Jvm.Cond.methodLink "EditsMeetLaw" (131 : Nat) ({ cls := "EditsMeet", name := "point", desc := "(III)I" } : Jvm.MethodName)) ∈ lw_all := lw_g (lw_at lw_m11 161 rfl) rfl
theorem q2688 : (Jvm.Cond.methodLink "EditsMeetLaw" (135 : Nat) ({ cls := "EditsMeet", name := "cursor", desc := "(II)I" } : Jvm.MethodName)) ∈ lw_all := lw_g (lw_at lw_m11 168 rfl) rfl
theorem q2692 : (Jvm.Cond.methodLink "EditsMeetLaw" (139 : Nat) ({ cls := "EditsMeet", name := "clientOf", desc := "(II)I" } : Jvm.MethodName)) ∈ lw_all := lw_g (lw_at lw_m11 172 rfl) rfl
theorem q2707 : (Jvm.Cond.methodLink "EditsMeetLaw" (143 : Nat) ({ cls := "EditsMeet", name := "takes", desc := "(III)I" } : Jvm.MethodName)) ∈ lw_all := lw_g (lw_at lw_m11 187 rfl) rfl
theorem q2715 : (Jvm.Cond.methodLink "EditsMeetLaw" (147 : Nat) ({ cls := "EditsMeet", name := "revision", desc := "(II)I" } : Jvm.MethodName)) ∈ lw_all := lw_g (lw_at lw_m11 195 rfl) rfl
theorem q2724 : (Jvm.Cond.methodLink "EditsMeetLaw" (151 : Nat) ({ cls := "EditsMeet", name := "length", desc := "(I)I" } : Jvm.MethodName)) ∈ lw_all := lw_g (lw_at lw_m11 204 rfl) rfl
theorem q2731 : (Jvm.Cond.methodLink "EditsMeetLaw" (155 : Nat) ({ cls := "EditsMeet", name := "text", desc := "(III)I" } : Jvm.MethodName)) ∈ lw_all := lw_g (lw_at lw_m11 211 rfl) rfl
theorem q2744 : (Jvm.Cond.methodLink "EditsMeetLaw" (159 : Nat) ({ cls := "EditsMeet", name := "apart", desc := "(II)I" } : Jvm.MethodName)) ∈ lw_all := lw_g (lw_at lw_m11 224 rfl) rfl
theorem q2754 : (Jvm.Cond.methodLink "EditsMeetLaw" (163 : Nat) ({ cls := "EditsMeet", name := "marked", desc := "(II)I" } : Jvm.MethodName)) ∈ lw_all := lw_g (lw_at lw_m11 234 rfl) rfl
theorem q2758 : (Jvm.Cond.methodLink "EditsMeetLaw" (167 : Nat) ({ cls := "EditsMeet", name := "judge", desc := "(III)I" } : Jvm.MethodName)) ∈ lw_all := lw_g (lw_at lw_m11 238 rfl) rfl
theorem q2772 : (Jvm.Cond.methodLink "EditsMeetLaw" (171 : Nat) ({ cls := "EditsMeet", name := "days", desc := "(I)I" } : Jvm.MethodName)) ∈ lw_all := lw_g (lw_at lw_m12 12 rfl) rfl
theorem q2789 : (Jvm.Cond.methodLink "EditsMeetLaw" (175 : Nat) ({ cls := "EditsMeet", name := "seed", desc := "(I)I" } : Jvm.MethodName)) ∈ lw_all := lw_g (lw_at lw_m12 29 rfl) rfl
theorem q2793 : (Jvm.Cond.methodLink "EditsMeetLaw" (179 : Nat) ({ cls := "EditsMeet", name := "image", desc := "()I" } : Jvm.MethodName)) ∈ lw_all := lw_g (lw_at lw_m12 33 rfl) rfl
theorem q3013 : (Jvm.Cond.methodLink "EditsMeetLaw" (183 : Nat) ({ cls := "EditsMeet", name := "back", desc := "()I" } : Jvm.MethodName)) ∈ lw_all := lw_g (lw_at lw_m13 13 rfl) rfl
theorem q3017 : (Jvm.Cond.methodLink "EditsMeetLaw" (187 : Nat) ({ cls := "EditsMeet", name := "status", desc := "(I)I" } : Jvm.MethodName)) ∈ lw_all := lw_g (lw_at lw_m13 17 rfl) rfl
theorem q3043 : (Jvm.Cond.classLink "EditsMeetLaw" (10 : Nat) "EditsMeetModel") ∈ lw_all := lw_g (lw_at lw_m13 43 rfl) rfl
theorem q3045 : (Jvm.Cond.methodLink "EditsMeetLaw" (12 : Nat) ({ cls := "EditsMeetModel", name := "<init>", desc := "()V" } : Jvm.MethodName)) ∈ lw_all := lw_g (lw_at lw_m13 45 rfl) rfl
theorem q3151 : (Jvm.Cond.methodLink "EditsMeetLaw" (52 : Nat) ({ cls := "EditsMeetModel", name := "feed", desc := "(I)I" } : Jvm.MethodName)) ∈ lw_all := lw_g (lw_at lw_m13 151 rfl) rfl
theorem q3163 : (Jvm.Cond.methodLink "EditsMeetLaw" (57 : Nat) ({ cls := "EditsMeetModel", name := "wipe", desc := "()I" } : Jvm.MethodName)) ∈ lw_all := lw_g (lw_at lw_m13 163 rfl) rfl
theorem q3167 : (Jvm.Cond.methodLink "EditsMeetLaw" (61 : Nat) ({ cls := "EditsMeetModel", name := "edit", desc := "(I)I" } : Jvm.MethodName)) ∈ lw_all := lw_g (lw_at lw_m13 167 rfl) rfl
theorem q3225 : (Jvm.Cond.methodLink "EditsMeetLaw" (65 : Nat) ({ cls := "EditsMeetModel", name := "of", desc := "(II)I" } : Jvm.MethodName)) ∈ lw_all := lw_g (lw_at lw_m13 225 rfl) rfl
theorem q3249 : (Jvm.Cond.methodLink "EditsMeetLaw" (69 : Nat) ({ cls := "EditsMeetModel", name := "part", desc := "(III)I" } : Jvm.MethodName)) ∈ lw_all := lw_g (lw_at lw_m14 9 rfl) rfl
theorem q3261 : (Jvm.Cond.methodLink "EditsMeetLaw" (73 : Nat) ({ cls := "EditsMeetModel", name := "letter", desc := "(III)I" } : Jvm.MethodName)) ∈ lw_all := lw_g (lw_at lw_m14 21 rfl) rfl
theorem q3265 : (Jvm.Cond.methodLink "EditsMeetLaw" (77 : Nat) ({ cls := "EditsMeetModel", name := "spelled", desc := "(II)I" } : Jvm.MethodName)) ∈ lw_all := lw_g (lw_at lw_m14 25 rfl) rfl
theorem q3281 : (Jvm.Cond.methodLink "EditsMeetLaw" (81 : Nat) ({ cls := "EditsMeetModel", name := "behind", desc := "(III)I" } : Jvm.MethodName)) ∈ lw_all := lw_g (lw_at lw_m14 41 rfl) rfl
theorem q3308 : (Jvm.Cond.methodLink "EditsMeetLaw" (86 : Nat) ({ cls := "EditsMeetModel", name := "over", desc := "(IIII)I" } : Jvm.MethodName)) ∈ lw_all := lw_g (lw_at lw_m14 68 rfl) rfl
theorem q3320 : (Jvm.Cond.methodLink "EditsMeetLaw" (90 : Nat) ({ cls := "EditsMeetModel", name := "turned", desc := "(III)I" } : Jvm.MethodName)) ∈ lw_all := lw_g (lw_at lw_m14 80 rfl) rfl
theorem q3331 : (Jvm.Cond.methodLink "EditsMeetLaw" (94 : Nat) ({ cls := "EditsMeetModel", name := "differ", desc := "(II)I" } : Jvm.MethodName)) ∈ lw_all := lw_g (lw_at lw_m14 91 rfl) rfl
theorem q3336 : (Jvm.Cond.methodLink "EditsMeetLaw" (98 : Nat) ({ cls := "EditsMeetModel", name := "does", desc := "(II)I" } : Jvm.MethodName)) ∈ lw_all := lw_g (lw_at lw_m14 96 rfl) rfl
theorem q3376 : (Jvm.Cond.methodLink "EditsMeetLaw" (102 : Nat) ({ cls := "EditsMeetModel", name := "insert", desc := "(IIII)I" } : Jvm.MethodName)) ∈ lw_all := lw_g (lw_at lw_m14 136 rfl) rfl
theorem q3386 : (Jvm.Cond.methodLink "EditsMeetLaw" (106 : Nat) ({ cls := "EditsMeetModel", name := "cut", desc := "(III)I" } : Jvm.MethodName)) ∈ lw_all := lw_g (lw_at lw_m14 146 rfl) rfl
theorem q3398 : (Jvm.Cond.methodLink "EditsMeetLaw" (110 : Nat) ({ cls := "EditsMeetModel", name := "mark", desc := "(IIIII)I" } : Jvm.MethodName)) ∈ lw_all := lw_g (lw_at lw_m14 158 rfl) rfl
theorem q3402 : (Jvm.Cond.methodLink "EditsMeetLaw" (114 : Nat) ({ cls := "EditsMeetModel", name := "serve", desc := "(I)I" } : Jvm.MethodName)) ∈ lw_all := lw_g (lw_at lw_m14 162 rfl) rfl
theorem q3414 : (Jvm.Cond.methodLink "EditsMeetLaw" (118 : Nat) ({ cls := "EditsMeetModel", name := "hear", desc := "(I)I" } : Jvm.MethodName)) ∈ lw_all := lw_g (lw_at lw_m14 174 rfl) rfl
theorem q3426 : (Jvm.Cond.methodLink "EditsMeetLaw" (122 : Nat) ({ cls := "EditsMeetModel", name := "meet", desc := "()I" } : Jvm.MethodName)) ∈ lw_all := lw_g (lw_at lw_m14 186 rfl) rfl
theorem q3438 : (Jvm.Cond.methodLink "EditsMeetLaw" (126 : Nat) ({ cls := "EditsMeetModel", name := "undo", desc := "(I)I" } : Jvm.MethodName)) ∈ lw_all := lw_g (lw_at lw_m14 198 rfl) rfl
theorem q3446 : (Jvm.Cond.methodLink "EditsMeetLaw" (130 : Nat) ({ cls := "EditsMeetModel", name := "redo", desc := "(I)I" } : Jvm.MethodName)) ∈ lw_all := lw_g (lw_at lw_m14 206 rfl) rfl
theorem q3450 : (Jvm.Cond.methodLink "EditsMeetLaw" (134 : Nat) ({ cls := "EditsMeetModel", name := "point", desc := "(III)I" } : Jvm.MethodName)) ∈ lw_all := lw_g (lw_at lw_m14 210 rfl) rfl
theorem q3454 : (Jvm.Cond.methodLink "EditsMeetLaw" (138 : Nat) ({ cls := "EditsMeetModel", name := "cursor", desc := "(II)I" } : Jvm.MethodName)) ∈ lw_all := lw_g (lw_at lw_m14 214 rfl) rfl
theorem q3458 : (Jvm.Cond.methodLink "EditsMeetLaw" (142 : Nat) ({ cls := "EditsMeetModel", name := "clientOf", desc := "(II)I" } : Jvm.MethodName)) ∈ lw_all := lw_g (lw_at lw_m14 218 rfl) rfl
theorem q3463 : (Jvm.Cond.methodLink "EditsMeetLaw" (146 : Nat) ({ cls := "EditsMeetModel", name := "takes", desc := "(III)I" } : Jvm.MethodName)) ∈ lw_all := lw_g (lw_at lw_m14 223 rfl) rfl
theorem q3467 : (Jvm.Cond.methodLink "EditsMeetLaw" (150 : Nat) ({ cls := "EditsMeetModel", name := "revision", desc := "(II)I" } : Jvm.MethodName)) ∈ lw_all := lw_g (lw_at lw_m14 227 rfl) rfl
theorem q3471 : (Jvm.Cond.methodLink "EditsMeetLaw" (154 : Nat) ({ cls := "EditsMeetModel", name := "length", desc := "(I)I" } : Jvm.MethodName)) ∈ lw_all := lw_g (lw_at lw_m14 231 rfl) rfl
theorem q3479 : (Jvm.Cond.methodLink "EditsMeetLaw" (158 : Nat) ({ cls := "EditsMeetModel", name := "text", desc := "(III)I" } : Jvm.MethodName)) ∈ lw_all := lw_g (lw_at lw_m14 239 rfl) rfl
theorem q3483 : (Jvm.Cond.methodLink "EditsMeetLaw" (162 : Nat) ({ cls := "EditsMeetModel", name := "apart", desc := "(II)I" } : Jvm.MethodName)) ∈ lw_all := lw_g (lw_at lw_m15 3 rfl) rfl
theorem q3491 : (Jvm.Cond.methodLink "EditsMeetLaw" (166 : Nat) ({ cls := "EditsMeetModel", name := "marked", desc := "(II)I" } : Jvm.MethodName)) ∈ lw_all := lw_g (lw_at lw_m15 11 rfl) rfl
theorem q3495 : (Jvm.Cond.methodLink "EditsMeetLaw" (17 : Nat) ({ cls := "EditsMeetModel", name := "row", desc := "(III)I" } : Jvm.MethodName)) ∈ lw_all := lw_g (lw_at lw_m15 15 rfl) rfl
theorem q3504 : (Jvm.Cond.methodLink "EditsMeetLaw" (24 : Nat) ({ cls := "EditsMeetModel", name := "set", desc := "(IIJ)I" } : Jvm.MethodName)) ∈ lw_all := lw_g (lw_at lw_m15 24 rfl) rfl
theorem q3511 : (Jvm.Cond.methodLink "EditsMeetLaw" (29 : Nat) ({ cls := "EditsMeetModel", name := "copy", desc := "(IIIII)I" } : Jvm.MethodName)) ∈ lw_all := lw_g (lw_at lw_m15 31 rfl) rfl
theorem q3515 : (Jvm.Cond.methodLink "EditsMeetLaw" (34 : Nat) ({ cls := "EditsMeetModel", name := "element", desc := "(II)J" } : Jvm.MethodName)) ∈ lw_all := lw_g (lw_at lw_m15 35 rfl) rfl
theorem q3519 : (Jvm.Cond.methodLink "EditsMeetLaw" (39 : Nat) ({ cls := "EditsMeetModel", name := "holds", desc := "(I)I" } : Jvm.MethodName)) ∈ lw_all := lw_g (lw_at lw_m15 39 rfl) rfl
theorem q3523 : (Jvm.Cond.methodLink "EditsMeetLaw" (43 : Nat) ({ cls := "EditsMeetModel", name := "show", desc := "(III)I" } : Jvm.MethodName)) ∈ lw_all := lw_g (lw_at lw_m15 43 rfl) rfl
theorem q3527 : (Jvm.Cond.methodLink "EditsMeetLaw" (48 : Nat) ({ cls := "EditsMeetModel", name := "says", desc := "(II)I" } : Jvm.MethodName)) ∈ lw_all := lw_g (lw_at lw_m15 47 rfl) rfl
theorem q3535 : (Jvm.Cond.methodLink "EditsMeetLaw" (170 : Nat) ({ cls := "EditsMeetModel", name := "judge", desc := "(III)I" } : Jvm.MethodName)) ∈ lw_all := lw_g (lw_at lw_m15 55 rfl) rfl
theorem q3540 : (Jvm.Cond.methodLink "EditsMeetLaw" (174 : Nat) ({ cls := "EditsMeetModel", name := "days", desc := "(I)I" } : Jvm.MethodName)) ∈ lw_all := lw_g (lw_at lw_m15 60 rfl) rfl
theorem q3554 : (Jvm.Cond.methodLink "EditsMeetLaw" (178 : Nat) ({ cls := "EditsMeetModel", name := "seed", desc := "(I)I" } : Jvm.MethodName)) ∈ lw_all := lw_g (lw_at lw_m15 74 rfl) rfl
theorem q3558 : (Jvm.Cond.methodLink "EditsMeetLaw" (182 : Nat) ({ cls := "EditsMeetModel", name := "image", desc := "()I" } : Jvm.MethodName)) ∈ lw_all := lw_g (lw_at lw_m15 78 rfl) rfl
theorem q3568 : (Jvm.Cond.methodLink "EditsMeetLaw" (186 : Nat) ({ cls := "EditsMeetModel", name := "back", desc := "()I" } : Jvm.MethodName)) ∈ lw_all := lw_g (lw_at lw_m15 88 rfl) rfl
theorem q3572 : (Jvm.Cond.methodLink "EditsMeetLaw" (190 : Nat) ({ cls := "EditsMeetModel", name := "status", desc := "(I)I" } : Jvm.MethodName)) ∈ lw_all := lw_g (lw_at lw_m15 92 rfl) rfl
theorem q3578 : (Jvm.Cond.constantLong "EditsMeetLaw" (18 : Nat) (4294967295 : Int64)) ∈ lw_all := lw_g (lw_at lw_m15 98 rfl) rfl

theorem q839 : (Jvm.Cond.interfaceMethod "EditsMeet$Asked" "EditsMeet$Asked" "told" "()I") ∈ lw_tbl := lw_at lw_m3 239 rfl
set_option maxRecDepth 100000
theorem q840 : (Jvm.Cond.declares ({ cls := "EditsMeet$Asked", name := "told", desc := "()I" } : Jvm.MethodName)) ∈ lw_tbl := lw_at lw_m4 0 rfl

theorem q1588 : (Jvm.Cond.interfaceMethod "EditsMeet$Counted" "EditsMeet$Counted" "of" "(LEditsMeet$Part;)I") ∈ lw_tbl := lw_at lw_m7 28 rfl
set_option maxRecDepth 100000
theorem q1589 : (Jvm.Cond.declares ({ cls := "EditsMeet$Counted", name := "of", desc := "(LEditsMeet$Part;)I" } : Jvm.MethodName)) ∈ lw_tbl := lw_at lw_m7 29 rfl

theorem q3029 : (Jvm.Cond.interfaceMethod "EditsMeet$Tally" "EditsMeet$Tally" "of" "(I)I") ∈ lw_tbl := lw_at lw_m13 29 rfl
set_option maxRecDepth 100000
theorem q3030 : (Jvm.Cond.declares ({ cls := "EditsMeet$Tally", name := "of", desc := "(I)I" } : Jvm.MethodName)) ∈ lw_tbl := lw_at lw_m13 30 rfl

theorem q1048 : (Jvm.Cond.sameMethod "[B" "java/lang/Object" "clone" "()Ljava/lang/Object;") ∈ lw_all := lw_g (lw_at lw_m4 208 rfl) rfl
set_option maxRecDepth 100000
theorem q1051 : (Jvm.Cond.selects "[B" ({ cls := "[B", name := "clone", desc := "()Ljava/lang/Object;" } : Jvm.MethodName) ({ cls := "java/lang/Object", name := "clone", desc := "()Ljava/lang/Object;" } : Jvm.MethodName)) ∈ lw_all := lw_g (lw_at lw_m4 211 rfl) rfl
theorem q1052 : (Jvm.Cond.castable "[B" "java/lang/Cloneable") ∈ lw_tbl := lw_at lw_m4 212 rfl
theorem q3666 : (Jvm.Cond.castable "[B" "java/lang/Object") ∈ lw_tbl := lw_at lw_m15 186 rfl

theorem q3668 : (Jvm.Cond.castable "[I" "java/lang/Object") ∈ lw_tbl := lw_at lw_m15 188 rfl
set_option maxRecDepth 100000

theorem q3672 : (Jvm.Cond.castable "[J" "java/lang/Object") ∈ lw_tbl := lw_at lw_m15 192 rfl
set_option maxRecDepth 100000

theorem q3665 : (Jvm.Cond.castable "[LEditsMeet$Client;" "java/lang/Object") ∈ lw_tbl := lw_at lw_m15 185 rfl
set_option maxRecDepth 100000

theorem q3669 : (Jvm.Cond.castable "[LEditsMeet$Edit;" "java/lang/Object") ∈ lw_tbl := lw_at lw_m15 189 rfl
set_option maxRecDepth 100000

theorem q3670 : (Jvm.Cond.castable "[LEditsMeet$Sheet;" "java/lang/Object") ∈ lw_tbl := lw_at lw_m15 190 rfl
set_option maxRecDepth 100000

theorem q3662 : (Jvm.Cond.sameMethod "[Ljava/lang/Object;" "java/lang/Object" "getClass" "()Ljava/lang/Class;") ∈ lw_all := lw_g (lw_at lw_m15 182 rfl) rfl
set_option maxRecDepth 100000
theorem q3663 : (Jvm.Cond.selects "[Ljava/lang/Object;" ({ cls := "java/lang/Object", name := "getClass", desc := "()Ljava/lang/Class;" } : Jvm.MethodName) ({ cls := "java/lang/Object", name := "getClass", desc := "()Ljava/lang/Class;" } : Jvm.MethodName)) ∈ lw_all := lw_g (lw_at lw_m15 183 rfl) rfl
theorem q3667 : (Jvm.Cond.castable "[Ljava/lang/Object;" "java/lang/Object") ∈ lw_tbl := lw_at lw_m15 187 rfl

theorem q3671 : (Jvm.Cond.castable "[S" "java/lang/Object") ∈ lw_tbl := lw_at lw_m15 191 rfl
set_option maxRecDepth 100000

theorem q3673 : (Jvm.Cond.castable "[Z" "java/lang/Object") ∈ lw_tbl := lw_at lw_m15 193 rfl
set_option maxRecDepth 100000

theorem q3674 : (Jvm.Cond.castable "[[I" "java/lang/Object") ∈ lw_tbl := lw_at lw_m15 194 rfl
set_option maxRecDepth 100000

theorem q1301 : (Jvm.Cond.interfaceMethod "java/lang/CharSequence" "java/lang/CharSequence" "toString" "()Ljava/lang/String;") ∈ lw_tbl := lw_at lw_m5 221 rfl
set_option maxRecDepth 100000
theorem q1302 : (Jvm.Cond.declares ({ cls := "java/lang/CharSequence", name := "toString", desc := "()Ljava/lang/String;" } : Jvm.MethodName)) ∈ lw_tbl := lw_at lw_m5 222 rfl
theorem q2017 : (Jvm.Cond.interfaceMethod "java/lang/CharSequence" "java/lang/CharSequence" "length" "()I") ∈ lw_tbl := lw_at lw_m8 217 rfl
theorem q2018 : (Jvm.Cond.declares ({ cls := "java/lang/CharSequence", name := "length", desc := "()I" } : Jvm.MethodName)) ∈ lw_tbl := lw_at lw_m8 218 rfl
theorem q2027 : (Jvm.Cond.interfaceMethod "java/lang/CharSequence" "java/lang/CharSequence" "charAt" "(I)C") ∈ lw_tbl := lw_at lw_m8 227 rfl
theorem q2028 : (Jvm.Cond.declares ({ cls := "java/lang/CharSequence", name := "charAt", desc := "(I)C" } : Jvm.MethodName)) ∈ lw_tbl := lw_at lw_m8 228 rfl

theorem q157 : (Jvm.Cond.initialized "java/lang/Number") ∈ lw_all := lw_g (lw_at lw_m1 37 rfl) rfl
set_option maxRecDepth 100000

theorem q152 : (Jvm.Cond.initialized "java/lang/System") ∈ lw_all := lw_g (lw_at lw_m1 32 rfl) rfl
set_option maxRecDepth 100000
theorem q742 : (Jvm.Cond.static ({ cls := "java/lang/System", name := "arraycopy", desc := "(Ljava/lang/Object;ILjava/lang/Object;II)V" } : Jvm.MethodName)) ∈ lw_all := lw_g (lw_at lw_m3 142 rfl) rfl
theorem q743 : (Jvm.Cond.native ({ cls := "java/lang/System", name := "arraycopy", desc := "(Ljava/lang/Object;ILjava/lang/Object;II)V" } : Jvm.MethodName)) ∈ lw_all := lw_g (lw_at lw_m3 143 rfl) rfl

theorem q174 : (Jvm.Cond.initialized "java/util/AbstractList$ListItr") ∈ lw_all := lw_g (lw_at lw_m1 54 rfl) rfl
set_option maxRecDepth 100000
theorem q1470 : (Jvm.Cond.selects "java/util/AbstractList$ListItr" ({ cls := "java/lang/Object", name := "getClass", desc := "()Ljava/lang/Class;" } : Jvm.MethodName) ({ cls := "java/lang/Object", name := "getClass", desc := "()Ljava/lang/Class;" } : Jvm.MethodName)) ∈ lw_all := lw_g (lw_at lw_m6 150 rfl) rfl
theorem q1682 : (Jvm.Cond.castable "java/util/AbstractList$ListItr" "java/util/Iterator") ∈ lw_tbl := lw_at lw_m7 122 rfl
theorem q1683 : (Jvm.Cond.selects "java/util/AbstractList$ListItr" ({ cls := "java/util/Iterator", name := "hasNext", desc := "()Z" } : Jvm.MethodName) ({ cls := "java/util/AbstractList$Itr", name := "hasNext", desc := "()Z" } : Jvm.MethodName)) ∈ lw_all := lw_g (lw_at lw_m7 123 rfl) rfl
theorem q1684 : (Jvm.Cond.unhidden "java/util/AbstractList$ListItr" "hasNext" "()Z") ∈ lw_tbl := lw_at lw_m7 124 rfl
theorem q1793 : (Jvm.Cond.selects "java/util/AbstractList$ListItr" ({ cls := "java/util/Iterator", name := "next", desc := "()Ljava/lang/Object;" } : Jvm.MethodName) ({ cls := "java/util/AbstractList$Itr", name := "next", desc := "()Ljava/lang/Object;" } : Jvm.MethodName)) ∈ lw_all := lw_g (lw_at lw_m7 233 rfl) rfl
theorem q1794 : (Jvm.Cond.unhidden "java/util/AbstractList$ListItr" "next" "()Ljava/lang/Object;") ∈ lw_tbl := lw_at lw_m7 234 rfl
theorem q1801 : (Jvm.Cond.selects "java/util/AbstractList$ListItr" ({ cls := "java/util/AbstractList$Itr", name := "checkForComodification", desc := "()V" } : Jvm.MethodName) ({ cls := "java/util/AbstractList$Itr", name := "checkForComodification", desc := "()V" } : Jvm.MethodName)) ∈ lw_all := lw_g (lw_at lw_m8 1 rfl) rfl
theorem q3658 : (Jvm.Cond.castable "java/util/AbstractList$ListItr" "java/lang/Object") ∈ lw_tbl := lw_at lw_m15 178 rfl
theorem q3680 : (Jvm.Cond.fieldLink "java/util/AbstractList$ListItr" (1 : Nat) "java/util/AbstractList$ListItr" "this$0" "Ljava/util/AbstractList;") ∈ lw_all := lw_g (lw_at lw_m15 200 rfl) rfl
theorem q3681 : (Jvm.Cond.fieldLink "java/util/AbstractList$ListItr" (13 : Nat) "java/util/AbstractList$ListItr" "cursor" "I") ∈ lw_all := lw_g (lw_at lw_m15 201 rfl) rfl
theorem q3682 : (Jvm.Cond.sameField "java/util/AbstractList$ListItr" "java/util/AbstractList$Itr" "cursor" "I") ∈ lw_all := lw_g (lw_at lw_m15 202 rfl) rfl

theorem q2256 : (Jvm.Cond.interfaceMethod "java/util/Collection" "java/util/Collection" "toArray" "()[Ljava/lang/Object;") ∈ lw_tbl := lw_at lw_m9 216 rfl
set_option maxRecDepth 100000
theorem q2257 : (Jvm.Cond.declares ({ cls := "java/util/Collection", name := "toArray", desc := "()[Ljava/lang/Object;" } : Jvm.MethodName)) ∈ lw_tbl := lw_at lw_m9 217 rfl

theorem q1673 : (Jvm.Cond.interfaceMethod "java/util/Iterator" "java/util/Iterator" "hasNext" "()Z") ∈ lw_tbl := lw_at lw_m7 113 rfl
set_option maxRecDepth 100000
theorem q1674 : (Jvm.Cond.declares ({ cls := "java/util/Iterator", name := "hasNext", desc := "()Z" } : Jvm.MethodName)) ∈ lw_tbl := lw_at lw_m7 114 rfl
theorem q1719 : (Jvm.Cond.interfaceMethod "java/util/Iterator" "java/util/Iterator" "next" "()Ljava/lang/Object;") ∈ lw_tbl := lw_at lw_m7 159 rfl
theorem q1720 : (Jvm.Cond.declares ({ cls := "java/util/Iterator", name := "next", desc := "()Ljava/lang/Object;" } : Jvm.MethodName)) ∈ lw_tbl := lw_at lw_m7 160 rfl

theorem q1202 : (Jvm.Cond.interfaceMethod "jdk/internal/access/JavaLangAccess" "jdk/internal/access/JavaLangAccess" "getUTF16Char" "([BI)C") ∈ lw_tbl := lw_at lw_m5 122 rfl
set_option maxRecDepth 100000
theorem q1203 : (Jvm.Cond.declares ({ cls := "jdk/internal/access/JavaLangAccess", name := "getUTF16Char", desc := "([BI)C" } : Jvm.MethodName)) ∈ lw_tbl := lw_at lw_m5 123 rfl

theorem q192 : (Jvm.Cond.arrayOver (Jvm.ClassFile.FieldType.object "EditsMeet$Client")) ∈ lw_tbl := lw_at lw_m1 72 rfl
set_option maxRecDepth 100000
theorem q300 : (Jvm.Cond.arrayClass Jvm.ClassFile.FieldType.byte) ∈ lw_all := lw_g (lw_at lw_m1 180 rfl) rfl
theorem q405 : (Jvm.Cond.arrayOver (Jvm.ClassFile.FieldType.object "java/lang/Object")) ∈ lw_tbl := lw_at lw_m2 45 rfl
theorem q472 : (Jvm.Cond.arrayClass Jvm.ClassFile.FieldType.int) ∈ lw_all := lw_g (lw_at lw_m2 112 rfl) rfl
theorem q561 : (Jvm.Cond.arrayOver (Jvm.ClassFile.FieldType.object "EditsMeet$Edit")) ∈ lw_tbl := lw_at lw_m2 201 rfl
theorem q563 : (Jvm.Cond.arrayOver (Jvm.ClassFile.FieldType.object "EditsMeet$Sheet")) ∈ lw_tbl := lw_at lw_m2 203 rfl
theorem q634 : (Jvm.Cond.arrayClass Jvm.ClassFile.FieldType.short) ∈ lw_all := lw_g (lw_at lw_m3 34 rfl) rfl
theorem q635 : (Jvm.Cond.arrayClass Jvm.ClassFile.FieldType.long) ∈ lw_all := lw_g (lw_at lw_m3 35 rfl) rfl
theorem q636 : (Jvm.Cond.arrayClass Jvm.ClassFile.FieldType.boolean) ∈ lw_all := lw_g (lw_at lw_m3 36 rfl) rfl
theorem q3050 : (Jvm.Cond.arrayOver (Jvm.ClassFile.FieldType.array Jvm.ClassFile.FieldType.int)) ∈ lw_tbl := lw_at lw_m13 50 rfl
theorem q3675 : (Jvm.Cond.arrayClass Jvm.ClassFile.FieldType.char) ∈ lw_all := lw_g (lw_at lw_m15 195 rfl) rfl
