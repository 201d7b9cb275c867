/-! PLAIN LAW 2: StringBuilder -/
set_option maxRecDepth 100000
/-- the value array of a builder or String: its chars -/
def isBA (s : bS) (ow : bO) (id : Int × Int) (v : Int) (xs : List Int) (cap : Int) : Prop :=
  0 ≤ v ∧ v < (bnx s : Int) ∧ ow v = id ∧ bg s 0 v 0 = 1000 ∧ bg s 4 v 0 = cap ∧ (xs.length : Int) ≤ cap ∧ cap ≤ 20000000 ∧ ∀ (j : Nat) (x : Int), xs[j]? = some x → (0 ≤ x ∧ x < 256) ∧ bg s 8 v j = bsg x
def isSB (s : bS) (ow : bO) (id : Int × Int) (b : Int) (xs : List Int) (cap : Int) : Prop :=
  0 ≤ b ∧ b < (bnx s : Int) ∧ ow b = id ∧ bg s 0 b 0 = 19 ∧ bg s 412 b 0 = 0 ∧ bg s 420 b 0 = (xs.length : Int) ∧ bg s 1 (-1) 0 ≤ bg s 410 b 0 ∧ isBA s ow id (bg s 410 b 0) xs cap
theorem isBA.fr {I : Int × Int → Prop} {s s' : bS} {ow ow' : bO} {id : Int × Int} {v cap : Int} {xs : List Int} (h : isBA s ow id v xs cap) (hx : oX I s ow s' ow') (hI : ¬ I id) : isBA s' ow' id v xs cap := by
  obtain ⟨h1, h2, h3, h4, h5, h6, h7, h8⟩ := h
  obtain ⟨e1, e2⟩ := hx.2 v h2 (Or.inr (by rw [h3]; exact hI))
  have := hx.1
  exact ⟨h1, by omega, by rw [e1]; exact h3, by rw [e2]; exact h4, by rw [e2]; exact h5, h6, h7, fun j x hj => by rw [e2]; exact h8 j x hj⟩
theorem isSB.fr {I : Int × Int → Prop} {s s' : bS} {ow ow' : bO} {id : Int × Int} {b cap : Int} {xs : List Int} (h : isSB s ow id b xs cap) (hx : oX I s ow s' ow') (hI : ¬ I id) : isSB s' ow' id b xs cap := by
  obtain ⟨h1, h2, h3, h4, h5, h6, h7, h8⟩ := h
  obtain ⟨e1, e2⟩ := hx.2 b h2 (Or.inr (by rw [h3]; exact hI))
  have := hx.1
  refine ⟨h1, by omega, by rw [e1]; exact h3, by rw [e2]; exact h4, by rw [e2]; exact h5, by rw [e2]; exact h6, ?_, ?_⟩
  · rw [e2, hx.low _ _ (by omega)]; exact h7
  · rw [e2]; exact h8.fr hx hI
/-- the cost of growing an array from cap to cap' -/
def bGrow (s s' : bS) (cap cap' : Int) : Prop := cap ≤ cap' ∧ bc s ≤ bc s' ∧ bk s ≤ bk s' ∧ 2 * (bc s' : Int) ≤ 2 * bc s + (cap' - cap) ∧ (bk s' : Int) ≤ bk s + 2 * (cap' - cap)
theorem P_J22_newLength {s : bS} {a m p : Int} (ha : 0 ≤ a ∧ a ≤ 100000000) (hm : 0 ≤ m ∧ m ≤ 100000000 ∨ (-100000000 ≤ m ∧ m ≤ 0)) (hp : 1 ≤ p ∧ p ≤ 200000000) : bRuns (F_J22_newLength s a m p) (fun s' v => s' = s ∧ v = a + max m p) := by
  unfold F_J22_newLength
  have e : b_max m p = max m p := b_max_eq (by omega) (by omega)
  rw [e]
  refine R_f ?_ (R_f ?_ (R_ret ⟨rfl, rfl⟩))
  · rw [i32_le (by omega) (by omega)]; omega
  · rw [i32_lt (by omega) (by omega)]; omega
theorem oX.fresh {I : Int × Int → Prop} {s s' : bS} {ow ow' : bO} (h1 : bnx s ≤ bnx s') (h2 : ∀ a : Int, a < (bnx s : Int) → ow' a = ow a) (h3 : ∀ (r : Nat) (a i : Int), a < (bnx s : Int) → bg s' r a i = bg s r a i) : oX I s ow s' ow' :=
  ⟨h1, fun a ha _ => ⟨h2 a ha, fun r i => h3 r a i ha⟩⟩
theorem oset_lt {ow : bO} {s : bS} {q : Int × Int} : ∀ a : Int, a < (bnx s : Int) → oset ow (bnx s : Int) q a = ow a := fun a h => oset_ne (by omega)
/-- a new byte array that takes the chars of an old one -/
theorem copy_new {s : bS} {ow : bO} {id id2 : Int × Int} {v cap n m : Int} {k : Nat} {xs : List Int} (h : isBA s ow id v xs cap) (hn : (xs.length : Int) ≤ n ∧ n ≤ 20000000) (hm : (xs.length : Int) ≤ m) :
    isBA (bcp (bnw s 1000 n k) 8 v 0 (bnx s : Int) 0 m) (oset ow (bnx s : Int) id2) id2 (bnx s : Int) xs n ∧ ∀ I : Int × Int → Prop, oX I s ow (bcp (bnw s 1000 n k) 8 v 0 (bnx s : Int) 0 m) (oset ow (bnx s : Int) id2) := by
  obtain ⟨h1, h2, h3, h4, h5, h6, h7, h8⟩ := h
  refine ⟨⟨by omega, ?_, oset_eq _ _ _, ?_, ?_, hn.1, hn.2, fun j x hj => ⟨(h8 j x hj).1, ?_⟩⟩, fun I => oX.fresh ?_ oset_lt fun r a i ha => ?_⟩
  · show ((bnx s : Nat) : Int) < ((bnx s + 1 : Nat) : Int)
    omega
  · rw [bg_bcp, if_neg (by omega), bg_bnw, if_pos rfl, if_pos rfl]
  · rw [bg_bcp, if_neg (by omega), bg_bnw, if_pos rfl, if_neg (by omega), if_pos rfl]
  · have hjl := (List.getElem?_eq_some_iff.mp hj).1
    rw [bg_bcp, if_pos ⟨rfl, rfl, by omega, by omega⟩, bg_bnw, if_neg (by omega), show (0 + ((j : Int) - 0)) = (j : Int) by omega]
    exact (h8 j x hj).2
  · show bnx s ≤ bnx s + 1
    omega
  · rw [bg_bcp, if_neg (by omega), bg_bnw, if_neg (by omega)]
theorem P_J24_copyOf {s : bS} {ow : bO} {id id2 : Int × Int} {v cap n : Int} {xs : List Int} (h : isBA s ow id v xs cap) (hlow : bg s 1 (-1) 0 ≤ (bnx s : Int)) (hn : (xs.length : Int) ≤ n ∧ n ≤ 20000000) (hr : bRoom s 1 n.toNat) :
    bRuns (F_J24_copyOf s v n) (fun s' w => w = (bnx s : Int) ∧ isBA s' (oset ow w id2) id2 w xs n ∧ (∀ I : Int × Int → Prop, oX I s ow s' (oset ow w id2)) ∧ bc s' = bc s + 1 ∧ bk s' = bk s + n.toNat) := by
  have h0 := h
  obtain ⟨h1, h2, h3, h4, h5, h6, h7, h8⟩ := h
  obtain ⟨r1, r2⟩ := hr
  have hv : v ≠ (bnx s : Int) := by omega
  unfold F_J24_copyOf
  refine R_ck h4 (R_te (fun e => ?_) (fun e => ?_))
  · rw [h5, i32_eq (by omega) (by omega)] at e
    subst e
    have cn := copy_new (id2 := id2) (n := n) (m := n) (k := n.toNat) h0 hn (by omega)
    have e9 : bcln s v = bcp (bnw s 1000 n n.toNat) 8 v 0 (bnx s : Int) 0 n := by unfold bcln; rw [h5]
    refine R_ck ⟨h4, by omega, by rw [h5]; omega⟩ (R_st (R_ck (Or.inr ?_) ?_))
    · rw [e9]; exact cn.1.2.2.2.1
    · rw [e9]
      exact R_ret ⟨rfl, cn.1, cn.2, rfl, rfl⟩
  · have em : b_min cap n = min cap n := b_min_eq (by omega) (by omega)
    have cn := copy_new (id2 := id2) (n := n) (m := min cap n) (k := n.toNat) h0 hn (by omega)
    have g1 : bg (bnw s 1000 n n.toNat) 0 v 0 = 1000 := by rw [bg_bnw, if_neg hv]; exact h4
    have g2 : bg (bnw s 1000 n n.toNat) 0 (bnx s : Int) 0 = 1000 := by rw [bg_bnw, if_pos rfl, if_pos rfl]
    have g3 : bg (bnw s 1000 n n.toNat) 4 v 0 = cap := by rw [bg_bnw, if_neg hv]; exact h5
    have g4 : bg (bnw s 1000 n n.toNat) 4 (bnx s : Int) 0 = n := by rw [bg_bnw, if_pos rfl, if_neg (by omega), if_pos rfl]
    have g5 : bg (bnw s 1000 n n.toNat) 1 (-1) 0 = bg s 1 (-1) 0 := by rw [bg_bnw, if_neg (by omega)]
    refine R_ck ⟨⟨by omega, by omega⟩, by omega, by omega⟩ (R_st (R_ck g1 (R_ck ⟨⟨g1, g2⟩, ⟨by omega, by omega, ?_⟩, ⟨?_, ?_⟩, ?_⟩ (R_st (R_ret ?_)))))
    · rw [g3, em]; omega
    · rw [g3, em]; omega
    · rw [g3, g4, em]; omega
    · rw [g5]; exact hlow
    · rw [g3, em]
      exact ⟨rfl, cn.1, cn.2, rfl, rfl⟩
