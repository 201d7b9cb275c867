/-! PLAIN LAW 0: runs of the printed programs; frames -/
set_option maxRecDepth 100000
def bRuns (o : Option (bS × Int)) (Q : bS → Int → Prop) : Prop := ∃ s v, o = some (s, v) ∧ Q s v
def bRunx (o : Option (bS × Int × Int)) (Q : bS → Int → Int → Prop) : Prop := ∃ s v x, o = some (s, v, x) ∧ Q s v x
theorem R_ck {c : Prop} [Decidable c] {x : Option (bS × Int)} {Q : bS → Int → Prop} (h : c) (k : bRuns x Q) : bRuns (bck c x) Q := by
  unfold bck
  rw [if_pos h]
  exact k
theorem R_st {s : bS} {f : bS → Option (bS × Int)} {Q : bS → Int → Prop} (k : bRuns (f s) Q) : bRuns (bst s f) Q := k
theorem R_vl {v : Int} {f : Int → Option (bS × Int)} {Q : bS → Int → Prop} (k : bRuns (f v) Q) : bRuns (bvl v f) Q := k
theorem R_cl {o : Option (bS × Int)} {f : bS → Int → Option (bS × Int)} {R Q : bS → Int → Prop} (h : bRuns o R) (k : ∀ s v, R s v → bRuns (f s v) Q) : bRuns (bcl o f) Q := by
  obtain ⟨s, v, e, hr⟩ := h
  rw [bcl_t e]
  exact k s v hr
theorem R_clx {o : Option (bS × Int × Int)} {f : bS → Int → Int → Option (bS × Int)} {R : bS → Int → Int → Prop} {Q : bS → Int → Prop} (h : bRunx o R) (k : ∀ s v x, R s v x → bRuns (f s v x) Q) : bRuns (bclx o f) Q := by
  obtain ⟨s, v, x, e, hr⟩ := h
  rw [bclx_t e]
  exact k s v x hr
theorem R_te {c : Prop} [Decidable c] {x y : Option (bS × Int)} {Q : bS → Int → Prop} (k1 : c → bRuns x Q) (k2 : ¬ c → bRuns y Q) : bRuns (bte c x y) Q := by
  unfold bte
  by_cases h : c
  · rw [if_pos h]; exact k1 h
  · rw [if_neg h]; exact k2 h
theorem R_t {c : Prop} [Decidable c] {x y : Option (bS × Int)} {Q : bS → Int → Prop} (h : c) (k : bRuns x Q) : bRuns (bte c x y) Q := R_te (fun _ => k) (fun n => absurd h n)
theorem R_f {c : Prop} [Decidable c] {x y : Option (bS × Int)} {Q : bS → Int → Prop} (h : ¬ c) (k : bRuns y Q) : bRuns (bte c x y) Q := R_te (fun n => absurd n h) (fun _ => k)
theorem R_ret {s : bS} {v : Int} {Q : bS → Int → Prop} (h : Q s v) : bRuns (some (s, v)) Q := ⟨s, v, rfl, h⟩
theorem R_mono {o : Option (bS × Int)} {R Q : bS → Int → Prop} (h : bRuns o R) (k : ∀ s v, R s v → Q s v) : bRuns o Q := by
  obtain ⟨s, v, e, hr⟩ := h
  exact ⟨s, v, e, k s v hr⟩
theorem X_ck {c : Prop} [Decidable c] {x : Option (bS × Int × Int)} {Q : bS → Int → Int → Prop} (h : c) (k : bRunx x Q) : bRunx (bck c x) Q := by
  unfold bck
  rw [if_pos h]
  exact k
theorem X_st {s : bS} {f : bS → Option (bS × Int × Int)} {Q : bS → Int → Int → Prop} (k : bRunx (f s) Q) : bRunx (bst s f) Q := k
theorem X_vl {v : Int} {f : Int → Option (bS × Int × Int)} {Q : bS → Int → Int → Prop} (k : bRunx (f v) Q) : bRunx (bvl v f) Q := k
theorem X_cl {o : Option (bS × Int)} {f : bS → Int → Option (bS × Int × Int)} {R : bS → Int → Prop} {Q : bS → Int → Int → Prop} (h : bRuns o R) (k : ∀ s v, R s v → bRunx (f s v) Q) : bRunx (bcl o f) Q := by
  obtain ⟨s, v, e, hr⟩ := h
  rw [bcl_t e]
  exact k s v hr
theorem X_clx {o : Option (bS × Int × Int)} {f : bS → Int → Int → Option (bS × Int × Int)} {R Q : bS → Int → Int → Prop} (h : bRunx o R) (k : ∀ s v x, R s v x → bRunx (f s v x) Q) : bRunx (bclx o f) Q := by
  obtain ⟨s, v, x, e, hr⟩ := h
  rw [bclx_t e]
  exact k s v x hr
theorem X_te {c : Prop} [Decidable c] {x y : Option (bS × Int × Int)} {Q : bS → Int → Int → Prop} (k1 : c → bRunx x Q) (k2 : ¬ c → bRunx y Q) : bRunx (bte c x y) Q := by
  unfold bte
  by_cases h : c
  · rw [if_pos h]; exact k1 h
  · rw [if_neg h]; exact k2 h
theorem X_t {c : Prop} [Decidable c] {x y : Option (bS × Int × Int)} {Q : bS → Int → Int → Prop} (h : c) (k : bRunx x Q) : bRunx (bte c x y) Q := X_te (fun _ => k) (fun n => absurd h n)
theorem X_f {c : Prop} [Decidable c] {x y : Option (bS × Int × Int)} {Q : bS → Int → Int → Prop} (h : ¬ c) (k : bRunx y Q) : bRunx (bte c x y) Q := X_te (fun n => absurd n h) (fun _ => k)
theorem X_ret {s : bS} {v x : Int} {Q : bS → Int → Int → Prop} (h : Q s v x) : bRunx (some (s, v, x)) Q := ⟨s, v, x, rfl, h⟩
theorem X_mono {o : Option (bS × Int × Int)} {R Q : bS → Int → Int → Prop} (h : bRunx o R) (k : ∀ s v x, R s v x → Q s v x) : bRunx o Q := by
  obtain ⟨s, v, x, e, hr⟩ := h
  exact ⟨s, v, x, e, k s v x hr⟩
/-! numbers -/
theorem i32_lt0 {x : Int} (hx : -2147483648 ≤ x ∧ x < 2147483648) : i32 x < 0 ↔ x < 0 := i32_lt (y := 0) hx (by omega)
theorem i32_le0 {x : Int} (hx : -2147483648 ≤ x ∧ x < 2147483648) : i32 x ≤ 0 ↔ x ≤ 0 := i32_le (y := 0) hx (by omega)
theorem i32_gt0 {x : Int} (hx : -2147483648 ≤ x ∧ x < 2147483648) : 0 < i32 x ↔ 0 < x := i32_lt (x := 0) (by omega) hx
theorem i32_ge0 {x : Int} (hx : -2147483648 ≤ x ∧ x < 2147483648) : 0 ≤ i32 x ↔ 0 ≤ x := i32_le (x := 0) (by omega) hx
theorem i32_eq0 {x : Int} (hx : -2147483648 ≤ x ∧ x < 2147483648) : i32 x = 0 ↔ x = 0 := i32_eq (y := 0) hx (by omega)
/-! ghost owners: of each cell whose it is; (-1, -1): of a cell that never changes -/
abbrev bO : Type := Int → Int × Int
def imm : Int × Int := (-1, -1)
/-- what is not of the owners I stays -/
def oX (I : Int × Int → Prop) (s : bS) (ow : bO) (s' : bS) (ow' : bO) : Prop :=
  bnx s ≤ bnx s' ∧ ∀ a : Int, a < (bnx s : Int) → (a < 0 ∨ ¬ I (ow a)) → ow' a = ow a ∧ ∀ (r : Nat) (i : Int), bg s' r a i = bg s r a i
theorem oX.rf {I : Int × Int → Prop} (s : bS) (ow : bO) : oX I s ow s ow := ⟨Nat.le_refl _, fun _ _ _ => ⟨rfl, fun _ _ => rfl⟩⟩
theorem oX.tr {I J K : Int × Int → Prop} {s s1 s2 : bS} {ow ow1 ow2 : bO} (h1 : oX I s ow s1 ow1) (h2 : oX J s1 ow1 s2 ow2) (hI : ∀ q, I q → K q) (hJ : ∀ q, J q → K q) : oX K s ow s2 ow2 := by
  refine ⟨Nat.le_trans h1.1 h2.1, fun a ha hk => ?_⟩
  obtain ⟨e1, f1⟩ := h1.2 a ha (hk.imp id (fun hk h => hk (hI _ h)))
  have h1n := h1.1
  obtain ⟨e2, f2⟩ := h2.2 a (by omega) (by rw [e1]; exact hk.imp id (fun hk h => hk (hJ _ h)))
  exact ⟨e2.trans e1, fun r i => (f2 r i).trans (f1 r i)⟩
theorem oX.t {I : Int × Int → Prop} {s s1 s2 : bS} {ow ow1 ow2 : bO} (h1 : oX I s ow s1 ow1) (h2 : oX I s1 ow1 s2 ow2) : oX I s ow s2 ow2 := h1.tr h2 (fun _ h => h) (fun _ h => h)
theorem oX.w {I J : Int × Int → Prop} {s s1 : bS} {ow ow1 : bO} (h : oX I s ow s1 ow1) (hIJ : ∀ q, I q → J q) : oX J s ow s1 ow1 := ⟨h.1, fun a ha hk => h.2 a ha (hk.imp id (fun hk q => hk (hIJ _ q)))⟩
theorem oX.low {I : Int × Int → Prop} {s s1 : bS} {ow ow1 : bO} (h : oX I s ow s1 ow1) (r : Nat) {a : Int} (i : Int) (ha : a < 0) : bg s1 r a i = bg s r a i := (h.2 a (by omega) (Or.inl ha)).2 r i
/-- a write into a cell of one of the owners -/
theorem oX.bw {I : Int × Int → Prop} {s : bS} {ow : bO} {r : Nat} {a i v : Int} (h0 : 0 ≤ a) (h : I (ow a)) : oX I s ow (bw s r a i v) ow :=
  ⟨Nat.le_refl _, fun b hb hk => ⟨rfl, fun r' i' => by rw [bg_bw, if_neg (fun q => by rw [q.2.1] at hk; exact hk.elim (by omega) (fun n => n h))]⟩⟩
theorem oX.bcp {I : Int × Int → Prop} {s : bS} {ow : bO} {r : Nat} {a sp b dp n : Int} (h0 : 0 ≤ b) (h : I (ow b)) : oX I s ow (bcp s r a sp b dp n) ow :=
  ⟨Nat.le_refl _, fun c hb hk => ⟨rfl, fun r' i' => by
    show (if r' = r ∧ c = b ∧ dp ≤ i' ∧ i' < dp + n then _ else _) = _
    rw [if_neg (fun q => by rw [q.2.1] at hk; exact hk.elim (by omega) (fun n => n h))]
    rfl⟩⟩
/-- a new cell -/
def oset (ow : bO) (a : Int) (q : Int × Int) : bO := fun b => if b = a then q else ow b
theorem oset_eq (ow : bO) (a : Int) (q : Int × Int) : oset ow a q a = q := if_pos rfl
theorem oset_ne {ow : bO} {a b : Int} {q : Int × Int} (h : b ≠ a) : oset ow a q b = ow b := if_neg h
theorem oX.nw {I : Int × Int → Prop} {s : bS} {ow : bO} (t len : Int) (n : Nat) (q : Int × Int) : oX I s ow (bnw s t len n) (oset ow (bnx s : Int) q) :=
  ⟨Nat.le_succ _, fun b hb hk => ⟨oset_ne (by omega), fun r' i' => by rw [bg_bnw, if_neg (by omega)]⟩⟩
/-- room for so many cells and slots more -/
def bRoom (s : bS) (c k : Nat) : Prop := bc s + c ≤ bCM ∧ bk s + k ≤ bKM
theorem bg_bcp (s : bS) (r : Nat) (a sp b dp n : Int) (r' : Nat) (a' i' : Int) : bg (bcp s r a sp b dp n) r' a' i' = if r' = r ∧ a' = b ∧ dp ≤ i' ∧ i' < dp + n then bg s r a (sp + (i' - dp)) else bg s r' a' i' := rfl
theorem bnx_bcp (s : bS) (r : Nat) (a sp b dp n : Int) : bnx (bcp s r a sp b dp n) = bnx s := rfl
theorem bc_bcp (s : bS) (r : Nat) (a sp b dp n : Int) : bc (bcp s r a sp b dp n) = bc s := rfl
theorem bk_bcp (s : bS) (r : Nat) (a sp b dp n : Int) : bk (bcp s r a sp b dp n) = bk s := rfl
