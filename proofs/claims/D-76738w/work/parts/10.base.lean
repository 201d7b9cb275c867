/-! BASE 1: the logical heap. A state: memory by region, address, index; next address; cells and slots used so far -/
set_option maxRecDepth 100000
abbrev bS : Type := (Nat → Int → Int → Int) × Nat × Nat × Nat
def bnx (s : bS) : Nat := s.2.1
def bc (s : bS) : Nat := s.2.2.1
def bk (s : bS) : Nat := s.2.2.2
def bg (s : bS) (r : Nat) (a i : Int) : Int := s.1 r a i
def bw (s : bS) (r : Nat) (a i v : Int) : bS := (fun r' a' i' => if r' = r ∧ a' = a ∧ i' = i then v else s.1 r' a' i', s.2)
def bdf (r : Nat) : Int := if r % 4 = 2 then -1 else 0
def bnw (s : bS) (t len : Int) (n : Nat) : bS := (fun r a i => if a = (s.2.1 : Int) then (if r = 0 then t else if r = 4 then len else bdf r) else s.1 r a i, s.2.1 + 1, s.2.2.1 + 1, s.2.2.2 + n)
def bCM : Nat := 1200144
def bKM : Nat := 5500378
def i32 (x : Int) : Int32 := Int32.ofInt x
def i64 (x : Int) : Int64 := Int64.ofInt x
def brv (x : Int) : Value := if x < 0 then .null else .ref x.toNat
/-- a logical value: its kind (0 int, 1 long, 2 reference) and what it is -/
abbrev bV : Type := Nat × Int
def bd (v : bV) : Value := match v.1 with
  | 0 => .int (i32 v.2)
  | 1 => .long (i64 v.2)
  | _ => brv v.2
def bval (r : Nat) (x : Int) : Value := bd (r % 4, x)
/-! combinators of the functional programs -/
abbrev bck (c : Prop) [Decidable c] {α : Type} (x : Option α) : Option α := if c then x else none
abbrev bst {α : Type} (s : bS) (f : bS → Option α) : Option α := (some s : Option bS) >>= f
abbrev bvl {α : Type} (v : Int) (f : Int → Option α) : Option α := (some v : Option Int) >>= f
abbrev bcl {α : Type} (o : Option (bS × Int)) (f : bS → Int → Option α) : Option α := o >>= fun r => f r.1 r.2
abbrev bte (c : Prop) [Decidable c] {α : Type} (x y : Option α) : Option α := if c then x else y
theorem bck_i {c : Prop} [Decidable c] {α : Type} {x : Option α} {r : α} (h : bck c x = some r) : c ∧ x = some r := by
  unfold bck at h
  split at h
  · exact ⟨by assumption, h⟩
  · cases h
theorem bck_t {c : Prop} [Decidable c] {α : Type} {x : Option α} (h : c) : bck c x = x := if_pos h
theorem bst_i {α : Type} {s : bS} {f : bS → Option α} {r : α} (h : bst s f = some r) (t : bS) (e : t = s) : f t = some r := by rw [e]; exact h
theorem bvl_i {α : Type} {s : Int} {f : Int → Option α} {r : α} (h : bvl s f = some r) (t : Int) (e : t = s) : f t = some r := by rw [e]; exact h
theorem bcl_i {α : Type} {o : Option (bS × Int)} {f : bS → Int → Option α} {r : α} (h : bcl o f = some r) : ∃ s v, o = some (s, v) ∧ f s v = some r := by
  unfold bcl at h
  cases o with
  | none => cases h
  | some q => exact ⟨q.1, q.2, rfl, h⟩
theorem bcl_t {α : Type} {o : Option (bS × Int)} {f : bS → Int → Option α} {s : bS} {v : Int} (h : o = some (s, v)) : bcl o f = f s v := by rw [h]; rfl
theorem bte_i {c : Prop} [Decidable c] {α : Type} {x y : Option α} {r : α} (h : bte c x y = some r) : (c → x = some r) ∧ (¬ c → y = some r) := by
  unfold bte at h
  refine ⟨fun q => by rw [if_pos q] at h; exact h, fun q => by rw [if_neg q] at h; exact h⟩
/-! numbers -/
theorem i32_add (x y : Int) : i32 x + i32 y = i32 (x + y) := (Int32.ofInt_add x y).symm
theorem i32_sub (x y : Int) : i32 x - i32 y = i32 (x - y) := (Int32.ofInt_sub x y).symm
theorem i32_mul (x y : Int) : i32 x * i32 y = i32 (x * y) := (Int32.ofInt_mul x y).symm
theorem i32_neg (x : Int) : - i32 x = i32 (- x) := (Int32.ofInt_neg x).symm
theorem i64_add (x y : Int) : i64 x + i64 y = i64 (x + y) := (Int64.ofInt_add x y).symm
theorem i64_sub (x y : Int) : i64 x - i64 y = i64 (x - y) := (Int64.ofInt_sub x y).symm
theorem i64_mul (x y : Int) : i64 x * i64 y = i64 (x * y) := (Int64.ofInt_mul x y).symm
theorem i32_of (v : Int32) : i32 v.toInt = v := Int32.ofInt_toInt v
theorem i64_of (v : Int64) : i64 v.toInt = v := Int64.ofInt_toInt v
def bin (x : Int) : Prop := -2147483648 ≤ x ∧ x < 2147483648
theorem bin_def (x : Int) : bin x ↔ (-2147483648 ≤ x ∧ x < 2147483648) := Iff.rfl
theorem i32_toInt {x : Int} (h : -2147483648 ≤ x ∧ x < 2147483648) : (i32 x).toInt = x := Int32.toInt_ofInt_of_le (by simpa using h.1) (by simpa using h.2)
theorem i64_toInt {x : Int} (h : -9223372036854775808 ≤ x ∧ x < 9223372036854775808) : (i64 x).toInt = x := Int64.toInt_ofInt_of_le (by simpa using h.1) (by simpa using h.2)
theorem i32_lt {x y : Int} (hx : -2147483648 ≤ x ∧ x < 2147483648) (hy : -2147483648 ≤ y ∧ y < 2147483648) : i32 x < i32 y ↔ x < y := by
  rw [Int32.lt_iff_toInt_lt, i32_toInt hx, i32_toInt hy]
theorem i32_le {x y : Int} (hx : -2147483648 ≤ x ∧ x < 2147483648) (hy : -2147483648 ≤ y ∧ y < 2147483648) : i32 x ≤ i32 y ↔ x ≤ y := by
  rw [Int32.le_iff_toInt_le, i32_toInt hx, i32_toInt hy]
theorem i32_eq {x y : Int} (hx : -2147483648 ≤ x ∧ x < 2147483648) (hy : -2147483648 ≤ y ∧ y < 2147483648) : i32 x = i32 y ↔ x = y := by
  rw [← Int32.toInt_inj, i32_toInt hx, i32_toInt hy]
theorem i32_clamp {x : Int} (h0 : 0 ≤ x) (h : x < 2147483648) : (i32 x).toNatClampNeg = x.toNat := by
  show (i32 x).toInt.toNat = _
  rw [i32_toInt ⟨by omega, h⟩]
theorem brv_ref {x : Int} (h : 0 ≤ x) : brv x = .ref x.toNat := if_neg (by omega)
theorem brv_nat (n : Nat) : brv (n : Int) = .ref n := by rw [brv_ref (by omega)]; simp
theorem brv_null {x : Int} (h : x < 0) : brv x = .null := if_pos h
theorem brv_or (x : Int) : brv x = .null ∨ ∃ a, brv x = .ref a := by
  unfold brv
  split
  · exact Or.inl rfl
  · exact Or.inr ⟨_, rfl⟩
/-! reading and writing -/
theorem bg_bw (s : bS) (r : Nat) (a i v : Int) (r' : Nat) (a' i' : Int) : bg (bw s r a i v) r' a' i' = if r' = r ∧ a' = a ∧ i' = i then v else bg s r' a' i' := rfl
theorem bg_bnw (s : bS) (t len : Int) (n : Nat) (r : Nat) (a i : Int) : bg (bnw s t len n) r a i = if a = (bnx s : Int) then (if r = 0 then t else if r = 4 then len else bdf r) else bg s r a i := rfl
theorem bnx_bw (s : bS) (r : Nat) (a i v : Int) : bnx (bw s r a i v) = bnx s := rfl
theorem bc_bw (s : bS) (r : Nat) (a i v : Int) : bc (bw s r a i v) = bc s := rfl
theorem bk_bw (s : bS) (r : Nat) (a i v : Int) : bk (bw s r a i v) = bk s := rfl
theorem bnx_bnw (s : bS) (t len : Int) (n : Nat) : bnx (bnw s t len n) = bnx s + 1 := rfl
theorem bc_bnw (s : bS) (t len : Int) (n : Nat) : bc (bnw s t len n) = bc s + 1 := rfl
theorem bk_bnw (s : bS) (t len : Int) (n : Nat) : bk (bnw s t len n) = bk s + n := rfl
/-! BASE 0: the classes that the code makes objects of, and the region of each field -/
def bcls : List vw_C := [(RX0, TX0, 8), (RX1, TX1, 5), (RX2, TX2, 2), (RX3, TX3, 6), (RX4, TX4, 3), (RX7, TX7, 1), (RX8, TX8, 3), (RX9, TX9, 14), (RX10, TX10, 2), (RX11, TX11, 1), (RX12, TX12, 33), (RX13, TX13, 7), (RX14, TX14, 2), (RX15, TX15, 7), (RX16, TX16, 1), (RX17, TX17, 2), (RX18, TX18, 3), (RX19, TX19, 2), (RJ1, TJ1, 4), (RJ2, TJ2, 4), (RJ10, TJ10, 3), (RJ12, TJ12, 4), (RJ26, TJ26, 3), (RJ27, TJ27, 2), (RJ28, TJ28, 5)]
def bfrs : List (List Nat) := [[34, 38, 40, 46, 50, 54, 56, 62], [66, 70, 74, 78, 80], [86, 90], [94, 98, 102, 106, 110, 114], [118, 120, 124], [128], [134, 138, 140], [146, 150, 154, 158, 162, 164, 170, 172, 178, 180, 184, 190, 194, 196], [202, 206], [210], [214, 218, 222, 226, 230, 234, 238, 242, 246, 250, 254, 258, 262, 264, 268, 272, 276, 280, 284, 290, 294, 298, 302, 306, 310, 314, 318, 322, 326, 330, 334, 338, 340], [346, 350, 354, 358, 362, 364, 368], [372, 378], [346, 350, 354, 358, 362, 364, 380], [128], [386, 390], [128, 392, 396], [402, 404], [410, 412, 416, 420], [426, 428, 432, 436], [440, 446, 448], [440, 452, 458, 462], [466, 470, 474], [478, 482], [486, 490, 492, 496, 502]]
def bfr (c k : Nat) : Nat := (bfrs.getD c []).getD k 0

/-! BASE 2: what a machine's heap must hold; the judgement of a frame -/
abbrev bG : Type := va_G × Nat × Heap × (Nat → ClassId) × (Nat → Int)
def ber (t : Nat) : Nat := match t with
  | 1000 => 8
  | 1001 => 12
  | 1002 => 16
  | 1003 => 20
  | 1004 => 24
  | 1005 => 9
  | 1011 => 28
  | _ => 10
def btys : List FieldType := [.byte, .boolean, .short, .int, .char, .long, .object "java/lang/Object", .object "EditsMeet$Client", .object "EditsMeet$Edit", .object "EditsMeet$Sheet", .array .int, .int]
def bcast : List (String × String) := [("java/lang/StringBuilder", "java/lang/CharSequence"), ("java/lang/StringBuilder", "java/lang/AbstractStringBuilder"), ("java/lang/StringBuilder", "java/lang/Object"), ("java/util/ArrayList", "java/util/Collection"), ("java/util/ArrayList", "java/lang/Object"), ("java/util/LinkedList", "java/util/Collection"), ("java/util/LinkedList", "java/lang/Object"), ("java/lang/IndexOutOfBoundsException", "java/lang/IndexOutOfBoundsException"), ("java/lang/IndexOutOfBoundsException", "java/lang/Object"), ("java/lang/ArrayIndexOutOfBoundsException", "java/lang/ArrayIndexOutOfBoundsException"), ("java/lang/ArrayIndexOutOfBoundsException", "java/lang/IndexOutOfBoundsException"), ("java/lang/ArrayIndexOutOfBoundsException", "java/lang/Object"), ("java/lang/NullPointerException", "java/lang/NullPointerException"), ("java/lang/NullPointerException", "java/lang/Object"), ("java/lang/ArrayStoreException", "java/lang/ArrayStoreException"), ("java/lang/ArrayStoreException", "java/lang/Object"), ("java/lang/ClassCastException", "java/lang/ClassCastException"), ("java/lang/ClassCastException", "java/lang/Object"), ("java/lang/String", "java/lang/CharSequence"), ("java/lang/String", "java/lang/Object"), ("java/util/NoSuchElementException", "java/util/NoSuchElementException"), ("java/util/NoSuchElementException", "java/lang/Object"), ("java/util/LinkedList$Node", "java/lang/Object"), ("java/util/LinkedList$DescendingIterator", "java/util/Iterator"), ("java/util/LinkedList$DescendingIterator", "java/lang/Object"), ("java/util/LinkedList$ListItr", "java/util/Iterator"), ("java/util/LinkedList$ListItr", "java/lang/Object"), ("java/lang/StringIndexOutOfBoundsException", "java/lang/IndexOutOfBoundsException"), ("java/lang/StringIndexOutOfBoundsException", "java/lang/Object"), ("java/util/ArrayList$ListItr", "java/util/Iterator"), ("java/util/ArrayList$ListItr", "java/lang/Object"), ("java/lang/System$2", "jdk/internal/access/JavaLangAccess"), ("java/lang/System$2", "java/lang/Object"), ("java/lang/Throwable", "java/lang/Object"), ("java/lang/RuntimeException", "java/lang/Throwable"), ("java/lang/NegativeArraySizeException", "java/lang/NegativeArraySizeException"), ("java/lang/NegativeArraySizeException", "java/lang/Object"), ("EditsMeet", "java/lang/Object"), ("EditsMeet$World", "java/lang/Object"), ("EditsMeet$Pile", "java/lang/Object"), ("EditsMeet$Sheet", "java/lang/Object"), ("EditsMeetModel", "java/lang/Object"), ("EditsMeet$Refused", "EditsMeet$Refused"), ("EditsMeet$Refused", "java/lang/Object"), ("EditsMeet$Reader", "java/lang/Object"), ("EditsMeet$Fault", "EditsMeet$Fault"), ("EditsMeet$Fault", "java/lang/Object"), ("EditsMeet$Delete", "EditsMeet$Part"), ("EditsMeet$Delete", "EditsMeet$Over"), ("EditsMeet$Delete", "java/lang/Object"), ("EditsMeet$Insert", "EditsMeet$Part"), ("EditsMeet$Insert", "java/lang/Object"), ("EditsMeet$Mark", "EditsMeet$Part"), ("EditsMeet$Mark", "EditsMeet$Over"), ("EditsMeet$Mark", "EditsMeet$Keep"), ("EditsMeet$Mark", "java/lang/Object"), ("EditsMeet$Revision", "java/lang/Object"), ("EditsMeet$Text", "java/lang/Object"), ("EditsMeet$Weaver", "java/lang/Object"), ("EditsMeet$Goes", "java/util/Iterator"), ("EditsMeet$Goes", "java/lang/Object"), ("EditsMeet$Keep", "EditsMeet$Part"), ("EditsMeet$Keep", "EditsMeet$Over"), ("EditsMeet$Keep", "java/lang/Object"), ("EditsMeet$Edit", "java/lang/Object"), ("EditsMeet$Client", "java/lang/Object"), ("[B", "java/lang/Cloneable"), ("[B", "java/lang/Object"), ("[I", "java/lang/Object"), ("[J", "java/lang/Object"), ("[LEditsMeet$Client;", "java/lang/Object"), ("[LEditsMeet$Edit;", "java/lang/Object"), ("[LEditsMeet$Sheet;", "java/lang/Object"), ("[Ljava/lang/Object;", "java/lang/Object"), ("[S", "java/lang/Object"), ("[Z", "java/lang/Object"), ("[[I", "java/lang/Object"), ("java/util/AbstractList$ListItr", "java/util/Iterator"), ("java/util/AbstractList$ListItr", "java/lang/Object")]
def bty (Γ : bG) : List (ClassId × FieldType) := btys.zipIdx.map fun q => (Γ.2.2.2.1 q.2, q.1)
def bdfF : List (String × MethodName × MethodName) := [("EditsMeet$Delete", ⟨"EditsMeet$Part", "on", "()I"⟩, ⟨"EditsMeet$Part", "on", "()I"⟩), ("EditsMeet$Insert", ⟨"EditsMeet$Part", "on", "()I"⟩, ⟨"EditsMeet$Part", "on", "()I"⟩), ("EditsMeet$Keep", ⟨"EditsMeet$Part", "on", "()I"⟩, ⟨"EditsMeet$Part", "on", "()I"⟩), ("EditsMeet$Delete", ⟨"EditsMeet$Part", "off", "()I"⟩, ⟨"EditsMeet$Part", "off", "()I"⟩), ("EditsMeet$Insert", ⟨"EditsMeet$Part", "off", "()I"⟩, ⟨"EditsMeet$Part", "off", "()I"⟩), ("EditsMeet$Keep", ⟨"EditsMeet$Part", "off", "()I"⟩, ⟨"EditsMeet$Part", "off", "()I"⟩), ("EditsMeet$Insert", ⟨"EditsMeet$Part", "gives", "()I"⟩, ⟨"EditsMeet$Part", "gives", "()I"⟩), ("EditsMeet$Keep", ⟨"EditsMeet$Part", "gives", "()I"⟩, ⟨"EditsMeet$Part", "gives", "()I"⟩), ("EditsMeet$Mark", ⟨"EditsMeet$Part", "gives", "()I"⟩, ⟨"EditsMeet$Part", "gives", "()I"⟩), ("EditsMeet$Insert", ⟨"EditsMeet$Part", "takes", "()I"⟩, ⟨"EditsMeet$Part", "takes", "()I"⟩), ("EditsMeet$Delete", ⟨"EditsMeet$Part", "inserts", "()Z"⟩, ⟨"EditsMeet$Part", "inserts", "()Z"⟩), ("EditsMeet$Insert", ⟨"EditsMeet$Part", "inserts", "()Z"⟩, ⟨"EditsMeet$Part", "inserts", "()Z"⟩), ("EditsMeet$Keep", ⟨"EditsMeet$Part", "inserts", "()Z"⟩, ⟨"EditsMeet$Part", "inserts", "()Z"⟩), ("EditsMeet$Mark", ⟨"EditsMeet$Part", "inserts", "()Z"⟩, ⟨"EditsMeet$Part", "inserts", "()Z"⟩), ("EditsMeet$Delete", ⟨"EditsMeet$Part", "deletes", "()Z"⟩, ⟨"EditsMeet$Part", "deletes", "()Z"⟩), ("EditsMeet$Insert", ⟨"EditsMeet$Part", "deletes", "()Z"⟩, ⟨"EditsMeet$Part", "deletes", "()Z"⟩), ("EditsMeet$Keep", ⟨"EditsMeet$Part", "deletes", "()Z"⟩, ⟨"EditsMeet$Part", "deletes", "()Z"⟩), ("EditsMeet$Mark", ⟨"EditsMeet$Part", "deletes", "()Z"⟩, ⟨"EditsMeet$Part", "deletes", "()Z"⟩), ("EditsMeet$Delete", ⟨"EditsMeet$Part", "marks", "(I)I"⟩, ⟨"EditsMeet$Part", "marks", "(I)I"⟩), ("EditsMeet$Insert", ⟨"EditsMeet$Part", "marks", "(I)I"⟩, ⟨"EditsMeet$Part", "marks", "(I)I"⟩), ("EditsMeet$Keep", ⟨"EditsMeet$Part", "marks", "(I)I"⟩, ⟨"EditsMeet$Part", "marks", "(I)I"⟩), ("EditsMeet$Mark", ⟨"EditsMeet$Part", "marks", "(I)I"⟩, ⟨"EditsMeet$Part", "marks", "(I)I"⟩)]
def bdfV : List (String × String × MethodName × MethodName) := [("EditsMeet$Keep", "EditsMeet$Part", ⟨"EditsMeet$Keep", "on", "()I"⟩, ⟨"EditsMeet$Part", "on", "()I"⟩), ("EditsMeet$Keep", "EditsMeet$Part", ⟨"EditsMeet$Keep", "off", "()I"⟩, ⟨"EditsMeet$Part", "off", "()I"⟩), ("EditsMeet$Delete", "EditsMeet$Part", ⟨"EditsMeet$Over", "on", "()I"⟩, ⟨"EditsMeet$Part", "on", "()I"⟩), ("EditsMeet$Keep", "EditsMeet$Part", ⟨"EditsMeet$Over", "on", "()I"⟩, ⟨"EditsMeet$Part", "on", "()I"⟩), ("EditsMeet$Delete", "EditsMeet$Part", ⟨"EditsMeet$Over", "off", "()I"⟩, ⟨"EditsMeet$Part", "off", "()I"⟩), ("EditsMeet$Keep", "EditsMeet$Part", ⟨"EditsMeet$Over", "off", "()I"⟩, ⟨"EditsMeet$Part", "off", "()I"⟩), ("EditsMeet$Delete", "EditsMeet$Part", ⟨"EditsMeet$Over", "deletes", "()Z"⟩, ⟨"EditsMeet$Part", "deletes", "()Z"⟩), ("EditsMeet$Keep", "EditsMeet$Part", ⟨"EditsMeet$Over", "deletes", "()Z"⟩, ⟨"EditsMeet$Part", "deletes", "()Z"⟩), ("EditsMeet$Mark", "EditsMeet$Part", ⟨"EditsMeet$Over", "deletes", "()Z"⟩, ⟨"EditsMeet$Part", "deletes", "()Z"⟩)]
def blam : List (MethodName × Nat × Nat × Lambda.Shape) := [(⟨"EditsMeet", "show", "(III)I"⟩, 5, 139, ({ iface := "EditsMeet$Asked", name := "told", sam := ({ parameters := [], returnType := (Option.some FieldType.int) } : ClassFile.MethodDescriptor), captured := [(FieldType.object "EditsMeet"), FieldType.int, FieldType.int, FieldType.int], kind := 5, implClass := "EditsMeet", implName := "lambda$show$0", implDesc := ({ parameters := [FieldType.int, FieldType.int, FieldType.int], returnType := (Option.some FieldType.int) } : ClassFile.MethodDescriptor), implItf := false, inst := ({ parameters := [], returnType := (Option.some FieldType.int) } : ClassFile.MethodDescriptor) } : Lambda.Shape)),
  (⟨"EditsMeet", "of", "(II)I"⟩, 4, 218, ({ iface := "EditsMeet$Asked", name := "told", sam := ({ parameters := [], returnType := (Option.some FieldType.int) } : ClassFile.MethodDescriptor), captured := [(FieldType.object "EditsMeet"), FieldType.int, FieldType.int], kind := 5, implClass := "EditsMeet", implName := "lambda$of$5", implDesc := ({ parameters := [FieldType.int, FieldType.int], returnType := (Option.some FieldType.int) } : ClassFile.MethodDescriptor), implItf := false, inst := ({ parameters := [], returnType := (Option.some FieldType.int) } : ClassFile.MethodDescriptor) } : Lambda.Shape)),
  (⟨"EditsMeet$Edit", "from", "()I"⟩, 1, 122, ({ iface := "EditsMeet$Counted", name := "of", sam := ({ parameters := [(FieldType.object "EditsMeet$Part")], returnType := (Option.some FieldType.int) } : ClassFile.MethodDescriptor), captured := [], kind := 6, implClass := "EditsMeet$Edit", implName := "lambda$from$0", implDesc := ({ parameters := [(FieldType.object "EditsMeet$Part")], returnType := (Option.some FieldType.int) } : ClassFile.MethodDescriptor), implItf := false, inst := ({ parameters := [(FieldType.object "EditsMeet$Part")], returnType := (Option.some FieldType.int) } : ClassFile.MethodDescriptor) } : Lambda.Shape)),
  (⟨"EditsMeet$Edit", "to", "()I"⟩, 1, 129, ({ iface := "EditsMeet$Counted", name := "of", sam := ({ parameters := [(FieldType.object "EditsMeet$Part")], returnType := (Option.some FieldType.int) } : ClassFile.MethodDescriptor), captured := [], kind := 6, implClass := "EditsMeet$Edit", implName := "lambda$to$1", implDesc := ({ parameters := [(FieldType.object "EditsMeet$Part")], returnType := (Option.some FieldType.int) } : ClassFile.MethodDescriptor), implItf := false, inst := ({ parameters := [(FieldType.object "EditsMeet$Part")], returnType := (Option.some FieldType.int) } : ClassFile.MethodDescriptor) } : Lambda.Shape)),
  (⟨"EditsMeet", "lambda$of$5", "(II)I"⟩, 70, 537, ({ iface := "EditsMeet$Counted", name := "of", sam := ({ parameters := [(FieldType.object "EditsMeet$Part")], returnType := (Option.some FieldType.int) } : ClassFile.MethodDescriptor), captured := [], kind := 6, implClass := "EditsMeet", implName := "lambda$of$2", implDesc := ({ parameters := [(FieldType.object "EditsMeet$Part")], returnType := (Option.some FieldType.int) } : ClassFile.MethodDescriptor), implItf := false, inst := ({ parameters := [(FieldType.object "EditsMeet$Part")], returnType := (Option.some FieldType.int) } : ClassFile.MethodDescriptor) } : Lambda.Shape)),
  (⟨"EditsMeet", "lambda$of$5", "(II)I"⟩, 82, 538, ({ iface := "EditsMeet$Counted", name := "of", sam := ({ parameters := [(FieldType.object "EditsMeet$Part")], returnType := (Option.some FieldType.int) } : ClassFile.MethodDescriptor), captured := [], kind := 6, implClass := "EditsMeet", implName := "lambda$of$3", implDesc := ({ parameters := [(FieldType.object "EditsMeet$Part")], returnType := (Option.some FieldType.int) } : ClassFile.MethodDescriptor), implItf := false, inst := ({ parameters := [(FieldType.object "EditsMeet$Part")], returnType := (Option.some FieldType.int) } : ClassFile.MethodDescriptor) } : Lambda.Shape)),
  (⟨"EditsMeet", "lambda$of$5", "(II)I"⟩, 94, 539, ({ iface := "EditsMeet$Counted", name := "of", sam := ({ parameters := [(FieldType.object "EditsMeet$Part")], returnType := (Option.some FieldType.int) } : ClassFile.MethodDescriptor), captured := [], kind := 6, implClass := "EditsMeet", implName := "lambda$of$4", implDesc := ({ parameters := [(FieldType.object "EditsMeet$Part")], returnType := (Option.some FieldType.int) } : ClassFile.MethodDescriptor), implItf := false, inst := ({ parameters := [(FieldType.object "EditsMeet$Part")], returnType := (Option.some FieldType.int) } : ClassFile.MethodDescriptor) } : Lambda.Shape)),
  (⟨"EditsMeet", "part", "(III)I"⟩, 5, 221, ({ iface := "EditsMeet$Asked", name := "told", sam := ({ parameters := [], returnType := (Option.some FieldType.int) } : ClassFile.MethodDescriptor), captured := [(FieldType.object "EditsMeet"), FieldType.int, FieldType.int, FieldType.int], kind := 5, implClass := "EditsMeet", implName := "lambda$part$6", implDesc := ({ parameters := [FieldType.int, FieldType.int, FieldType.int], returnType := (Option.some FieldType.int) } : ClassFile.MethodDescriptor), implItf := false, inst := ({ parameters := [], returnType := (Option.some FieldType.int) } : ClassFile.MethodDescriptor) } : Lambda.Shape)),
  (⟨"EditsMeet", "letter", "(III)I"⟩, 5, 222, ({ iface := "EditsMeet$Asked", name := "told", sam := ({ parameters := [], returnType := (Option.some FieldType.int) } : ClassFile.MethodDescriptor), captured := [(FieldType.object "EditsMeet"), FieldType.int, FieldType.int, FieldType.int], kind := 5, implClass := "EditsMeet", implName := "lambda$letter$7", implDesc := ({ parameters := [FieldType.int, FieldType.int, FieldType.int], returnType := (Option.some FieldType.int) } : ClassFile.MethodDescriptor), implItf := false, inst := ({ parameters := [], returnType := (Option.some FieldType.int) } : ClassFile.MethodDescriptor) } : Lambda.Shape)),
  (⟨"EditsMeet", "spelled", "(II)I"⟩, 4, 223, ({ iface := "EditsMeet$Asked", name := "told", sam := ({ parameters := [], returnType := (Option.some FieldType.int) } : ClassFile.MethodDescriptor), captured := [(FieldType.object "EditsMeet"), FieldType.int, FieldType.int], kind := 5, implClass := "EditsMeet", implName := "lambda$spelled$8", implDesc := ({ parameters := [FieldType.int, FieldType.int], returnType := (Option.some FieldType.int) } : ClassFile.MethodDescriptor), implItf := false, inst := ({ parameters := [], returnType := (Option.some FieldType.int) } : ClassFile.MethodDescriptor) } : Lambda.Shape)),
  (⟨"EditsMeet", "behind", "(III)I"⟩, 5, 224, ({ iface := "EditsMeet$Asked", name := "told", sam := ({ parameters := [], returnType := (Option.some FieldType.int) } : ClassFile.MethodDescriptor), captured := [(FieldType.object "EditsMeet"), FieldType.int, FieldType.int, FieldType.int], kind := 5, implClass := "EditsMeet", implName := "lambda$behind$9", implDesc := ({ parameters := [FieldType.int, FieldType.int, FieldType.int], returnType := (Option.some FieldType.int) } : ClassFile.MethodDescriptor), implItf := false, inst := ({ parameters := [], returnType := (Option.some FieldType.int) } : ClassFile.MethodDescriptor) } : Lambda.Shape)),
  (⟨"EditsMeet", "fits", "(ILEditsMeet$Edit;)I"⟩, 21, 188, ({ iface := "EditsMeet$Counted", name := "of", sam := ({ parameters := [(FieldType.object "EditsMeet$Part")], returnType := (Option.some FieldType.int) } : ClassFile.MethodDescriptor), captured := [], kind := 6, implClass := "EditsMeet", implName := "lambda$fits$1", implDesc := ({ parameters := [(FieldType.object "EditsMeet$Part")], returnType := (Option.some FieldType.int) } : ClassFile.MethodDescriptor), implItf := false, inst := ({ parameters := [(FieldType.object "EditsMeet$Part")], returnType := (Option.some FieldType.int) } : ClassFile.MethodDescriptor) } : Lambda.Shape)),
  (⟨"EditsMeet", "over", "(IIII)I"⟩, 7, 225, ({ iface := "EditsMeet$Asked", name := "told", sam := ({ parameters := [], returnType := (Option.some FieldType.int) } : ClassFile.MethodDescriptor), captured := [(FieldType.object "EditsMeet"), FieldType.int, FieldType.int, FieldType.int, FieldType.int], kind := 5, implClass := "EditsMeet", implName := "lambda$over$10", implDesc := ({ parameters := [FieldType.int, FieldType.int, FieldType.int, FieldType.int], returnType := (Option.some FieldType.int) } : ClassFile.MethodDescriptor), implItf := false, inst := ({ parameters := [], returnType := (Option.some FieldType.int) } : ClassFile.MethodDescriptor) } : Lambda.Shape)),
  (⟨"EditsMeet", "turned", "(III)I"⟩, 5, 228, ({ iface := "EditsMeet$Asked", name := "told", sam := ({ parameters := [], returnType := (Option.some FieldType.int) } : ClassFile.MethodDescriptor), captured := [(FieldType.object "EditsMeet"), FieldType.int, FieldType.int, FieldType.int], kind := 5, implClass := "EditsMeet", implName := "lambda$turned$11", implDesc := ({ parameters := [FieldType.int, FieldType.int, FieldType.int], returnType := (Option.some FieldType.int) } : ClassFile.MethodDescriptor), implItf := false, inst := ({ parameters := [], returnType := (Option.some FieldType.int) } : ClassFile.MethodDescriptor) } : Lambda.Shape)),
  (⟨"EditsMeet", "differ", "(II)I"⟩, 4, 244, ({ iface := "EditsMeet$Asked", name := "told", sam := ({ parameters := [], returnType := (Option.some FieldType.int) } : ClassFile.MethodDescriptor), captured := [(FieldType.object "EditsMeet"), FieldType.int, FieldType.int], kind := 5, implClass := "EditsMeet", implName := "lambda$differ$12", implDesc := ({ parameters := [FieldType.int, FieldType.int], returnType := (Option.some FieldType.int) } : ClassFile.MethodDescriptor), implItf := false, inst := ({ parameters := [], returnType := (Option.some FieldType.int) } : ClassFile.MethodDescriptor) } : Lambda.Shape)),
  (⟨"EditsMeet", "does", "(II)I"⟩, 4, 276, ({ iface := "EditsMeet$Asked", name := "told", sam := ({ parameters := [], returnType := (Option.some FieldType.int) } : ClassFile.MethodDescriptor), captured := [(FieldType.object "EditsMeet"), FieldType.int, FieldType.int], kind := 5, implClass := "EditsMeet", implName := "lambda$does$13", implDesc := ({ parameters := [FieldType.int, FieldType.int], returnType := (Option.some FieldType.int) } : ClassFile.MethodDescriptor), implItf := false, inst := ({ parameters := [], returnType := (Option.some FieldType.int) } : ClassFile.MethodDescriptor) } : Lambda.Shape)),
  (⟨"EditsMeet", "insert", "(IIII)I"⟩, 7, 307, ({ iface := "EditsMeet$Asked", name := "told", sam := ({ parameters := [], returnType := (Option.some FieldType.int) } : ClassFile.MethodDescriptor), captured := [(FieldType.object "EditsMeet"), FieldType.int, FieldType.int, FieldType.int, FieldType.int], kind := 5, implClass := "EditsMeet", implName := "lambda$insert$14", implDesc := ({ parameters := [FieldType.int, FieldType.int, FieldType.int, FieldType.int], returnType := (Option.some FieldType.int) } : ClassFile.MethodDescriptor), implItf := false, inst := ({ parameters := [], returnType := (Option.some FieldType.int) } : ClassFile.MethodDescriptor) } : Lambda.Shape)),
  (⟨"EditsMeet", "cut", "(III)I"⟩, 5, 308, ({ iface := "EditsMeet$Asked", name := "told", sam := ({ parameters := [], returnType := (Option.some FieldType.int) } : ClassFile.MethodDescriptor), captured := [(FieldType.object "EditsMeet"), FieldType.int, FieldType.int, FieldType.int], kind := 5, implClass := "EditsMeet", implName := "lambda$cut$15", implDesc := ({ parameters := [FieldType.int, FieldType.int, FieldType.int], returnType := (Option.some FieldType.int) } : ClassFile.MethodDescriptor), implItf := false, inst := ({ parameters := [], returnType := (Option.some FieldType.int) } : ClassFile.MethodDescriptor) } : Lambda.Shape)),
  (⟨"EditsMeet", "mark", "(IIIII)I"⟩, 9, 319, ({ iface := "EditsMeet$Asked", name := "told", sam := ({ parameters := [], returnType := (Option.some FieldType.int) } : ClassFile.MethodDescriptor), captured := [(FieldType.object "EditsMeet"), FieldType.int, FieldType.int, FieldType.int, FieldType.int, FieldType.int], kind := 5, implClass := "EditsMeet", implName := "lambda$mark$16", implDesc := ({ parameters := [FieldType.int, FieldType.int, FieldType.int, FieldType.int, FieldType.int], returnType := (Option.some FieldType.int) } : ClassFile.MethodDescriptor), implItf := false, inst := ({ parameters := [], returnType := (Option.some FieldType.int) } : ClassFile.MethodDescriptor) } : Lambda.Shape)),
  (⟨"EditsMeet", "serve", "(I)I"⟩, 3, 343, ({ iface := "EditsMeet$Asked", name := "told", sam := ({ parameters := [], returnType := (Option.some FieldType.int) } : ClassFile.MethodDescriptor), captured := [(FieldType.object "EditsMeet"), FieldType.int], kind := 5, implClass := "EditsMeet", implName := "lambda$serve$17", implDesc := ({ parameters := [FieldType.int], returnType := (Option.some FieldType.int) } : ClassFile.MethodDescriptor), implItf := false, inst := ({ parameters := [], returnType := (Option.some FieldType.int) } : ClassFile.MethodDescriptor) } : Lambda.Shape)),
  (⟨"EditsMeet", "hear", "(I)I"⟩, 3, 355, ({ iface := "EditsMeet$Asked", name := "told", sam := ({ parameters := [], returnType := (Option.some FieldType.int) } : ClassFile.MethodDescriptor), captured := [(FieldType.object "EditsMeet"), FieldType.int], kind := 5, implClass := "EditsMeet", implName := "lambda$hear$18", implDesc := ({ parameters := [FieldType.int], returnType := (Option.some FieldType.int) } : ClassFile.MethodDescriptor), implItf := false, inst := ({ parameters := [], returnType := (Option.some FieldType.int) } : ClassFile.MethodDescriptor) } : Lambda.Shape)),
  (⟨"EditsMeet", "meet", "()I"⟩, 2, 356, ({ iface := "EditsMeet$Asked", name := "told", sam := ({ parameters := [], returnType := (Option.some FieldType.int) } : ClassFile.MethodDescriptor), captured := [(FieldType.object "EditsMeet")], kind := 5, implClass := "EditsMeet", implName := "lambda$meet$19", implDesc := ({ parameters := [], returnType := (Option.some FieldType.int) } : ClassFile.MethodDescriptor), implItf := false, inst := ({ parameters := [], returnType := (Option.some FieldType.int) } : ClassFile.MethodDescriptor) } : Lambda.Shape)),
  (⟨"EditsMeet", "undo", "(I)I"⟩, 3, 368, ({ iface := "EditsMeet$Asked", name := "told", sam := ({ parameters := [], returnType := (Option.some FieldType.int) } : ClassFile.MethodDescriptor), captured := [(FieldType.object "EditsMeet"), FieldType.int], kind := 5, implClass := "EditsMeet", implName := "lambda$undo$20", implDesc := ({ parameters := [FieldType.int], returnType := (Option.some FieldType.int) } : ClassFile.MethodDescriptor), implItf := false, inst := ({ parameters := [], returnType := (Option.some FieldType.int) } : ClassFile.MethodDescriptor) } : Lambda.Shape)),
  (⟨"EditsMeet", "redo", "(I)I"⟩, 3, 369, ({ iface := "EditsMeet$Asked", name := "told", sam := ({ parameters := [], returnType := (Option.some FieldType.int) } : ClassFile.MethodDescriptor), captured := [(FieldType.object "EditsMeet"), FieldType.int], kind := 5, implClass := "EditsMeet", implName := "lambda$redo$21", implDesc := ({ parameters := [FieldType.int], returnType := (Option.some FieldType.int) } : ClassFile.MethodDescriptor), implItf := false, inst := ({ parameters := [], returnType := (Option.some FieldType.int) } : ClassFile.MethodDescriptor) } : Lambda.Shape)),
  (⟨"EditsMeet", "point", "(III)I"⟩, 5, 370, ({ iface := "EditsMeet$Asked", name := "told", sam := ({ parameters := [], returnType := (Option.some FieldType.int) } : ClassFile.MethodDescriptor), captured := [(FieldType.object "EditsMeet"), FieldType.int, FieldType.int, FieldType.int], kind := 5, implClass := "EditsMeet", implName := "lambda$point$22", implDesc := ({ parameters := [FieldType.int, FieldType.int, FieldType.int], returnType := (Option.some FieldType.int) } : ClassFile.MethodDescriptor), implItf := false, inst := ({ parameters := [], returnType := (Option.some FieldType.int) } : ClassFile.MethodDescriptor) } : Lambda.Shape)),
  (⟨"EditsMeet", "takes", "(III)I"⟩, 5, 391, ({ iface := "EditsMeet$Asked", name := "told", sam := ({ parameters := [], returnType := (Option.some FieldType.int) } : ClassFile.MethodDescriptor), captured := [(FieldType.object "EditsMeet"), FieldType.int, FieldType.int, FieldType.int], kind := 5, implClass := "EditsMeet", implName := "lambda$takes$23", implDesc := ({ parameters := [FieldType.int, FieldType.int, FieldType.int], returnType := (Option.some FieldType.int) } : ClassFile.MethodDescriptor), implItf := false, inst := ({ parameters := [], returnType := (Option.some FieldType.int) } : ClassFile.MethodDescriptor) } : Lambda.Shape)),
  (⟨"EditsMeet", "revision", "(II)I"⟩, 4, 392, ({ iface := "EditsMeet$Asked", name := "told", sam := ({ parameters := [], returnType := (Option.some FieldType.int) } : ClassFile.MethodDescriptor), captured := [(FieldType.object "EditsMeet"), FieldType.int, FieldType.int], kind := 5, implClass := "EditsMeet", implName := "lambda$revision$24", implDesc := ({ parameters := [FieldType.int, FieldType.int], returnType := (Option.some FieldType.int) } : ClassFile.MethodDescriptor), implItf := false, inst := ({ parameters := [], returnType := (Option.some FieldType.int) } : ClassFile.MethodDescriptor) } : Lambda.Shape)),
  (⟨"EditsMeet", "judge", "(III)I"⟩, 5, 411, ({ iface := "EditsMeet$Asked", name := "told", sam := ({ parameters := [], returnType := (Option.some FieldType.int) } : ClassFile.MethodDescriptor), captured := [(FieldType.object "EditsMeet"), FieldType.int, FieldType.int, FieldType.int], kind := 5, implClass := "EditsMeet", implName := "lambda$judge$25", implDesc := ({ parameters := [FieldType.int, FieldType.int, FieldType.int], returnType := (Option.some FieldType.int) } : ClassFile.MethodDescriptor), implItf := false, inst := ({ parameters := [], returnType := (Option.some FieldType.int) } : ClassFile.MethodDescriptor) } : Lambda.Shape)),
  (⟨"EditsMeet", "status", "(I)I"⟩, 83, 452, ({ iface := "EditsMeet$Tally", name := "of", sam := ({ parameters := [FieldType.int], returnType := (Option.some FieldType.int) } : ClassFile.MethodDescriptor), captured := [(FieldType.object "EditsMeet")], kind := 5, implClass := "EditsMeet", implName := "lambda$status$26", implDesc := ({ parameters := [FieldType.int], returnType := (Option.some FieldType.int) } : ClassFile.MethodDescriptor), implItf := false, inst := ({ parameters := [FieldType.int], returnType := (Option.some FieldType.int) } : ClassFile.MethodDescriptor) } : Lambda.Shape)),
  (⟨"EditsMeet", "status", "(I)I"⟩, 97, 458, ({ iface := "EditsMeet$Tally", name := "of", sam := ({ parameters := [FieldType.int], returnType := (Option.some FieldType.int) } : ClassFile.MethodDescriptor), captured := [(FieldType.object "EditsMeet")], kind := 5, implClass := "EditsMeet", implName := "lambda$status$27", implDesc := ({ parameters := [FieldType.int], returnType := (Option.some FieldType.int) } : ClassFile.MethodDescriptor), implItf := false, inst := ({ parameters := [FieldType.int], returnType := (Option.some FieldType.int) } : ClassFile.MethodDescriptor) } : Lambda.Shape)),
  (⟨"EditsMeet", "status", "(I)I"⟩, 110, 459, ({ iface := "EditsMeet$Tally", name := "of", sam := ({ parameters := [FieldType.int], returnType := (Option.some FieldType.int) } : ClassFile.MethodDescriptor), captured := [(FieldType.object "EditsMeet")], kind := 5, implClass := "EditsMeet", implName := "lambda$status$28", implDesc := ({ parameters := [FieldType.int], returnType := (Option.some FieldType.int) } : ClassFile.MethodDescriptor), implItf := false, inst := ({ parameters := [FieldType.int], returnType := (Option.some FieldType.int) } : ClassFile.MethodDescriptor) } : Lambda.Shape)),
  (⟨"EditsMeet", "status", "(I)I"⟩, 123, 460, ({ iface := "EditsMeet$Tally", name := "of", sam := ({ parameters := [FieldType.int], returnType := (Option.some FieldType.int) } : ClassFile.MethodDescriptor), captured := [(FieldType.object "EditsMeet")], kind := 5, implClass := "EditsMeet", implName := "lambda$status$29", implDesc := ({ parameters := [FieldType.int], returnType := (Option.some FieldType.int) } : ClassFile.MethodDescriptor), implItf := false, inst := ({ parameters := [FieldType.int], returnType := (Option.some FieldType.int) } : ClassFile.MethodDescriptor) } : Lambda.Shape)),
  (⟨"EditsMeet", "status", "(I)I"⟩, 154, 461, ({ iface := "EditsMeet$Tally", name := "of", sam := ({ parameters := [FieldType.int], returnType := (Option.some FieldType.int) } : ClassFile.MethodDescriptor), captured := [(FieldType.object "EditsMeet")], kind := 5, implClass := "EditsMeet", implName := "lambda$status$30", implDesc := ({ parameters := [FieldType.int], returnType := (Option.some FieldType.int) } : ClassFile.MethodDescriptor), implItf := false, inst := ({ parameters := [FieldType.int], returnType := (Option.some FieldType.int) } : ClassFile.MethodDescriptor) } : Lambda.Shape))]
def bcap : List (List Nat) := blam.map fun q => q.2.2.2.captured.map fun ty => match ty with
  | .object _ => 2
  | _ => 0
def bdecl : List MethodName := [⟨"EditsMeet$Asked", "told", "()I"⟩, ⟨"EditsMeet$Counted", "of", "(LEditsMeet$Part;)I"⟩, ⟨"EditsMeet$Over", "again", "(I)LEditsMeet$Part;"⟩, ⟨"EditsMeet$Over", "n", "()I"⟩, ⟨"EditsMeet$Part", "deletes", "()Z"⟩, ⟨"EditsMeet$Part", "gives", "()I"⟩, ⟨"EditsMeet$Part", "inserts", "()Z"⟩, ⟨"EditsMeet$Part", "joined", "(LEditsMeet$Part;)LEditsMeet$Part;"⟩, ⟨"EditsMeet$Part", "kind", "()I"⟩, ⟨"EditsMeet$Part", "marks", "(I)I"⟩, ⟨"EditsMeet$Part", "n", "()I"⟩, ⟨"EditsMeet$Part", "off", "()I"⟩, ⟨"EditsMeet$Part", "on", "()I"⟩, ⟨"EditsMeet$Part", "piece", "(II)LEditsMeet$Part;"⟩, ⟨"EditsMeet$Part", "spells", "(Ljava/lang/StringBuilder;)V"⟩, ⟨"EditsMeet$Part", "takes", "()I"⟩, ⟨"EditsMeet$Tally", "of", "(I)I"⟩, ⟨"java/lang/CharSequence", "charAt", "(I)C"⟩, ⟨"java/lang/CharSequence", "length", "()I"⟩, ⟨"java/lang/CharSequence", "toString", "()Ljava/lang/String;"⟩, ⟨"java/lang/Exception", "<init>", "()V"⟩, ⟨"java/lang/Exception", "<init>", "(Ljava/lang/String;)V"⟩, ⟨"java/lang/IndexOutOfBoundsException", "<init>", "()V"⟩, ⟨"java/lang/IndexOutOfBoundsException", "<init>", "(Ljava/lang/String;)V"⟩, ⟨"java/lang/Object", "getClass", "()Ljava/lang/Class;"⟩, ⟨"java/lang/RuntimeException", "<init>", "()V"⟩, ⟨"java/lang/RuntimeException", "<init>", "(Ljava/lang/String;)V"⟩, ⟨"java/lang/Throwable", "<init>", "()V"⟩, ⟨"java/lang/Throwable", "<init>", "(Ljava/lang/String;)V"⟩, ⟨"java/lang/Throwable", "fillInStackTrace", "()Ljava/lang/Throwable;"⟩, ⟨"java/lang/Throwable", "getMessage", "()Ljava/lang/String;"⟩, ⟨"java/util/AbstractCollection", "isEmpty", "()Z"⟩, ⟨"java/util/AbstractCollection", "size", "()I"⟩, ⟨"java/util/AbstractList", "get", "(I)Ljava/lang/Object;"⟩, ⟨"java/util/AbstractList", "listIterator", "()Ljava/util/ListIterator;"⟩, ⟨"java/util/AbstractList", "listIterator", "(I)Ljava/util/ListIterator;"⟩, ⟨"java/util/AbstractSequentialList", "iterator", "()Ljava/util/Iterator;"⟩, ⟨"java/util/Collection", "toArray", "()[Ljava/lang/Object;"⟩, ⟨"java/util/Iterator", "hasNext", "()Z"⟩, ⟨"java/util/Iterator", "next", "()Ljava/lang/Object;"⟩, ⟨"jdk/internal/access/JavaLangAccess", "getUTF16Char", "([BI)C"⟩]
def bifm : List MethodName := [⟨"EditsMeet$Asked", "told", "()I"⟩, ⟨"EditsMeet$Tally", "of", "(I)I"⟩, ⟨"EditsMeet$Counted", "of", "(LEditsMeet$Part;)I"⟩]
theorem bifm_ok : ∀ x ∈ bifm, x ∈ bdecl ∧ x.cls ≠ "java/lang/invoke/MethodHandle" ∧ x.cls ≠ "java/lang/invoke/VarHandle" := by decide +kernel
theorem bdw_ok : ∀ w ∈ defaultWords_1, goodWord w = true ∧ w.onTables = true := by decide +kernel
theorem bdfF_ok : ∀ q ∈ bdfF, q.2.1.cls ≠ "java/lang/invoke/MethodHandle" ∧ q.2.1.cls ≠ "java/lang/invoke/VarHandle" := by decide +kernel
def va_FD (C : String) (x y : MethodName) (U : State) : Prop := va_Nw (.declares x) U ∧ va_Nw (.interfaceMethod x.cls x.cls x.name x.desc) U ∧ va_Nw (.publicMethod y) U ∧ va_Nw (.landsInDefault C x y) U ∧ va_Nw (.castable C x.cls) U
def va_VD (C owner : String) (x y : MethodName) (U : State) : Prop := va_Nw (.declares ⟨owner, x.name, x.desc⟩) U ∧ va_Nw (.landsInDefault C x y) U
theorem va_tr {u U : State} {c : Cond} (hc : c.onTables = true) (h : c.before #[] (u.setVm U.vm) = true) : c.before #[] U = true := by
  have e := Cond.onTables_vm (A := #[]) (A' := #[]) (U := u) (U' := U) U.vm c hc
  have hU : U.setVm U.vm = U := rfl
  rw [hU] at e
  rw [← e]
  exact h
theorem va_land {C : String} {x y : MethodName} {u U : State} (hvm : u.vm.Alike U.vm) (h : va_Nw (.landsInDefault C x y) u) : va_Nw (.landsInDefault C x y) U := by
  have h1 : (Cond.landsInDefault C x y).before #[] (u.setVm U.vm) = true := (Cond.landsInDefault_setVm hvm (State.methodFound?_setVm hvm _ _ _)).trans h
  have h2 : (Cond.landsInDefault C x y).before #[] U = (Cond.landsInDefault C x y).before #[] (u.setVm U.vm) := by
    simp only [Cond.before, Cond.holds, Cond.value, State.methodFound?, State.methodNamed?, State.vm_setVm]
  show (Cond.landsInDefault C x y).before #[] U = true
  rw [h2]
  exact h1
theorem va_FD.moved {C : String} {x y : MethodName} (hx : x.cls ≠ "java/lang/invoke/MethodHandle" ∧ x.cls ≠ "java/lang/invoke/VarHandle") {u U : State} (hvm : u.vm.Alike U.vm) (h : va_FD C x y u) : va_FD C x y U := by
  obtain ⟨h1, h2, h3, h4, h5⟩ := h
  obtain ⟨r, meth, hn, -⟩ := Cond.declares_spec h1
  exact ⟨va_tr rfl (by rw [Cond.declares_setVm hvm]; exact h1), va_tr rfl (by rw [Cond.interfaceMethod_setVm hvm (r := r) hn hx]; exact h2), va_tr rfl (by rw [Cond.publicMethod_setVm hvm]; exact h3), va_land hvm h4, va_tr rfl (by rw [Cond.castable_setVm hvm]; exact h5)⟩
theorem va_landA {C : String} {x y : MethodName} {U : State} {A : Array Value} (h : va_Nw (.landsInDefault C x y) U) : (Cond.landsInDefault C x y).before A U = true := by
  have h2 : (Cond.landsInDefault C x y).before A U = (Cond.landsInDefault C x y).before #[] U := by
    simp only [Cond.before, Cond.holds, Cond.value]
  rw [h2]
  exact h
theorem va_VD.moved {C owner : String} {x y : MethodName} {u U : State} (hvm : u.vm.Alike U.vm) (h : va_VD C owner x y u) : va_VD C owner x y U :=
  ⟨va_tr rfl (by rw [Cond.declares_setVm hvm]; exact h.1), va_land hvm h.2⟩
/-- the site k of a lambda -/
def bLm (Γ : bG) (U : State) (k : Nat) (q : MethodName × Nat × Nat × Lambda.Shape) : Prop :=
  ∃ (m : MethodId) (K : Class) (cf : ClassFile) (i0 p0 : Nat) (lk : Linked), U.methodNamed? q.1 = some m ∧ U.vm.classes[m.cls]? = some K ∧ K.cf = some cf ∧ Lambda.shapeOf? cf q.2.2.1 = some q.2.2.2 ∧ (K.callSites.find? fun y => y.1 == m.idx && y.2.1 == q.2.1) = some (i0, p0, lk) ∧
    Lambda.isMade { classPath := fun _ => none } U.vm m.cls q.2.2.2 (Γ.2.2.2.1 (100 + k)) = true ∧ U.lambdaCallable q.2.2.2 (Γ.2.2.2.1 (100 + k)) = true ∧
    ((q.2.2.2.captured = [] ∧ 0 ≤ Γ.2.2.2.2 (100 + k) ∧ lk = .constant (Γ.2.2.2.2 (100 + k)).toNat) ∨ (q.2.2.2.captured ≠ [] ∧ lk = .makes (Γ.2.2.2.1 (100 + k))))
theorem bLm.moved {Γ : bG} {u U : State} {k : Nat} {q : MethodName × Nat × Nat × Lambda.Shape} (hW : u.WarmedH U.vm) (h : bLm Γ u k q) : bLm Γ U k q := by
  obtain ⟨m, kc, cf, i0, p0, l, hm, hk, hcf, hsh, hfind, hmade, hcall, hl⟩ := h
  have hcall' : U.lambdaCallable q.2.2.2 (Γ.2.2.2.1 (100 + k)) = true := by
    have hA := hW.alike
    simp only [State.lambdaCallable, hA.findClass, hA.assignable, hA.superclasses, hA.declaredIn] at hcall ⊢
    exact hcall
  obtain ⟨kc', hk', he⟩ := hW.alike.2.2 _ _ hk
  have hm' : U.methodNamed? q.1 = some m := by
    have := State.methodNamed?_setVm (s := u) hW.alike q.1
    rw [hm] at this
    exact this
  exact ⟨m, kc', cf, i0, p0, l, hm', hk', by rw [he]; exact hcf, hsh, by rw [he]; exact hfind, Lambda.isMade_warmer hW hmade, hcall', hl⟩
theorem bLm.same {Γ : bG} {u U : State} {k : Nat} {q : MethodName × Nat × Nat × Lambda.Shape} (hvm : u.vm = U.vm) (h : bLm Γ u k q) : bLm Γ U k q := by
  obtain ⟨m, kc, cf, i0, p0, l, hm, hk, hcf, hsh, hfind, hmade, hcall, hl⟩ := h
  refine ⟨m, kc, cf, i0, p0, l, ?_, by rw [← hvm]; exact hk, hcf, hsh, hfind, by rw [← hvm]; exact hmade, ?_, hl⟩
  · unfold State.methodNamed? at hm ⊢
    rw [← hvm]
    exact hm
  · unfold State.lambdaCallable at hcall ⊢
    rw [← hvm]
    exact hcall
def bvx : List (String × List String) := [("java/lang/NegativeArraySizeException", ["java/lang/RuntimeException", "java/lang/Exception"]), ("java/lang/ArrayIndexOutOfBoundsException", ["java/lang/IndexOutOfBoundsException", "java/lang/RuntimeException", "java/lang/Exception"]), ("java/lang/NullPointerException", ["java/lang/RuntimeException", "java/lang/Exception"]), ("java/lang/ArrayStoreException", ["java/lang/RuntimeException", "java/lang/Exception"]), ("java/lang/ClassCastException", ["java/lang/RuntimeException", "java/lang/Exception"])]
def bkindw (w : Cond) : Bool := match w with
  | .castable _ _ => true
  | .declares _ => true
  | _ => false
theorem bkw_moved {w : Cond} (hk : bkindw w = true) {u U : State} (hW : u.WarmedH U.vm) (h : va_Nw w u) : va_Nw w U := by
  unfold bkindw at hk
  split at hk
  · exact va_Nw.warmC hW h
  · exact va_Nw.warmD hW h
  · cases hk
theorem bkw_same {w : Cond} (hk : bkindw w = true) {u U : State} (hvm : u.vm = U.vm) (h : va_Nw w u) : va_Nw w U := by
  unfold bkindw at hk
  split at hk
  · exact va_Nw.same rfl hvm h
  · exact va_Nw.same rfl hvm h
  · cases hk
theorem bvx_ok : ∀ q ∈ bvx, ∀ w ∈ vx_atM q.1 q.2, goodWord w = false → bkindw w = true := by decide +kernel
def bvW (U : State) : Prop := ∀ q ∈ bvx, ∀ w ∈ vx_atM q.1 q.2, goodWord w = false → va_Nw w U
def bat (Γ : bG) (s : bS) (a : Nat) (H : Heap) (t : Nat) : Prop :=
  if t < 1000 then (500 ≤ t → H[a]? = some ({ cls := Γ.2.2.2.1 (t - 400), vm := .none, slots := ((bcap.getD (t - 500) []).zipIdx.map fun q => bd (q.1, s.1 (2400 + 4 * q.2 + q.1) a 0)).toArray } : Cell)) ∧ (t < 500 → ∃ r : vw_C, bcls[t - 1]? = some r ∧ t_OB a (Γ.1.1 (t - 1)) r.2.2 (Γ.1.2 (t - 1)) H (fun k => bval (bfr (t - 1) k) (s.1 (bfr (t - 1) k) a 0)))
  else H[a]? = some (arrV (Γ.2.2.2.1 (t - 1000)) (s.1 4 a 0).toNat (fun j => bval (ber t) (s.1 (ber t) a j))) ∧ 0 ≤ s.1 4 a 0 ∧ s.1 4 a 0 < 2147483648 ∧ ∀ (j : Nat) (ty : FieldType), (j : Int) < s.1 4 a 0 → btys[t - 1000]? = some ty → fits ty (bval (ber t) (s.1 (ber t) a j)) = true
def bRep (Γ : bG) (s : bS) (H : Heap) : Prop :=
  H.size = bnx s ∧ Γ.2.1 ≤ H.size ∧ (∀ q : Nat, q < Γ.2.1 → H[q]? = Γ.2.2.1[q]?) ∧ (∀ a : Int, s.1 0 a 0 ≠ 0 → 0 ≤ a ∧ a < (bnx s : Int) ∧ ((Γ.2.1 : Int) ≤ a ∨ s.1 0 a 0 = 20 ∨ s.1 0 a 0 = 1000 ∨ s.1 0 a 0 = 1006 ∨ s.1 0 a 0 = 1011 ∨ (500 ≤ s.1 0 a 0 ∧ s.1 0 a 0 < 600))) ∧ (s.1 1 (-1) 0 = (Γ.2.1 : Int) ∧ ∀ j : Nat, s.1 1 (-(2 + (j : Int))) 0 = Γ.2.2.2.2 j) ∧ ∀ (a t : Nat), s.1 0 (a : Int) 0 = (t : Int) → t ≠ 0 → bat Γ s a H t
def bface : List (String × MethodName × MethodName) := [("java/lang/StringBuilder", ⟨"java/lang/CharSequence", "toString", "()Ljava/lang/String;"⟩, ⟨"java/lang/StringBuilder", "toString", "()Ljava/lang/String;"⟩), ("java/lang/StringBuilder", ⟨"java/lang/CharSequence", "length", "()I"⟩, ⟨"java/lang/StringBuilder", "length", "()I"⟩), ("java/lang/StringBuilder", ⟨"java/lang/CharSequence", "charAt", "(I)C"⟩, ⟨"java/lang/StringBuilder", "charAt", "(I)C"⟩), ("java/util/ArrayList", ⟨"java/util/Collection", "toArray", "()[Ljava/lang/Object;"⟩, ⟨"java/util/ArrayList", "toArray", "()[Ljava/lang/Object;"⟩), ("java/util/LinkedList", ⟨"java/util/Collection", "toArray", "()[Ljava/lang/Object;"⟩, ⟨"java/util/LinkedList", "toArray", "()[Ljava/lang/Object;"⟩), ("java/lang/String", ⟨"java/lang/CharSequence", "toString", "()Ljava/lang/String;"⟩, ⟨"java/lang/String", "toString", "()Ljava/lang/String;"⟩), ("java/lang/String", ⟨"java/lang/CharSequence", "length", "()I"⟩, ⟨"java/lang/String", "length", "()I"⟩), ("java/lang/String", ⟨"java/lang/CharSequence", "charAt", "(I)C"⟩, ⟨"java/lang/String", "charAt", "(I)C"⟩), ("java/util/LinkedList$DescendingIterator", ⟨"java/util/Iterator", "hasNext", "()Z"⟩, ⟨"java/util/LinkedList$DescendingIterator", "hasNext", "()Z"⟩), ("java/util/LinkedList$DescendingIterator", ⟨"java/util/Iterator", "next", "()Ljava/lang/Object;"⟩, ⟨"java/util/LinkedList$DescendingIterator", "next", "()Ljava/lang/Object;"⟩), ("java/util/LinkedList$ListItr", ⟨"java/util/Iterator", "hasNext", "()Z"⟩, ⟨"java/util/LinkedList$ListItr", "hasNext", "()Z"⟩), ("java/util/LinkedList$ListItr", ⟨"java/util/Iterator", "next", "()Ljava/lang/Object;"⟩, ⟨"java/util/LinkedList$ListItr", "next", "()Ljava/lang/Object;"⟩), ("EditsMeet$Delete", ⟨"EditsMeet$Part", "kind", "()I"⟩, ⟨"EditsMeet$Delete", "kind", "()I"⟩), ("EditsMeet$Delete", ⟨"EditsMeet$Part", "n", "()I"⟩, ⟨"EditsMeet$Over", "n", "()I"⟩), ("EditsMeet$Delete", ⟨"EditsMeet$Part", "gives", "()I"⟩, ⟨"EditsMeet$Delete", "gives", "()I"⟩), ("EditsMeet$Delete", ⟨"EditsMeet$Part", "joined", "(LEditsMeet$Part;)LEditsMeet$Part;"⟩, ⟨"EditsMeet$Over", "joined", "(LEditsMeet$Part;)LEditsMeet$Part;"⟩), ("EditsMeet$Delete", ⟨"EditsMeet$Part", "takes", "()I"⟩, ⟨"EditsMeet$Over", "takes", "()I"⟩), ("EditsMeet$Delete", ⟨"EditsMeet$Part", "piece", "(II)LEditsMeet$Part;"⟩, ⟨"EditsMeet$Over", "piece", "(II)LEditsMeet$Part;"⟩), ("EditsMeet$Delete", ⟨"EditsMeet$Part", "spells", "(Ljava/lang/StringBuilder;)V"⟩, ⟨"EditsMeet$Delete", "spells", "(Ljava/lang/StringBuilder;)V"⟩), ("EditsMeet$Insert", ⟨"EditsMeet$Part", "kind", "()I"⟩, ⟨"EditsMeet$Insert", "kind", "()I"⟩), ("EditsMeet$Insert", ⟨"EditsMeet$Part", "n", "()I"⟩, ⟨"EditsMeet$Insert", "n", "()I"⟩), ("EditsMeet$Insert", ⟨"EditsMeet$Part", "joined", "(LEditsMeet$Part;)LEditsMeet$Part;"⟩, ⟨"EditsMeet$Insert", "joined", "(LEditsMeet$Part;)LEditsMeet$Part;"⟩), ("EditsMeet$Insert", ⟨"EditsMeet$Part", "piece", "(II)LEditsMeet$Part;"⟩, ⟨"EditsMeet$Insert", "piece", "(II)LEditsMeet$Part;"⟩), ("EditsMeet$Insert", ⟨"EditsMeet$Part", "spells", "(Ljava/lang/StringBuilder;)V"⟩, ⟨"EditsMeet$Insert", "spells", "(Ljava/lang/StringBuilder;)V"⟩), ("EditsMeet$Mark", ⟨"EditsMeet$Part", "kind", "()I"⟩, ⟨"EditsMeet$Mark", "kind", "()I"⟩), ("EditsMeet$Mark", ⟨"EditsMeet$Part", "n", "()I"⟩, ⟨"EditsMeet$Over", "n", "()I"⟩), ("EditsMeet$Mark", ⟨"EditsMeet$Part", "on", "()I"⟩, ⟨"EditsMeet$Mark", "on", "()I"⟩), ("EditsMeet$Mark", ⟨"EditsMeet$Part", "off", "()I"⟩, ⟨"EditsMeet$Mark", "off", "()I"⟩), ("EditsMeet$Mark", ⟨"EditsMeet$Part", "joined", "(LEditsMeet$Part;)LEditsMeet$Part;"⟩, ⟨"EditsMeet$Over", "joined", "(LEditsMeet$Part;)LEditsMeet$Part;"⟩), ("EditsMeet$Mark", ⟨"EditsMeet$Part", "takes", "()I"⟩, ⟨"EditsMeet$Over", "takes", "()I"⟩), ("EditsMeet$Mark", ⟨"EditsMeet$Part", "piece", "(II)LEditsMeet$Part;"⟩, ⟨"EditsMeet$Over", "piece", "(II)LEditsMeet$Part;"⟩), ("EditsMeet$Mark", ⟨"EditsMeet$Part", "spells", "(Ljava/lang/StringBuilder;)V"⟩, ⟨"EditsMeet$Mark", "spells", "(Ljava/lang/StringBuilder;)V"⟩), ("EditsMeet$Goes", ⟨"java/util/Iterator", "hasNext", "()Z"⟩, ⟨"EditsMeet$Goes", "hasNext", "()Z"⟩), ("EditsMeet$Goes", ⟨"java/util/Iterator", "next", "()Ljava/lang/Object;"⟩, ⟨"EditsMeet$Goes", "next", "()Ljava/lang/Object;"⟩), ("EditsMeet$Keep", ⟨"EditsMeet$Part", "kind", "()I"⟩, ⟨"EditsMeet$Keep", "kind", "()I"⟩), ("EditsMeet$Keep", ⟨"EditsMeet$Part", "n", "()I"⟩, ⟨"EditsMeet$Over", "n", "()I"⟩), ("EditsMeet$Keep", ⟨"EditsMeet$Part", "joined", "(LEditsMeet$Part;)LEditsMeet$Part;"⟩, ⟨"EditsMeet$Over", "joined", "(LEditsMeet$Part;)LEditsMeet$Part;"⟩), ("EditsMeet$Keep", ⟨"EditsMeet$Part", "takes", "()I"⟩, ⟨"EditsMeet$Over", "takes", "()I"⟩), ("EditsMeet$Keep", ⟨"EditsMeet$Part", "piece", "(II)LEditsMeet$Part;"⟩, ⟨"EditsMeet$Over", "piece", "(II)LEditsMeet$Part;"⟩), ("EditsMeet$Keep", ⟨"EditsMeet$Part", "spells", "(Ljava/lang/StringBuilder;)V"⟩, ⟨"EditsMeet$Keep", "spells", "(Ljava/lang/StringBuilder;)V"⟩)]
def bncast : List (String × String) := [("EditsMeet$Insert", "EditsMeet$Over"), ("EditsMeet$Keep", "EditsMeet$Insert"), ("EditsMeet$Delete", "EditsMeet$Insert"), ("EditsMeet$Mark", "EditsMeet$Insert"), ("EditsMeet$Keep", "EditsMeet$Mark"), ("EditsMeet$Delete", "EditsMeet$Mark"), ("EditsMeet$Insert", "EditsMeet$Mark"), ("EditsMeet$Delete", "EditsMeet$Keep"), ("EditsMeet$Insert", "EditsMeet$Keep"), ("EditsMeet$Keep", "EditsMeet$Delete"), ("EditsMeet$Insert", "EditsMeet$Delete"), ("EditsMeet$Mark", "EditsMeet$Delete"), ("[B", "EditsMeet$Part"), ("[Ljava/lang/Object;", "EditsMeet$Part"), ("[I", "EditsMeet$Part"), ("[S", "EditsMeet$Part"), ("[J", "EditsMeet$Part"), ("[Z", "EditsMeet$Part"), ("[C", "EditsMeet$Part"), ("EditsMeet$Keep", "[B"), ("EditsMeet$Delete", "[B"), ("EditsMeet$Insert", "[B"), ("EditsMeet$Mark", "[B"), ("[Ljava/lang/Object;", "[B"), ("[I", "[B"), ("[S", "[B"), ("[J", "[B"), ("[Z", "[B"), ("[C", "[B"), ("EditsMeet$Keep", "[S"), ("EditsMeet$Delete", "[S"), ("EditsMeet$Insert", "[S"), ("EditsMeet$Mark", "[S"), ("[B", "[S"), ("[Ljava/lang/Object;", "[S"), ("[I", "[S"), ("[J", "[S"), ("[Z", "[S"), ("[C", "[S"), ("EditsMeet$Keep", "[I"), ("EditsMeet$Delete", "[I"), ("EditsMeet$Insert", "[I"), ("EditsMeet$Mark", "[I"), ("[B", "[I"), ("[Ljava/lang/Object;", "[I"), ("[S", "[I"), ("[J", "[I"), ("[Z", "[I"), ("[C", "[I"), ("EditsMeet$Keep", "[J"), ("EditsMeet$Delete", "[J"), ("EditsMeet$Insert", "[J"), ("EditsMeet$Mark", "[J"), ("[B", "[J"), ("[Ljava/lang/Object;", "[J"), ("[I", "[J"), ("[S", "[J"), ("[Z", "[J"), ("[C", "[J"), ("EditsMeet$Keep", "[Z"), ("EditsMeet$Delete", "[Z"), ("EditsMeet$Insert", "[Z"), ("EditsMeet$Mark", "[Z"), ("[B", "[Z"), ("[Ljava/lang/Object;", "[Z"), ("[I", "[Z"), ("[S", "[Z"), ("[J", "[Z"), ("[C", "[Z"), ("[B", "EditsMeet$Insert"), ("[Ljava/lang/Object;", "EditsMeet$Insert"), ("[I", "EditsMeet$Insert"), ("[S", "EditsMeet$Insert"), ("[J", "EditsMeet$Insert"), ("[Z", "EditsMeet$Insert"), ("[C", "EditsMeet$Insert"), ("[B", "EditsMeet$Over"), ("[Ljava/lang/Object;", "EditsMeet$Over"), ("[I", "EditsMeet$Over"), ("[S", "EditsMeet$Over"), ("[J", "EditsMeet$Over"), ("[Z", "EditsMeet$Over"), ("[C", "EditsMeet$Over"), ("[B", "EditsMeet$Keep"), ("[Ljava/lang/Object;", "EditsMeet$Keep"), ("[I", "EditsMeet$Keep"), ("[S", "EditsMeet$Keep"), ("[J", "EditsMeet$Keep"), ("[Z", "EditsMeet$Keep"), ("[C", "EditsMeet$Keep"), ("[B", "EditsMeet$Delete"), ("[Ljava/lang/Object;", "EditsMeet$Delete"), ("[I", "EditsMeet$Delete"), ("[S", "EditsMeet$Delete"), ("[J", "EditsMeet$Delete"), ("[Z", "EditsMeet$Delete"), ("[C", "EditsMeet$Delete"), ("[B", "EditsMeet$Mark"), ("[Ljava/lang/Object;", "EditsMeet$Mark"), ("[I", "EditsMeet$Mark"), ("[S", "EditsMeet$Mark"), ("[J", "EditsMeet$Mark"), ("[Z", "EditsMeet$Mark"), ("[C", "EditsMeet$Mark")]
def bnestf : List (String × Nat × String × String × String × String) := [("java/util/ArrayList$Itr", 28, "java/util/ArrayList", "size", "I", "java/util/ArrayList"), ("EditsMeet", 381, "EditsMeet$Client", "isSent", "Z", "EditsMeet"), ("EditsMeet", 506, "EditsMeet$World", "weaver", "LEditsMeet$Weaver;", "EditsMeet"), ("EditsMeet", 231, "EditsMeet$Insert", "letters", "Ljava/lang/String;", "EditsMeet"), ("EditsMeet", 241, "EditsMeet$Insert", "marks", "Ljava/lang/String;", "EditsMeet"), ("EditsMeet$Reader", 22, "EditsMeet", "tape", "[I", "EditsMeet"), ("EditsMeet$Reader", 17, "EditsMeet", "size", "I", "EditsMeet"), ("EditsMeet$Text", 53, "EditsMeet$Insert", "letters", "Ljava/lang/String;", "EditsMeet"), ("EditsMeet$Text", 60, "EditsMeet$Insert", "marks", "Ljava/lang/String;", "EditsMeet")]
def baover : List String := ["java/lang/Object", "EditsMeet$Client", "EditsMeet$Edit", "EditsMeet$Sheet"]
def bsref : List (String × String × String × Nat) := [("jdk/internal/util/Preconditions", "SIOOBE_FORMATTER", "Ljava/util/function/BiFunction;", 0), ("jdk/internal/util/Preconditions", "IOOBE_FORMATTER", "Ljava/util/function/BiFunction;", 1), ("java/lang/Integer", "DigitOnes", "[B", 2), ("java/lang/Integer", "DigitTens", "[B", 3), ("java/lang/Throwable", "UNASSIGNED_STACK", "[Ljava/lang/StackTraceElement;", 4), ("java/lang/Throwable", "SUPPRESSED_SENTINEL", "Ljava/util/List;", 5), ("java/util/ArrayList", "DEFAULTCAPACITY_EMPTY_ELEMENTDATA", "[Ljava/lang/Object;", 6), ("java/util/ArrayList", "EMPTY_ELEMENTDATA", "[Ljava/lang/Object;", 7), ("jdk/internal/util/ArraysSupport", "JLA", "Ljdk/internal/access/JavaLangAccess;", 8)]
def bsint : List (String × String × String × Int) := [("java/lang/String", "COMPACT_STRINGS", "Z", 1), ("java/lang/StringUTF16", "$assertionsDisabled", "Z", 1), ("java/lang/StringUTF16", "HI_BYTE_SHIFT", "I", 0), ("java/lang/StringUTF16", "LO_BYTE_SHIFT", "I", 8)]
def bstr : List (String × Nat × String × Nat) := [("EditsMeet", 280, "", 10), ("EditsMeet$Reader", 61, "", 11), ("EditsMeet$Reader", 72, "=", 12), ("EditsMeet$Reader", 78, "-", 13), ("EditsMeet$Reader", 80, "+", 14), ("EditsMeet$Reader", 82, "^", 15), ("EditsMeet$Reader", 84, "_", 16), ("java/lang/StringLatin1", 151, "", 17)]
def bsel : List (String × MethodName) := [("java/lang/StringBuilder", ⟨"java/lang/AbstractStringBuilder", "appendNull", "()Ljava/lang/AbstractStringBuilder;"⟩), ("java/lang/StringBuilder", ⟨"java/lang/AbstractStringBuilder", "ensureCapacityInternal", "(I)V"⟩), ("java/lang/StringBuilder", ⟨"java/lang/AbstractStringBuilder", "newCapacity", "(I)I"⟩), ("java/lang/StringBuilder", ⟨"java/lang/AbstractStringBuilder", "putStringAt", "(ILjava/lang/String;)V"⟩), ("java/lang/StringBuilder", ⟨"java/lang/AbstractStringBuilder", "inflateIfNeededFor", "(Ljava/lang/String;)V"⟩), ("java/lang/StringBuilder", ⟨"java/lang/AbstractStringBuilder", "inflate", "()V"⟩), ("java/lang/StringBuilder", ⟨"java/lang/AbstractStringBuilder", "shift", "(II)V"⟩), ("java/lang/StringBuilder", ⟨"java/lang/AbstractStringBuilder", "inflateIfNeededFor", "(Ljava/lang/AbstractStringBuilder;)V"⟩), ("java/lang/StringBuilder", ⟨"java/lang/AbstractStringBuilder", "appendChars", "(Ljava/lang/String;II)V"⟩), ("java/lang/StringBuilder", ⟨"java/lang/AbstractStringBuilder", "appendChars", "(Ljava/lang/CharSequence;II)V"⟩)]
def bmir : List (String × Nat) := [("[Ljava/lang/Object;", 20)]
def bnest : List (String × Nat × MethodName × String) := [("java/util/LinkedList", 157, ⟨"java/util/LinkedList$DescendingIterator", "<init>", "(Ljava/util/LinkedList;)V"⟩, "java/util/LinkedList"), ("EditsMeet", 44, ⟨"EditsMeet$Sheet", "<init>", "()V"⟩, "EditsMeet"), ("EditsMeet", 206, ⟨"EditsMeet$Reader", "<init>", "(LEditsMeet;)V"⟩, "EditsMeet"), ("EditsMeet", 498, ⟨"EditsMeet$Edit", "<init>", "()V"⟩, "EditsMeet"), ("EditsMeet$World", 19, ⟨"EditsMeet$Text", "<init>", "()V"⟩, "EditsMeet"), ("EditsMeet$World", 33, ⟨"EditsMeet$Weaver", "<init>", "()V"⟩, "EditsMeet"), ("EditsMeet$Pile", 31, ⟨"EditsMeet$Edit", "<init>", "()V"⟩, "EditsMeet"), ("EditsMeet$Reader", 115, ⟨"EditsMeet$Edit", "<init>", "()V"⟩, "EditsMeet"), ("EditsMeet$Text", 118, ⟨"EditsMeet$Edit", "<init>", "()V"⟩, "EditsMeet"), ("EditsMeet$Text", 38, ⟨"EditsMeet", "isIn", "(III)Z"⟩, "EditsMeet"), ("EditsMeet$Weaver", 9, ⟨"EditsMeet$Goes", "<init>", "()V"⟩, "EditsMeet"), ("EditsMeet$Weaver", 31, ⟨"EditsMeet$Edit", "<init>", "()V"⟩, "EditsMeet"), ("EditsMeet$Keep", 31, ⟨"EditsMeet", "bits", "(I)I"⟩, "EditsMeet"), ("EditsMeet$Edit", 20, ⟨"EditsMeet$Goes", "<init>", "()V"⟩, "EditsMeet"), ("EditsMeet$Client", 9, ⟨"EditsMeet$Text", "<init>", "()V"⟩, "EditsMeet"), ("EditsMeet$Client", 22, ⟨"EditsMeet$Pile", "<init>", "()V"⟩, "EditsMeet"), ("EditsMeet$Client", 32, ⟨"EditsMeet$Edit", "<init>", "()V"⟩, "EditsMeet")]
theorem bface_ok : ∀ q ∈ bface, q.2.1.cls ≠ "java/lang/invoke/MethodHandle" ∧ q.2.1.cls ≠ "java/lang/invoke/VarHandle" := by decide +kernel
def bRI (Γ : bG) (U : State) : Prop := ∃ kA : Class, U.vm.classes[Γ.2.2.2.1 10]? = some kA ∧ kA.kind = .array (Γ.2.2.2.1 3) (.array .int)
theorem bRI.moved {Γ : bG} {u U : State} (hvm : u.vm.Alike U.vm) (h : bRI Γ u) : bRI Γ U := by
  obtain ⟨kA, h1, h2⟩ := h
  obtain ⟨k', hk', he⟩ := hvm.2.2 _ _ h1
  exact ⟨k', hk', by rw [he]; exact h2⟩
def va_AOI (U : State) : Prop := (Cond.arrayOver (.array .int)).before #[] U = true
theorem va_AOI.use {A : Array Value} {U : State} (h : va_AOI U) : (Cond.arrayOver (.array .int)).before A U = true := h
theorem va_AOI.spec {u : State} (h : va_AOI u) : ∃ comp c k, u.vm.findClass (FieldType.array .int).toString = some comp ∧ (u.vm.classes.findIdx? fun (x : Class) => match x.kind with | .array component _ => component == comp | _ => false) = some c ∧ u.vm.classes[c]? = some k ∧ k.kind = .array comp (.array .int) ∧ u.vm.findClass ("[" ++ (FieldType.array .int).toString) = some c := by
  unfold va_AOI Cond.before at h
  simp only [Cond.holds, Cond.value, beq_iff_eq] at h
  cases hc : u.vm.findClass (FieldType.array .int).toString with
  | none => simp [hc] at h
  | some comp =>
    simp only [hc, Option.bind_some, Option.bind_eq_some_iff, Option.map_eq_some_iff] at h
    obtain ⟨c, hi, k, hk, hb⟩ := h
    obtain ⟨hlt, hp, -⟩ := Array.findIdx?_eq_some_iff_getElem.mp hi
    have hkk : u.vm.classes[c] = k := (Array.getElem?_eq_some_iff.mp hk).2
    rw [hkk] at hp
    cases hkind : k.kind with
    | array component ty =>
      rw [hkind] at hb hp
      simp at hb hp
      exact ⟨comp, c, k, rfl, hi, hk, by rw [hkind, hp, hb.1], hb.2⟩
    | _ => rw [hkind] at hb; simp at hb
theorem va_AOI.moved {u U : State} (hvm : u.vm.Alike U.vm) (h : va_AOI u) : va_AOI U := by
  obtain ⟨comp, c, k, h1, h2, h3, h4, h5⟩ := h.spec
  obtain ⟨k', hk', he⟩ := hvm.2.2 _ _ h3
  have hi : (U.vm.classes.findIdx? fun (x : Class) => match x.kind with | .array component _ => component == comp | _ => false) = some c := by
    refine (va_idx_bare U.vm comp).symm.trans ?_
    have hb : U.vm.bare = u.vm.bare := by first | exact hvm.bare_eq | exact hvm.bare_eq.symm
    rw [hb]
    exact (va_idx_bare u.vm comp).trans h2
  have hkind : k'.kind = .array comp (.array .int) := by rw [he]; exact h4
  have f1 : U.vm.findClass (FieldType.array .int).toString = some comp := by rw [hvm.findClass]; exact h1
  have f2 : U.vm.findClass ("[" ++ (FieldType.array .int).toString) = some c := by rw [hvm.findClass]; exact h5
  unfold va_AOI Cond.before Cond.holds
  simp only [Cond.value]
  rw [f1, Option.bind_some]
  refine (congrArg (fun o : Option Nat => (o.bind (fun c => (U.vm.classes[c]?).map fun (k : Class) => match k.kind with | .array _ ty => decide (ty = FieldType.array .int) && decide (U.vm.findClass ("[" ++ (FieldType.array .int).toString) = some c) | _ => false) == some true)) hi).trans ?_
  simp [hk', hkind, f2]
def bXt (Γ : bG) (U : State) : Prop := bRI Γ U ∧  (∀ q ∈ bcast, va_Nw (.castable q.1 q.2) U) ∧ (∀ q ∈ bface, va_Fw q.1 q.2.1 q.2.2 U) ∧ (∀ q ∈ bnest, va_Nw (.methodLinkNest q.1 q.2.1 q.2.2.1 q.2.2.2) U) ∧ (∀ q ∈ bncast, va_Nc q.1 q.2 U) ∧ (∀ q ∈ bnestf, va_Nw (.fieldLinkNest q.1 q.2.1 q.2.2.1 q.2.2.2.1 q.2.2.2.2.1 q.2.2.2.2.2) U) ∧ va_AOI U ∧ (∀ C ∈ baover, va_AO C U) ∧ (∀ q ∈ bsref, va_Z q.1 q.2.1 q.2.2.1 (brv (Γ.2.2.2.2 q.2.2.2)) (fun z => Γ.2.1 ≤ z) U Γ.2.2.1) ∧ (∀ q ∈ bsint, va_Z q.1 q.2.1 q.2.2.1 (.int (i32 q.2.2.2)) (fun z => Γ.2.1 ≤ z) U Γ.2.2.1) ∧ (∀ q ∈ bstr, 0 ≤ Γ.2.2.2.2 q.2.2.2 ∧ vk_R q.1 q.2.1 q.2.2.1 (Γ.2.2.2.2 q.2.2.2).toNat U) ∧ va_Dc U ∧ (∀ q ∈ bmir, 0 ≤ Γ.2.2.2.2 q.2 ∧ va_Mi q.1 (Γ.2.2.2.2 q.2).toNat U) ∧ (∀ q ∈ bsel, va_Nw (.selects q.1 q.2 q.2) U) ∧ (∀ q ∈ bdfF, va_FD q.1 q.2.1 q.2.2 U) ∧ (∀ q ∈ bdfV, va_VD q.1 q.2.1 q.2.2.1 q.2.2.2 U) ∧ (∀ (k : Nat) (q : MethodName × Nat × Nat × Lambda.Shape), blam[k]? = some q → bLm Γ U k q) ∧ vx_Zq Bundle.tN "UNASSIGNED_STACK" Bundle.steD (fun z => Γ.2.1 ≤ z) U Γ.2.2.1 ∧ vx_Zq Bundle.tN "SUPPRESSED_SENTINEL" Bundle.listD (fun z => Γ.2.1 ≤ z) U Γ.2.2.1 ∧ bvW U ∧ (∀ x ∈ bdecl, va_Nw (.declares x) U) ∧ (∀ w ∈ defaultWords_1, va_Nw w U) ∧ (∀ x ∈ bifm, va_Nw (.interfaceMethod x.cls x.cls x.name x.desc) U) ∧ True
theorem bXt.moved {Γ : bG} {u U : State} (hW : u.WarmedH U.vm) (h : bXt Γ u) : bXt Γ U := ⟨h.1.moved hW.alike, fun q hq => va_Nw.warmC hW (h.2.1 q hq), fun q hq => va_Fw.moved (bface_ok q hq) hW.alike (h.2.2.1 q hq), fun q hq => va_Nw.warmM hW (h.2.2.2.1 q hq), fun q hq => va_Nc.moved hW.alike (h.2.2.2.2.1 q hq), fun q hq => va_Nw.warmF hW (h.2.2.2.2.2.1 q hq), va_AOI.moved hW.alike h.2.2.2.2.2.2.1, fun C hC => va_AO.moved hW.alike (h.2.2.2.2.2.2.2.1 C hC), fun q hq => va_Z.moved hW.alike (h.2.2.2.2.2.2.2.2.1 q hq), fun q hq => va_Z.moved hW.alike (h.2.2.2.2.2.2.2.2.2.1 q hq), fun q hq => ⟨(h.2.2.2.2.2.2.2.2.2.2.1 q hq).1, vk_R.warm hW (h.2.2.2.2.2.2.2.2.2.2.1 q hq).2⟩, va_Dc.moved hW.alike h.2.2.2.2.2.2.2.2.2.2.2.1, fun q hq => ⟨(h.2.2.2.2.2.2.2.2.2.2.2.2.1 q hq).1, va_Mi.moved hW.alike (h.2.2.2.2.2.2.2.2.2.2.2.2.1 q hq).2⟩, fun q hq => va_Nw.of rfl (word_at (args := #[]) (a' := #[]) hW (Or.inl (by first | rfl | simp [Cond.onTables, Cond.keeps, Cond.steady])) (va_Nw.use rfl (h.2.2.2.2.2.2.2.2.2.2.2.2.2.1 q hq))), fun q hq => va_FD.moved (bdfF_ok q hq) hW.alike (h.2.2.2.2.2.2.2.2.2.2.2.2.2.2.1 q hq), fun q hq => va_VD.moved hW.alike (h.2.2.2.2.2.2.2.2.2.2.2.2.2.2.2.1 q hq), fun k q hq => bLm.moved hW (h.2.2.2.2.2.2.2.2.2.2.2.2.2.2.2.2.1 k q hq), vx_Zq.moved hW.alike h.2.2.2.2.2.2.2.2.2.2.2.2.2.2.2.2.2.1, vx_Zq.moved hW.alike h.2.2.2.2.2.2.2.2.2.2.2.2.2.2.2.2.2.2.1, fun q hq w hw hg => bkw_moved (bvx_ok q hq w hw hg) hW (h.2.2.2.2.2.2.2.2.2.2.2.2.2.2.2.2.2.2.2.1 q hq w hw hg), fun x hx => va_Nw.warmD hW (h.2.2.2.2.2.2.2.2.2.2.2.2.2.2.2.2.2.2.2.2.1 x hx), fun w hw => word_at (args := #[]) (a' := #[]) hW (good_of_word (bdw_ok w hw).1) (h.2.2.2.2.2.2.2.2.2.2.2.2.2.2.2.2.2.2.2.2.2.1 w hw), fun x hx => by obtain ⟨r, meth, hn, -⟩ := Cond.declares_spec (h.2.2.2.2.2.2.2.2.2.2.2.2.2.2.2.2.2.2.2.2.1 x (bifm_ok x hx).1); exact va_tr (u := u) rfl (by rw [Cond.interfaceMethod_setVm hW.alike (r := r) hn (bifm_ok x hx).2]; exact h.2.2.2.2.2.2.2.2.2.2.2.2.2.2.2.2.2.2.2.2.2.2.1 x hx), trivial⟩
theorem bXt.calling {Γ : bG} {U : State} (g : JFrame) (mk : MethodId) (a : Array Value) (h : bXt Γ U) : bXt Γ (U.calling g mk a) := ⟨h.1.moved (u := U) (Vm.Alike.refl U.vm), fun q hq => va_Nw.same rfl rfl (h.2.1 q hq), fun q hq => va_Fw.moved (u := U) (bface_ok q hq) (Vm.Alike.refl U.vm) (h.2.2.1 q hq), fun q hq => va_Nw.same rfl rfl (h.2.2.2.1 q hq), fun q hq => va_Nc.moved (u := U) (Vm.Alike.refl U.vm) (h.2.2.2.2.1 q hq), fun q hq => va_Nw.same rfl rfl (h.2.2.2.2.2.1 q hq), va_AOI.moved (u := U) (Vm.Alike.refl U.vm) h.2.2.2.2.2.2.1, fun C hC => va_AO.moved (u := U) (Vm.Alike.refl U.vm) (h.2.2.2.2.2.2.2.1 C hC), fun q hq => va_Z.moved (u := U) (Vm.Alike.refl U.vm) (h.2.2.2.2.2.2.2.2.1 q hq), fun q hq => va_Z.moved (u := U) (Vm.Alike.refl U.vm) (h.2.2.2.2.2.2.2.2.2.1 q hq), fun q hq => ⟨(h.2.2.2.2.2.2.2.2.2.2.1 q hq).1, vk_R.same rfl (h.2.2.2.2.2.2.2.2.2.2.1 q hq).2⟩, va_Dc.moved (u := U) (Vm.Alike.refl U.vm) h.2.2.2.2.2.2.2.2.2.2.2.1, fun q hq => ⟨(h.2.2.2.2.2.2.2.2.2.2.2.2.1 q hq).1, va_Mi.moved (u := U) (Vm.Alike.refl U.vm) (h.2.2.2.2.2.2.2.2.2.2.2.2.1 q hq).2⟩, fun q hq => va_Nw.same rfl rfl (h.2.2.2.2.2.2.2.2.2.2.2.2.2.1 q hq), fun q hq => va_FD.moved (u := U) (bdfF_ok q hq) (Vm.Alike.refl U.vm) (h.2.2.2.2.2.2.2.2.2.2.2.2.2.2.1 q hq), fun q hq => va_VD.moved (u := U) (Vm.Alike.refl U.vm) (h.2.2.2.2.2.2.2.2.2.2.2.2.2.2.2.1 q hq), fun k q hq => bLm.same (u := U) rfl (h.2.2.2.2.2.2.2.2.2.2.2.2.2.2.2.2.1 k q hq), vx_Zq.moved (u := U) (Vm.Alike.refl U.vm) h.2.2.2.2.2.2.2.2.2.2.2.2.2.2.2.2.2.1, vx_Zq.moved (u := U) (Vm.Alike.refl U.vm) h.2.2.2.2.2.2.2.2.2.2.2.2.2.2.2.2.2.2.1, fun q hq w hw hg => bkw_same (bvx_ok q hq w hw hg) (u := U) rfl (h.2.2.2.2.2.2.2.2.2.2.2.2.2.2.2.2.2.2.2.1 q hq w hw hg), fun x hx => va_Nw.same (u := U) rfl rfl (h.2.2.2.2.2.2.2.2.2.2.2.2.2.2.2.2.2.2.2.2.1 x hx), fun w hw => va_Nw.same (u := U) (bdw_ok w hw).2 rfl (h.2.2.2.2.2.2.2.2.2.2.2.2.2.2.2.2.2.2.2.2.2.1 w hw), fun x hx => va_Nw.same (u := U) rfl rfl (h.2.2.2.2.2.2.2.2.2.2.2.2.2.2.2.2.2.2.2.2.2.2.1 x hx), trivial⟩
def bKK (Γ : bG) (U : State) : Prop := va_K Γ.1 bcls (bty Γ) U ∧ bXt Γ U
theorem bKK.moved {Γ : bG} {u U : State} (hW : u.WarmedH U.vm) (h : bKK Γ u) : bKK Γ U := ⟨va_K.moved hW.alike h.1, h.2.moved hW⟩
theorem bKK.calling {Γ : bG} {U : State} (g : JFrame) (mk : MethodId) (a : Array Value) (h : bKK Γ U) : bKK Γ (U.calling g mk a) := ⟨va_K.moved (u := U) (U := U.calling g mk a) (Vm.Alike.refl U.vm) h.1, h.2.calling g mk a⟩
abbrev bA (Γ : bG) : Nat → Prop := fun q => Γ.2.1 ≤ q
abbrev bK : Type := Program × Launch × Env × Room × State × MethodId × Array Value × List Frame × Method × Code × (State → Prop) × bG × bS × Nat
def bLs (n : Nat) (L : List (Nat × bV)) (ls : Array Slot) : Prop := lv_has ls n (L.map fun q => (q.1, bd q.2))
abbrev bLe (s t : bS) : Prop := bc s ≤ bc t ∧ bc t ≤ bCM ∧ bk s ≤ bk t ∧ bk t ≤ bKM
def bJ (κ : bK) (st : bS) (pc : Nat) (L : List (Nat × bV)) (stk : List bV) : Prop := match κ with
  | (p, l, e, R, s, m, args, below, meth, c, Q, Γ, s0, n) =>
    bLe s0 st → ∀ (H : Heap) (locs : List Loc) (ls : Array Slot), bRep Γ st H → va_S (bA Γ) s.heap H locs → bLs n L ls → W p l e R s m args below meth c H locs (bc st - bc s0) (bk st - bk s0) Q (F0 m pc ls (stk.map bd))
def bOk (κ : bK) (Γ0 : bG) (l0 : Launch) (cc : ByteArray) (own : String) (nL fr lo : Nat) : Prop := match κ with
  | (p, l, e, R, s, m, args, below, meth, c, Q, Γ, s0, n) =>
    p.tables.exec = Jvm.exec ∧ c.code = cc ∧ c.maxLocals = n ∧ s.vm.findClass own = some m.cls ∧ (∀ w ∈ lw_all, w.before args s = true) ∧ bKK Γ s ∧ meth.locks = false ∧ n = nL ∧ R.cells = bCM - bc s0 ∧ R.slots = bKM - bk s0 ∧ R.frames = fr ∧ R.locals = lo ∧ l = l0 ∧ Γ = Γ0
/-- a contract: from the logical state st the method comes to st', with this answer -/
def bCt (Γ : bG) (l : Launch) (y : MethodName) (b : ByteArray) (L : Nat) (ret : Option FieldType) (fr lo : Nat) (av : List bV) (st st' : bS) (ov : Option bV) : Prop :=
  Met l y (ws_ y b L ret) ({ frames := fr, cells := bCM - bc st, slots := bKM - bk st, locals := lo }) (va_Pc (av.map bd) (fun U => bRep Γ st U.heap ∧ bKK Γ U ∧ bc st ≤ bCM ∧ bk st ≤ bKM))
    (fun _ s₁ oc t => oc = .returned (ov.map bd) ∧ bRep Γ st' t.heap ∧ va_F (bA Γ) s₁ t ∧ bLe st st') (bc st' - bc st) (bk st' - bk st) (bA Γ)
section BJ
variable {Γ0 : bG} {l0 : Launch} {cc : ByteArray} {own : String} {nL fr lo : Nat} {st : bS} {pc : Nat} {L : List (Nat × bV)} {stk : List bV} {x y : Int}
/-- a row of the kit that leaves the heap alone, as a row of the judgement -/
theorem bJ_same {κ : bK} {pc2 : Nat} {L2 : List (Nat × bV)} {stk2 : List bV} (hκ : bOk κ Γ0 l0 cc own nL fr lo)
    (h : ∀ (p : Program) (l : Launch) (e : Env) (R : Room) (s : State) (m : MethodId) (args : Array Value) (below : List Frame) (meth : Method) (c : Code) (Q : State → Prop) (Γ : bG) (s0 : bS) (n : Nat) (H : Heap) (locs : List Loc) (ls : Array Slot) (k1 k2 : Nat), n = nL → p.tables.exec = Jvm.exec → c.code = cc → bKK Γ s → (∀ w ∈ lw_all, w.before args s = true) → s.vm.findClass own = some m.cls → bRep Γ st H → bLs n L ls →
      (∀ ls', bLs n L2 ls' → W p l e R s m args below meth c H locs k1 k2 Q (F0 m pc2 ls' (stk2.map bd))) → W p l e R s m args below meth c H locs k1 k2 Q (F0 m pc ls (stk.map bd)))
    (k : bJ κ st pc2 L2 stk2) : bJ κ st pc L stk := by
  obtain ⟨p, l, e, R, s, m, args, below, meth, c, Q, Γ, s0, n⟩ := κ
  obtain ⟨o1, o2, o3, o4, o5, o6, -, o8, -⟩ := hκ
  intro hle H locs ls hR hS hL
  exact h p l e R s m args below meth c Q Γ s0 n H locs ls _ _ o8 o1 o2 o6 o5 o4 hR hL fun ls' hl' => k hle H locs ls' hR hS hl'
theorem bLs_at {n : Nat} {ls : Array Slot} (h : bLs n L ls) (k : Nat) {i : Nat} {v : bV} (hk : L[k]? = some (i, v)) : ls[i]? = some (.val (bd v)) := by
  refine lv_at h k (v := bd v) ?_
  rw [List.getElem?_map, hk]
  rfl
def bset (L : List (Nat × bV)) (i : Nat) (v : bV) : List (Nat × bV) := (i, v) :: L.filter (fun q => !(q.1 == i) && !(q.1 + 1 == i && q.2.1 == 1))
def bset2 (L : List (Nat × bV)) (i : Nat) (v : bV) : List (Nat × bV) := (i, v) :: L.filter (fun q => !(q.1 == i) && !(q.1 == i + 1) && !(q.1 + 1 == i && q.2.1 == 1))
theorem bd_cat1 (v : bV) (h : v.1 ≠ 1) : (bd v).category = 1 := by
  obtain ⟨k, x⟩ := v
  match k, h with
  | 0, _ => rfl
  | k + 2, _ =>
    show (brv x).category = 1
    rcases brv_or x with h | ⟨a, h⟩ <;> rw [h] <;> rfl
theorem bd_cat (v : bV) : ((bd v).category == 2) = (v.1 == 1) := by
  by_cases h : v.1 = 1
  · obtain ⟨k, x⟩ := v
    subst h
    rfl
  · rw [bd_cat1 v h]
    simp [h]
theorem bset_eq (L : List (Nat × bV)) (i : Nat) (v : bV) : (bset L i v).map (fun q => (q.1, bd q.2)) = (i, bd v) :: (L.map fun q => (q.1, bd q.2)).filter (fun q => !(q.1 == i) && !(q.1 + 1 == i && q.2.category == 2)) := by
  unfold bset
  rw [List.map_cons, List.filter_map]
  congr 2
  apply List.filter_congr
  intro q _
  simp only [Function.comp_apply, bd_cat]
end BJ
/-! BASE 3: rows: instructions that leave the heap alone -/
section BR
variable {κ : bK} {Γ0 : bG} {l0 : Launch} {cc : ByteArray} {own : String} {nL fr lo : Nat} {st : bS} {pc : Nat} {L : List (Nat × bV)} {stk : List bV} {x y : Int}
theorem r_iadd (hκ : bOk κ Γ0 l0 cc own nL fr lo) (hd : decode cc pc = .ok (.iadd, 1)) (k : bJ κ st (pc + 1) L ((0, x + y) :: stk)) : bJ κ st pc L ((0, y) :: (0, x) :: stk) := by
  refine bJ_same hκ (fun p l e R s m args below meth c Q Γ s0 n H locs ls k1 k2 hn hx hb hk hts hown hR hL kk => ?_) k
  refine lv_iadd hx hb hd ?_
  have h := kk ls hL
  have e : bd (0, x + y) = _ := congrArg Value.int (i32_add x y).symm
  rw [List.map_cons, e] at h
  exact h
theorem r_isub (hκ : bOk κ Γ0 l0 cc own nL fr lo) (hd : decode cc pc = .ok (.isub, 1)) (k : bJ κ st (pc + 1) L ((0, x - y) :: stk)) : bJ κ st pc L ((0, y) :: (0, x) :: stk) := by
  refine bJ_same hκ (fun p l e R s m args below meth c Q Γ s0 n H locs ls k1 k2 hn hx hb hk hts hown hR hL kk => ?_) k
  refine lv_isub hx hb hd ?_
  have h := kk ls hL
  have e : bd (0, x - y) = _ := congrArg Value.int (i32_sub x y).symm
  rw [List.map_cons, e] at h
  exact h
theorem r_imul (hκ : bOk κ Γ0 l0 cc own nL fr lo) (hd : decode cc pc = .ok (.imul, 1)) (k : bJ κ st (pc + 1) L ((0, x * y) :: stk)) : bJ κ st pc L ((0, y) :: (0, x) :: stk) := by
  refine bJ_same hκ (fun p l e R s m args below meth c Q Γ s0 n H locs ls k1 k2 hn hx hb hk hts hown hR hL kk => ?_) k
  refine lv_imul hx hb hd ?_
  have h := kk ls hL
  have e : bd (0, x * y) = _ := congrArg Value.int (i32_mul x y).symm
  rw [List.map_cons, e] at h
  exact h
theorem r_ladd (hκ : bOk κ Γ0 l0 cc own nL fr lo) (hd : decode cc pc = .ok (.ladd, 1)) (k : bJ κ st (pc + 1) L ((1, x + y) :: stk)) : bJ κ st pc L ((1, y) :: (1, x) :: stk) := by
  refine bJ_same hκ (fun p l e R s m args below meth c Q Γ s0 n H locs ls k1 k2 hn hx hb hk hts hown hR hL kk => ?_) k
  refine lv_ladd hx hb hd ?_
  have h := kk ls hL
  have e : bd (1, x + y) = _ := congrArg Value.long (i64_add x y).symm
  rw [List.map_cons, e] at h
  exact h
theorem r_lsub (hκ : bOk κ Γ0 l0 cc own nL fr lo) (hd : decode cc pc = .ok (.lsub, 1)) (k : bJ κ st (pc + 1) L ((1, x - y) :: stk)) : bJ κ st pc L ((1, y) :: (1, x) :: stk) := by
  refine bJ_same hκ (fun p l e R s m args below meth c Q Γ s0 n H locs ls k1 k2 hn hx hb hk hts hown hR hL kk => ?_) k
  refine lv_lsub hx hb hd ?_
  have h := kk ls hL
  have e : bd (1, x - y) = _ := congrArg Value.long (i64_sub x y).symm
  rw [List.map_cons, e] at h
  exact h
theorem r_lmul (hκ : bOk κ Γ0 l0 cc own nL fr lo) (hd : decode cc pc = .ok (.lmul, 1)) (k : bJ κ st (pc + 1) L ((1, x * y) :: stk)) : bJ κ st pc L ((1, y) :: (1, x) :: stk) := by
  refine bJ_same hκ (fun p l e R s m args below meth c Q Γ s0 n H locs ls k1 k2 hn hx hb hk hts hown hR hL kk => ?_) k
  refine lv_lmul hx hb hd ?_
  have h := kk ls hL
  have e : bd (1, x * y) = _ := congrArg Value.long (i64_mul x y).symm
  rw [List.map_cons, e] at h
  exact h
def b_iand (x y : Int) : Int := (i32 x &&& i32 y).toInt
theorem r_iand (hκ : bOk κ Γ0 l0 cc own nL fr lo) (hd : decode cc pc = .ok (.iand, 1)) (k : bJ κ st (pc + 1) L ((0, b_iand x y) :: stk)) : bJ κ st pc L ((0, y) :: (0, x) :: stk) := by
  refine bJ_same hκ (fun p l e R s m args below meth c Q Γ s0 n H locs ls k1 k2 hn hx hb hk hts hown hR hL kk => ?_) k
  refine lv_iand hx hb hd ?_
  have h := kk ls hL
  have e : bd (0, b_iand x y) = _ := congrArg Value.int (i32_of _)
  rw [List.map_cons, e] at h
  exact h
def b_ior (x y : Int) : Int := (i32 x ||| i32 y).toInt
theorem r_ior (hκ : bOk κ Γ0 l0 cc own nL fr lo) (hd : decode cc pc = .ok (.ior, 1)) (k : bJ κ st (pc + 1) L ((0, b_ior x y) :: stk)) : bJ κ st pc L ((0, y) :: (0, x) :: stk) := by
  refine bJ_same hκ (fun p l e R s m args below meth c Q Γ s0 n H locs ls k1 k2 hn hx hb hk hts hown hR hL kk => ?_) k
  refine lv_ior hx hb hd ?_
  have h := kk ls hL
  have e : bd (0, b_ior x y) = _ := congrArg Value.int (i32_of _)
  rw [List.map_cons, e] at h
  exact h
def b_ixor (x y : Int) : Int := (i32 x ^^^ i32 y).toInt
theorem r_ixor (hκ : bOk κ Γ0 l0 cc own nL fr lo) (hd : decode cc pc = .ok (.ixor, 1)) (k : bJ κ st (pc + 1) L ((0, b_ixor x y) :: stk)) : bJ κ st pc L ((0, y) :: (0, x) :: stk) := by
  refine bJ_same hκ (fun p l e R s m args below meth c Q Γ s0 n H locs ls k1 k2 hn hx hb hk hts hown hR hL kk => ?_) k
  refine lv_ixor hx hb hd ?_
  have h := kk ls hL
  have e : bd (0, b_ixor x y) = _ := congrArg Value.int (i32_of _)
  rw [List.map_cons, e] at h
  exact h
def b_ishl (x y : Int) : Int := (i32 x <<< (i32 y &&& 31)).toInt
theorem r_ishl (hκ : bOk κ Γ0 l0 cc own nL fr lo) (hd : decode cc pc = .ok (.ishl, 1)) (k : bJ κ st (pc + 1) L ((0, b_ishl x y) :: stk)) : bJ κ st pc L ((0, y) :: (0, x) :: stk) := by
  refine bJ_same hκ (fun p l e R s m args below meth c Q Γ s0 n H locs ls k1 k2 hn hx hb hk hts hown hR hL kk => ?_) k
  refine lv_ishl hx hb hd ?_
  have h := kk ls hL
  have e : bd (0, b_ishl x y) = _ := congrArg Value.int (i32_of _)
  rw [List.map_cons, e] at h
  exact h
def b_ishr (x y : Int) : Int := (i32 x >>> (i32 y &&& 31)).toInt
theorem r_ishr (hκ : bOk κ Γ0 l0 cc own nL fr lo) (hd : decode cc pc = .ok (.ishr, 1)) (k : bJ κ st (pc + 1) L ((0, b_ishr x y) :: stk)) : bJ κ st pc L ((0, y) :: (0, x) :: stk) := by
  refine bJ_same hκ (fun p l e R s m args below meth c Q Γ s0 n H locs ls k1 k2 hn hx hb hk hts hown hR hL kk => ?_) k
  refine lv_ishr hx hb hd ?_
  have h := kk ls hL
  have e : bd (0, b_ishr x y) = _ := congrArg Value.int (i32_of _)
  rw [List.map_cons, e] at h
  exact h
def b_iushr (x y : Int) : Int := (((i32 x).toUInt32 >>> ((i32 y).toUInt32 &&& Int32.toUInt32 31)).toInt32).toInt
theorem r_iushr (hκ : bOk κ Γ0 l0 cc own nL fr lo) (hd : decode cc pc = .ok (.iushr, 1)) (k : bJ κ st (pc + 1) L ((0, b_iushr x y) :: stk)) : bJ κ st pc L ((0, y) :: (0, x) :: stk) := by
  refine bJ_same hκ (fun p l e R s m args below meth c Q Γ s0 n H locs ls k1 k2 hn hx hb hk hts hown hR hL kk => ?_) k
  exact lv_iushr hx hb hd (i32_of _).symm (kk ls hL)
def b_idiv (x y : Int) : Int := (i32 x / i32 y).toInt
theorem r_idiv (hκ : bOk κ Γ0 l0 cc own nL fr lo) (h0 : ¬ i32 y = 0) (hd : decode cc pc = .ok (.idiv, 1)) (k : bJ κ st (pc + 1) L ((0, b_idiv x y) :: stk)) : bJ κ st pc L ((0, y) :: (0, x) :: stk) := by
  refine bJ_same hκ (fun p l e R s m args below meth c Q Γ s0 n H locs ls k1 k2 hn hx hb hk hts hown hR hL kk => ?_) k
  refine lv_idiv hx hb hd h0 ?_
  have h := kk ls hL
  have e : bd (0, b_idiv x y) = _ := congrArg Value.int (i32_of _)
  rw [List.map_cons, e] at h
  exact h
def b_irem (x y : Int) : Int := (i32 x - i32 x / i32 y * i32 y).toInt
theorem r_irem (hκ : bOk κ Γ0 l0 cc own nL fr lo) (h0 : ¬ i32 y = 0) (hd : decode cc pc = .ok (.irem, 1)) (k : bJ κ st (pc + 1) L ((0, b_irem x y) :: stk)) : bJ κ st pc L ((0, y) :: (0, x) :: stk) := by
  refine bJ_same hκ (fun p l e R s m args below meth c Q Γ s0 n H locs ls k1 k2 hn hx hb hk hts hown hR hL kk => ?_) k
  refine lv_irem hx hb hd h0 ?_
  have h := kk ls hL
  have e : bd (0, b_irem x y) = _ := congrArg Value.int (i32_of _)
  rw [List.map_cons, e] at h
  exact h
theorem r_ineg (hκ : bOk κ Γ0 l0 cc own nL fr lo) (hd : decode cc pc = .ok (.ineg, 1)) (k : bJ κ st (pc + 1) L ((0, - x) :: stk)) : bJ κ st pc L ((0, x) :: stk) := by
  refine bJ_same hκ (fun p l e R s m args below meth c Q Γ s0 n H locs ls k1 k2 hn hx hb hk hts hown hR hL kk => ?_) k
  refine lv_ineg hx hb hd ?_
  have h := kk ls hL
  have e : bd (0, - x) = _ := congrArg Value.int (i32_neg x).symm
  rw [List.map_cons, e] at h
  exact h
def b_i2b (x : Int) : Int := ((i32 x).toInt8.toInt32).toInt
def b_i2s (x : Int) : Int := ((i32 x).toInt16.toInt32).toInt
def b_i2c (x : Int) : Int := (((i32 x).toUInt32 % 65536).toInt32).toInt
def b_i2l (x : Int) : Int := (i32 x).toInt64.toInt
def b_l2i (x : Int) : Int := (i64 x).toInt32.toInt
theorem r_i2b (hκ : bOk κ Γ0 l0 cc own nL fr lo) (hd : decode cc pc = .ok (.i2b, 1)) (k : bJ κ st (pc + 1) L ((0, b_i2b x) :: stk)) : bJ κ st pc L ((0, x) :: stk) := by
  refine bJ_same hκ (fun p l e R s m args below meth c Q Γ s0 n H locs ls k1 k2 hn hx hb hk hts hown hR hL kk => ?_) k
  exact lv_i2b hx hb hd (i32_of _).symm (kk ls hL)
theorem r_i2s (hκ : bOk κ Γ0 l0 cc own nL fr lo) (hd : decode cc pc = .ok (.i2s, 1)) (k : bJ κ st (pc + 1) L ((0, b_i2s x) :: stk)) : bJ κ st pc L ((0, x) :: stk) := by
  refine bJ_same hκ (fun p l e R s m args below meth c Q Γ s0 n H locs ls k1 k2 hn hx hb hk hts hown hR hL kk => ?_) k
  exact lv_i2s hx hb hd (i32_of _).symm (kk ls hL)
theorem r_i2c (hκ : bOk κ Γ0 l0 cc own nL fr lo) (hd : decode cc pc = .ok (.i2c, 1)) (k : bJ κ st (pc + 1) L ((0, b_i2c x) :: stk)) : bJ κ st pc L ((0, x) :: stk) := by
  refine bJ_same hκ (fun p l e R s m args below meth c Q Γ s0 n H locs ls k1 k2 hn hx hb hk hts hown hR hL kk => ?_) k
  exact lv_i2c hx hb hd (i32_of _).symm (kk ls hL)
theorem r_i2l (hκ : bOk κ Γ0 l0 cc own nL fr lo) (hd : decode cc pc = .ok (.i2l, 1)) (k : bJ κ st (pc + 1) L ((1, b_i2l x) :: stk)) : bJ κ st pc L ((0, x) :: stk) := by
  refine bJ_same hκ (fun p l e R s m args below meth c Q Γ s0 n H locs ls k1 k2 hn hx hb hk hts hown hR hL kk => ?_) k
  exact lv_i2l hx hb hd (i64_of _).symm (kk ls hL)
theorem r_l2i (hκ : bOk κ Γ0 l0 cc own nL fr lo) (hd : decode cc pc = .ok (.l2i, 1)) (k : bJ κ st (pc + 1) L ((0, b_l2i x) :: stk)) : bJ κ st pc L ((1, x) :: stk) := by
  refine bJ_same hκ (fun p l e R s m args below meth c Q Γ s0 n H locs ls k1 k2 hn hx hb hk hts hown hR hL kk => ?_) k
  exact lv_l2i hx hb hd (i32_of _).symm (kk ls hL)
theorem r_iconst (hκ : bOk κ Γ0 l0 cc own nL fr lo) (hd : decode cc pc = .ok (.iconst x, 1)) (k : bJ κ st (pc + 1) L ((0, x) :: stk)) : bJ κ st pc L (stk) := by
  refine bJ_same hκ (fun p l e R s m args below meth c Q Γ s0 n H locs ls k1 k2 hn hx hb hk hts hown hR hL kk => ?_) k
  exact lv_iconst hx hb hd rfl (kk ls hL)
theorem r_bipush (hκ : bOk κ Γ0 l0 cc own nL fr lo) (hv : (Int8.ofInt x).toInt32 = i32 x) (hd : decode cc pc = .ok (.bipush x, 2)) (k : bJ κ st (pc + 2) L ((0, x) :: stk)) : bJ κ st pc L (stk) := by
  refine bJ_same hκ (fun p l e R s m args below meth c Q Γ s0 n H locs ls k1 k2 hn hx hb hk hts hown hR hL kk => ?_) k
  exact lv_bipush hx hb hd hv (kk ls hL)
theorem r_sipush (hκ : bOk κ Γ0 l0 cc own nL fr lo) (hv : (Int16.ofInt x).toInt32 = i32 x) (hd : decode cc pc = .ok (.sipush x, 3)) (k : bJ κ st (pc + 3) L ((0, x) :: stk)) : bJ κ st pc L (stk) := by
  refine bJ_same hκ (fun p l e R s m args below meth c Q Γ s0 n H locs ls k1 k2 hn hx hb hk hts hown hR hL kk => ?_) k
  exact lv_sipush hx hb hd hv (kk ls hL)
theorem r_lconst (hκ : bOk κ Γ0 l0 cc own nL fr lo) {j : Fin 2} (hv : Int64.ofNat (j : Nat) = i64 x) (hd : decode cc pc = .ok (.lconst j, 1)) (k : bJ κ st (pc + 1) L ((1, x) :: stk)) : bJ κ st pc L (stk) := by
  refine bJ_same hκ (fun p l e R s m args below meth c Q Γ s0 n H locs ls k1 k2 hn hx hb hk hts hown hR hL kk => ?_) k
  exact lv_lconst hx hb hd hv (kk ls hL)
theorem r_null (hκ : bOk κ Γ0 l0 cc own nL fr lo) (hd : decode cc pc = .ok (.aconst_null, 1)) (k : bJ κ st (pc + 1) L ((2, -1) :: stk)) : bJ κ st pc L (stk) := by
  refine bJ_same hκ (fun p l e R s m args below meth c Q Γ s0 n H locs ls k1 k2 hn hx hb hk hts hown hR hL kk => ?_) k
  exact lv_null hx hb hd (kk ls hL)
theorem r_iload_n (hκ : bOk κ Γ0 l0 cc own nL fr lo) {j : Fin 4} {i : Nat} (q : Nat) (hq : L[q]? = some (i, (0, x))) (hj : (j : Nat) = i) (hd : decode cc pc = .ok (.iload_n j, 1)) (k : bJ κ st (pc + 1) L ((0, x) :: stk)) : bJ κ st pc L (stk) := by
  refine bJ_same hκ (fun p l e R s m args below meth c Q Γ s0 n H locs ls k1 k2 hn hx hb hk hts hown hR hL kk => ?_) k
  exact lv_iload_n hx hb hd hj (bLs_at hL q hq) (kk ls hL)
theorem r_iload (hκ : bOk κ Γ0 l0 cc own nL fr lo) {i : Nat} (q : Nat) (hq : L[q]? = some (i, (0, x))) (hd : decode cc pc = .ok (.iload i, 2)) (k : bJ κ st (pc + 2) L ((0, x) :: stk)) : bJ κ st pc L (stk) := by
  refine bJ_same hκ (fun p l e R s m args below meth c Q Γ s0 n H locs ls k1 k2 hn hx hb hk hts hown hR hL kk => ?_) k
  exact lv_iload hx hb hd (bLs_at hL q hq) (kk ls hL)
theorem r_lload_n (hκ : bOk κ Γ0 l0 cc own nL fr lo) {j : Fin 4} {i : Nat} (q : Nat) (hq : L[q]? = some (i, (1, x))) (hj : (j : Nat) = i) (hd : decode cc pc = .ok (.lload_n j, 1)) (k : bJ κ st (pc + 1) L ((1, x) :: stk)) : bJ κ st pc L (stk) := by
  refine bJ_same hκ (fun p l e R s m args below meth c Q Γ s0 n H locs ls k1 k2 hn hx hb hk hts hown hR hL kk => ?_) k
  exact lv_lload_n hx hb hd hj (bLs_at hL q hq) (kk ls hL)
theorem r_lload (hκ : bOk κ Γ0 l0 cc own nL fr lo) {i : Nat} (q : Nat) (hq : L[q]? = some (i, (1, x))) (hd : decode cc pc = .ok (.lload i, 2)) (k : bJ κ st (pc + 2) L ((1, x) :: stk)) : bJ κ st pc L (stk) := by
  refine bJ_same hκ (fun p l e R s m args below meth c Q Γ s0 n H locs ls k1 k2 hn hx hb hk hts hown hR hL kk => ?_) k
  exact lv_lload hx hb hd (bLs_at hL q hq) (kk ls hL)
theorem r_aload_n (hκ : bOk κ Γ0 l0 cc own nL fr lo) {j : Fin 4} {i : Nat} (q : Nat) (hq : L[q]? = some (i, (2, x))) (hj : (j : Nat) = i) (hd : decode cc pc = .ok (.aload_n j, 1)) (k : bJ κ st (pc + 1) L ((2, x) :: stk)) : bJ κ st pc L (stk) := by
  refine bJ_same hκ (fun p l e R s m args below meth c Q Γ s0 n H locs ls k1 k2 hn hx hb hk hts hown hR hL kk => ?_) k
  have hv := bLs_at hL q hq
  rcases brv_or x with hh | ⟨a, hh⟩
  · have h := kk ls hL
    have e : bd (2, x) = .null := hh
    rw [e] at hv
    rw [List.map_cons, e] at h
    exact lv_aload_nN hx hb hd hj hv h
  · have h := kk ls hL
    have e : bd (2, x) = .ref a := hh
    rw [e] at hv
    rw [List.map_cons, e] at h
    exact lv_aload_n hx hb hd hj hv h
theorem r_aload (hκ : bOk κ Γ0 l0 cc own nL fr lo) {i : Nat} (q : Nat) (hq : L[q]? = some (i, (2, x))) (hd : decode cc pc = .ok (.aload i, 2)) (k : bJ κ st (pc + 2) L ((2, x) :: stk)) : bJ κ st pc L (stk) := by
  refine bJ_same hκ (fun p l e R s m args below meth c Q Γ s0 n H locs ls k1 k2 hn hx hb hk hts hown hR hL kk => ?_) k
  have hv := bLs_at hL q hq
  rcases brv_or x with hh | ⟨a, hh⟩
  · have h := kk ls hL
    have e : bd (2, x) = .null := hh
    rw [e] at hv
    rw [List.map_cons, e] at h
    exact lv_aloadN hx hb hd hv h
  · have h := kk ls hL
    have e : bd (2, x) = .ref a := hh
    rw [e] at hv
    rw [List.map_cons, e] at h
    exact lv_aload hx hb hd hv h
theorem r_istore_n (hκ : bOk κ Γ0 l0 cc own nL fr lo) {j : Fin 4} {i : Nat} {L2 : List (Nat × bV)} (hi : i < nL) (hs : bset L i (0, x) = L2) (hj : (j : Nat) = i) (hd : decode cc pc = .ok (.istore_n j, 1)) (k : bJ κ st (pc + 1) L2 (stk)) : bJ κ st pc L ((0, x) :: stk) := by
  refine bJ_same hκ (fun p l e R s m args below meth c Q Γ s0 n H locs ls k1 k2 hn hx hb hk hts hown hR hL kk => ?_) k
  have hz : _ = _ := (bset_eq L i (0, x)).symm.trans (congrArg (List.map fun q : Nat × bV => (q.1, bd q.2)) hs)
  subst hn
  exact lv_istore_n hx hb hd hj hL hi hz (fun ls h => kk ls h)
theorem r_istore (hκ : bOk κ Γ0 l0 cc own nL fr lo) {i : Nat} {L2 : List (Nat × bV)} (hi : i < nL) (hs : bset L i (0, x) = L2) (hd : decode cc pc = .ok (.istore i, 2)) (k : bJ κ st (pc + 2) L2 (stk)) : bJ κ st pc L ((0, x) :: stk) := by
  refine bJ_same hκ (fun p l e R s m args below meth c Q Γ s0 n H locs ls k1 k2 hn hx hb hk hts hown hR hL kk => ?_) k
  have hz : _ = _ := (bset_eq L i (0, x)).symm.trans (congrArg (List.map fun q : Nat × bV => (q.1, bd q.2)) hs)
  subst hn
  exact lv_istore hx hb hd hL hi hz (fun ls h => kk ls h)
theorem r_astore_n (hκ : bOk κ Γ0 l0 cc own nL fr lo) {j : Fin 4} {i : Nat} {L2 : List (Nat × bV)} (hi : i < nL) (hs : bset L i (2, x) = L2) (hj : (j : Nat) = i) (hd : decode cc pc = .ok (.astore_n j, 1)) (k : bJ κ st (pc + 1) L2 (stk)) : bJ κ st pc L ((2, x) :: stk) := by
  refine bJ_same hκ (fun p l e R s m args below meth c Q Γ s0 n H locs ls k1 k2 hn hx hb hk hts hown hR hL kk => ?_) k
  have hz : _ = _ := (bset_eq L i (2, x)).symm.trans (congrArg (List.map fun q : Nat × bV => (q.1, bd q.2)) hs)
  subst hn
  rcases brv_or x with hh | ⟨a, hh⟩
  · have e : bd (2, x) = .null := hh
    rw [e] at hz
    rw [List.map_cons, e]
    exact lv_astore_nN hx hb hd hj hL hi hz (fun ls h => kk ls h)
  · have e : bd (2, x) = .ref a := hh
    rw [e] at hz
    rw [List.map_cons, e]
    exact lv_astore_n hx hb hd hj hL hi hz (fun ls h => kk ls h)
theorem r_astore (hκ : bOk κ Γ0 l0 cc own nL fr lo) {i : Nat} {L2 : List (Nat × bV)} (hi : i < nL) (hs : bset L i (2, x) = L2) (hd : decode cc pc = .ok (.astore i, 2)) (k : bJ κ st (pc + 2) L2 (stk)) : bJ κ st pc L ((2, x) :: stk) := by
  refine bJ_same hκ (fun p l e R s m args below meth c Q Γ s0 n H locs ls k1 k2 hn hx hb hk hts hown hR hL kk => ?_) k
  have hz : _ = _ := (bset_eq L i (2, x)).symm.trans (congrArg (List.map fun q : Nat × bV => (q.1, bd q.2)) hs)
  subst hn
  rcases brv_or x with hh | ⟨a, hh⟩
  · have e : bd (2, x) = .null := hh
    rw [e] at hz
    rw [List.map_cons, e]
    exact lv_astoreN hx hb hd hL hi hz (fun ls h => kk ls h)
  · have e : bd (2, x) = .ref a := hh
    rw [e] at hz
    rw [List.map_cons, e]
    exact lv_astore hx hb hd hL hi hz (fun ls h => kk ls h)
theorem r_iinc (hκ : bOk κ Γ0 l0 cc own nL fr lo) {i : Nat} {L2 : List (Nat × bV)} (q : Nat) (hq : L[q]? = some (i, (0, x))) (hi : i < nL) (hs : bset L i (0, x + y) = L2) (hd : decode cc pc = .ok (.iinc i y, 3)) (k : bJ κ st (pc + 3) L2 (stk)) : bJ κ st pc L (stk) := by
  refine bJ_same hκ (fun p l e R s m args below meth c Q Γ s0 n H locs ls k1 k2 hn hx hb hk hts hown hR hL kk => ?_) k
  have hz : _ = _ := (bset_eq L i (0, x + y)).symm.trans (congrArg (List.map fun q : Nat × bV => (q.1, bd q.2)) hs)
  subst hn
  refine lv_iinc (k := q) hx hb hd hL ?_ (i32_add x y) hi hz (fun ls h => kk ls h)
  rw [List.getElem?_map, hq]
  rfl
theorem r_dup (hκ : bOk κ Γ0 l0 cc own nL fr lo) {v : bV} (hv : (bd v).category = 1) (hd : decode cc pc = .ok (.dup, 1)) (k : bJ κ st (pc + 1) L (v :: v :: stk)) : bJ κ st pc L (v :: stk) := by
  refine bJ_same hκ (fun p l e R s m args below meth c Q Γ s0 n H locs ls k1 k2 hn hx hb hk hts hown hR hL kk => ?_) k
  exact lv_dup hx hb hd hv (kk ls hL)
theorem r_pop (hκ : bOk κ Γ0 l0 cc own nL fr lo) {v : bV} (hv : (bd v).category = 1) (hd : decode cc pc = .ok (.pop, 1)) (k : bJ κ st (pc + 1) L (stk)) : bJ κ st pc L (v :: stk) := by
  refine bJ_same hκ (fun p l e R s m args below meth c Q Γ s0 n H locs ls k1 k2 hn hx hb hk hts hown hR hL kk => ?_) k
  exact lv_pop hx hb hd hv (kk ls hL)
theorem r_dup_x1 (hκ : bOk κ Γ0 l0 cc own nL fr lo) {v w : bV} (hv : (bd v).category = 1) (hw : (bd w).category = 1) (hd : decode cc pc = .ok (.dup_x1, 1)) (k : bJ κ st (pc + 1) L (v :: w :: v :: stk)) : bJ κ st pc L (v :: w :: stk) := by
  refine bJ_same hκ (fun p l e R s m args below meth c Q Γ s0 n H locs ls k1 k2 hn hx hb hk hts hown hR hL kk => ?_) k
  exact lv_dup_x1 hx hb hd hv hw (kk ls hL)
theorem r_dup2 (hκ : bOk κ Γ0 l0 cc own nL fr lo) {v w : bV} (hv : (bd v).category = 1) (hw : (bd w).category = 1) (hd : decode cc pc = .ok (.dup2, 1)) (k : bJ κ st (pc + 1) L (v :: w :: v :: w :: stk)) : bJ κ st pc L (v :: w :: stk) := by
  refine bJ_same hκ (fun p l e R s m args below meth c Q Γ s0 n H locs ls k1 k2 hn hx hb hk hts hown hR hL kk => ?_) k
  exact lv_dup2_11 hx hb hd hv hw (kk ls hL)
theorem r_goto (hκ : bOk κ Γ0 l0 cc own nL fr lo) {off : Int} {tgt : Nat} (ht : (pc : Int) + off = (tgt : Int)) (hd : decode cc pc = .ok (.goto off, 3)) (k : bJ κ st tgt L (stk)) : bJ κ st pc L (stk) := by
  refine bJ_same hκ (fun p l e R s m args below meth c Q Γ s0 n H locs ls k1 k2 hn hx hb hk hts hown hR hL kk => ?_) k
  exact lv_goto hx hb hd ht (kk ls hL)
theorem r_if_eq (hκ : bOk κ Γ0 l0 cc own nL fr lo) {off : Int} {tgt : Nat} (ht : (pc : Int) + off = (tgt : Int)) (hd : decode cc pc = .ok (.ifCond .eq off, 3)) (k1 : i32 x = 0 → bJ κ st tgt L stk) (k2 : ¬ i32 x = 0 → bJ κ st (pc + 3) L stk) : bJ κ st pc L ((0, x) :: stk) := by
  by_cases hc : i32 x = 0
  · refine bJ_same hκ (fun p l e R s m args below meth c Q Γ s0 n H locs ls k1 k2 hn hx hb hk hts hown hR hL kk => lv_if_eq hx hb hd ht (fun _ => kk ls hL) (fun h => absurd hc h)) (k1 hc)
  · refine bJ_same hκ (fun p l e R s m args below meth c Q Γ s0 n H locs ls k1 k2 hn hx hb hk hts hown hR hL kk => lv_if_eq hx hb hd ht (fun h => absurd h hc) (fun _ => kk ls hL)) (k2 hc)
theorem r_if_ne (hκ : bOk κ Γ0 l0 cc own nL fr lo) {off : Int} {tgt : Nat} (ht : (pc : Int) + off = (tgt : Int)) (hd : decode cc pc = .ok (.ifCond .ne off, 3)) (k1 : ¬ i32 x = 0 → bJ κ st tgt L stk) (k2 : i32 x = 0 → bJ κ st (pc + 3) L stk) : bJ κ st pc L ((0, x) :: stk) := by
  by_cases hc : i32 x = 0
  · refine bJ_same hκ (fun p l e R s m args below meth c Q Γ s0 n H locs ls k1 k2 hn hx hb hk hts hown hR hL kk => lv_if_ne hx hb hd ht (fun h => absurd hc h) (fun _ => kk ls hL)) (k2 hc)
  · refine bJ_same hκ (fun p l e R s m args below meth c Q Γ s0 n H locs ls k1 k2 hn hx hb hk hts hown hR hL kk => lv_if_ne hx hb hd ht (fun _ => kk ls hL) (fun h => absurd h hc)) (k1 hc)
theorem r_if_lt (hκ : bOk κ Γ0 l0 cc own nL fr lo) {off : Int} {tgt : Nat} (ht : (pc : Int) + off = (tgt : Int)) (hd : decode cc pc = .ok (.ifCond .lt off, 3)) (k1 : i32 x < 0 → bJ κ st tgt L stk) (k2 : ¬ i32 x < 0 → bJ κ st (pc + 3) L stk) : bJ κ st pc L ((0, x) :: stk) := by
  by_cases hc : i32 x < 0
  · refine bJ_same hκ (fun p l e R s m args below meth c Q Γ s0 n H locs ls k1 k2 hn hx hb hk hts hown hR hL kk => lv_if_lt hx hb hd ht (fun _ => kk ls hL) (fun h => absurd hc h)) (k1 hc)
  · refine bJ_same hκ (fun p l e R s m args below meth c Q Γ s0 n H locs ls k1 k2 hn hx hb hk hts hown hR hL kk => lv_if_lt hx hb hd ht (fun h => absurd h hc) (fun _ => kk ls hL)) (k2 hc)
theorem r_if_ge (hκ : bOk κ Γ0 l0 cc own nL fr lo) {off : Int} {tgt : Nat} (ht : (pc : Int) + off = (tgt : Int)) (hd : decode cc pc = .ok (.ifCond .ge off, 3)) (k1 : 0 ≤ i32 x → bJ κ st tgt L stk) (k2 : ¬ 0 ≤ i32 x → bJ κ st (pc + 3) L stk) : bJ κ st pc L ((0, x) :: stk) := by
  by_cases hc : 0 ≤ i32 x
  · refine bJ_same hκ (fun p l e R s m args below meth c Q Γ s0 n H locs ls k1 k2 hn hx hb hk hts hown hR hL kk => lv_if_ge hx hb hd ht (fun _ => kk ls hL) (fun h => absurd hc h)) (k1 hc)
  · refine bJ_same hκ (fun p l e R s m args below meth c Q Γ s0 n H locs ls k1 k2 hn hx hb hk hts hown hR hL kk => lv_if_ge hx hb hd ht (fun h => absurd h hc) (fun _ => kk ls hL)) (k2 hc)
theorem r_if_gt (hκ : bOk κ Γ0 l0 cc own nL fr lo) {off : Int} {tgt : Nat} (ht : (pc : Int) + off = (tgt : Int)) (hd : decode cc pc = .ok (.ifCond .gt off, 3)) (k1 : 0 < i32 x → bJ κ st tgt L stk) (k2 : ¬ 0 < i32 x → bJ κ st (pc + 3) L stk) : bJ κ st pc L ((0, x) :: stk) := by
  by_cases hc : 0 < i32 x
  · refine bJ_same hκ (fun p l e R s m args below meth c Q Γ s0 n H locs ls k1 k2 hn hx hb hk hts hown hR hL kk => lv_if_gt hx hb hd ht (fun _ => kk ls hL) (fun h => absurd hc h)) (k1 hc)
  · refine bJ_same hκ (fun p l e R s m args below meth c Q Γ s0 n H locs ls k1 k2 hn hx hb hk hts hown hR hL kk => lv_if_gt hx hb hd ht (fun h => absurd h hc) (fun _ => kk ls hL)) (k2 hc)
theorem r_if_le (hκ : bOk κ Γ0 l0 cc own nL fr lo) {off : Int} {tgt : Nat} (ht : (pc : Int) + off = (tgt : Int)) (hd : decode cc pc = .ok (.ifCond .le off, 3)) (k1 : i32 x ≤ 0 → bJ κ st tgt L stk) (k2 : ¬ i32 x ≤ 0 → bJ κ st (pc + 3) L stk) : bJ κ st pc L ((0, x) :: stk) := by
  by_cases hc : i32 x ≤ 0
  · refine bJ_same hκ (fun p l e R s m args below meth c Q Γ s0 n H locs ls k1 k2 hn hx hb hk hts hown hR hL kk => lv_if_le hx hb hd ht (fun _ => kk ls hL) (fun h => absurd hc h)) (k1 hc)
  · refine bJ_same hκ (fun p l e R s m args below meth c Q Γ s0 n H locs ls k1 k2 hn hx hb hk hts hown hR hL kk => lv_if_le hx hb hd ht (fun h => absurd h hc) (fun _ => kk ls hL)) (k2 hc)
theorem r_icmp_eq (hκ : bOk κ Γ0 l0 cc own nL fr lo) {off : Int} {tgt : Nat} (ht : (pc : Int) + off = (tgt : Int)) (hd : decode cc pc = .ok (.if_icmp .eq off, 3)) (k1 : i32 x = i32 y → bJ κ st tgt L stk) (k2 : ¬ i32 x = i32 y → bJ κ st (pc + 3) L stk) : bJ κ st pc L ((0, y) :: (0, x) :: stk) := by
  by_cases hc : i32 x = i32 y
  · refine bJ_same hκ (fun p l e R s m args below meth c Q Γ s0 n H locs ls k1 k2 hn hx hb hk hts hown hR hL kk => lv_icmp_eq hx hb hd ht (fun _ => kk ls hL) (fun h => absurd hc h)) (k1 hc)
  · refine bJ_same hκ (fun p l e R s m args below meth c Q Γ s0 n H locs ls k1 k2 hn hx hb hk hts hown hR hL kk => lv_icmp_eq hx hb hd ht (fun h => absurd h hc) (fun _ => kk ls hL)) (k2 hc)
theorem r_icmp_ne (hκ : bOk κ Γ0 l0 cc own nL fr lo) {off : Int} {tgt : Nat} (ht : (pc : Int) + off = (tgt : Int)) (hd : decode cc pc = .ok (.if_icmp .ne off, 3)) (k1 : ¬ i32 x = i32 y → bJ κ st tgt L stk) (k2 : i32 x = i32 y → bJ κ st (pc + 3) L stk) : bJ κ st pc L ((0, y) :: (0, x) :: stk) := by
  by_cases hc : i32 x = i32 y
  · refine bJ_same hκ (fun p l e R s m args below meth c Q Γ s0 n H locs ls k1 k2 hn hx hb hk hts hown hR hL kk => lv_icmp_ne hx hb hd ht (fun h => absurd hc h) (fun _ => kk ls hL)) (k2 hc)
  · refine bJ_same hκ (fun p l e R s m args below meth c Q Γ s0 n H locs ls k1 k2 hn hx hb hk hts hown hR hL kk => lv_icmp_ne hx hb hd ht (fun _ => kk ls hL) (fun h => absurd h hc)) (k1 hc)
theorem r_icmp_lt (hκ : bOk κ Γ0 l0 cc own nL fr lo) {off : Int} {tgt : Nat} (ht : (pc : Int) + off = (tgt : Int)) (hd : decode cc pc = .ok (.if_icmp .lt off, 3)) (k1 : i32 x < i32 y → bJ κ st tgt L stk) (k2 : ¬ i32 x < i32 y → bJ κ st (pc + 3) L stk) : bJ κ st pc L ((0, y) :: (0, x) :: stk) := by
  by_cases hc : i32 x < i32 y
  · refine bJ_same hκ (fun p l e R s m args below meth c Q Γ s0 n H locs ls k1 k2 hn hx hb hk hts hown hR hL kk => lv_icmp_lt hx hb hd ht (fun _ => kk ls hL) (fun h => absurd hc h)) (k1 hc)
  · refine bJ_same hκ (fun p l e R s m args below meth c Q Γ s0 n H locs ls k1 k2 hn hx hb hk hts hown hR hL kk => lv_icmp_lt hx hb hd ht (fun h => absurd h hc) (fun _ => kk ls hL)) (k2 hc)
theorem r_icmp_ge (hκ : bOk κ Γ0 l0 cc own nL fr lo) {off : Int} {tgt : Nat} (ht : (pc : Int) + off = (tgt : Int)) (hd : decode cc pc = .ok (.if_icmp .ge off, 3)) (k1 : i32 y ≤ i32 x → bJ κ st tgt L stk) (k2 : ¬ i32 y ≤ i32 x → bJ κ st (pc + 3) L stk) : bJ κ st pc L ((0, y) :: (0, x) :: stk) := by
  by_cases hc : i32 y ≤ i32 x
  · refine bJ_same hκ (fun p l e R s m args below meth c Q Γ s0 n H locs ls k1 k2 hn hx hb hk hts hown hR hL kk => lv_icmp_ge hx hb hd ht (fun _ => kk ls hL) (fun h => absurd hc h)) (k1 hc)
  · refine bJ_same hκ (fun p l e R s m args below meth c Q Γ s0 n H locs ls k1 k2 hn hx hb hk hts hown hR hL kk => lv_icmp_ge hx hb hd ht (fun h => absurd h hc) (fun _ => kk ls hL)) (k2 hc)
theorem r_icmp_gt (hκ : bOk κ Γ0 l0 cc own nL fr lo) {off : Int} {tgt : Nat} (ht : (pc : Int) + off = (tgt : Int)) (hd : decode cc pc = .ok (.if_icmp .gt off, 3)) (k1 : i32 y < i32 x → bJ κ st tgt L stk) (k2 : ¬ i32 y < i32 x → bJ κ st (pc + 3) L stk) : bJ κ st pc L ((0, y) :: (0, x) :: stk) := by
  by_cases hc : i32 y < i32 x
  · refine bJ_same hκ (fun p l e R s m args below meth c Q Γ s0 n H locs ls k1 k2 hn hx hb hk hts hown hR hL kk => lv_icmp_gt hx hb hd ht (fun _ => kk ls hL) (fun h => absurd hc h)) (k1 hc)
  · refine bJ_same hκ (fun p l e R s m args below meth c Q Γ s0 n H locs ls k1 k2 hn hx hb hk hts hown hR hL kk => lv_icmp_gt hx hb hd ht (fun h => absurd h hc) (fun _ => kk ls hL)) (k2 hc)
theorem r_icmp_le (hκ : bOk κ Γ0 l0 cc own nL fr lo) {off : Int} {tgt : Nat} (ht : (pc : Int) + off = (tgt : Int)) (hd : decode cc pc = .ok (.if_icmp .le off, 3)) (k1 : i32 x ≤ i32 y → bJ κ st tgt L stk) (k2 : ¬ i32 x ≤ i32 y → bJ κ st (pc + 3) L stk) : bJ κ st pc L ((0, y) :: (0, x) :: stk) := by
  by_cases hc : i32 x ≤ i32 y
  · refine bJ_same hκ (fun p l e R s m args below meth c Q Γ s0 n H locs ls k1 k2 hn hx hb hk hts hown hR hL kk => lv_icmp_le hx hb hd ht (fun _ => kk ls hL) (fun h => absurd hc h)) (k1 hc)
  · refine bJ_same hκ (fun p l e R s m args below meth c Q Γ s0 n H locs ls k1 k2 hn hx hb hk hts hown hR hL kk => lv_icmp_le hx hb hd ht (fun h => absurd h hc) (fun _ => kk ls hL)) (k2 hc)
end BR
/-! BASE 4: rows: fields, new objects, arrays -/
theorem bfr_inj0 : ∀ t, t < 25 → ∀ j, j < (bfrs.getD t []).length → ∀ k, k < (bfrs.getD t []).length → j ≠ k → bfr t j ≠ bfr t k := by decide +kernel
theorem bfr_inj : ∀ t, t < 25 → ∀ j k, j < (bfrs.getD t []).length → k < (bfrs.getD t []).length → j ≠ k → bfr t j ≠ bfr t k := fun t ht j k hj hk => bfr_inj0 t ht j hj k hk
def bkd (ty : FieldType) : Nat := match ty with
  | .long => 1
  | .object _ => 2
  | .array _ => 2
  | _ => 0
theorem bcls_len : ∀ t, t < 25 → ∀ r : vw_C, bcls[t]? = some r → r.2.2 = (bfrs.getD t []).length := by
  intro t ht r hr
  have h : ∀ t, t < 25 → (bcls[t]?).map (fun r => r.2.2) = some (bfrs.getD t []).length := by decide +kernel
  have h2 := h t ht
  rw [hr] at h2
  exact Option.some.inj h2
theorem bcls_lt {t : Nat} {r : vw_C} (h : bcls[t]? = some r) : t < 25 := (List.getElem?_eq_some_iff.mp h).1
theorem bfr_ge : ∀ t, t < 25 → ∀ k, k < (bfrs.getD t []).length → 32 ≤ bfr t k := by decide +kernel
theorem bRep.nat {Γ : bG} {st : bS} {H : Heap} {a : Int} (hR : bRep Γ st H) (h : bg st 0 a 0 ≠ 0) : ∃ b : Nat, a = (b : Int) ∧ (Γ.2.1 ≤ b ∨ bg st 0 a 0 = 20 ∨ bg st 0 a 0 = 1000 ∨ bg st 0 a 0 = 1006 ∨ bg st 0 a 0 = 1011 ∨ (500 ≤ bg st 0 a 0 ∧ bg st 0 a 0 < 600)) ∧ b < H.size := by
  obtain ⟨h1, h2, h3, h4, h5⟩ := hR
  obtain ⟨q0, q1, q2⟩ := h4 a h
  exact ⟨a.toNat, by omega, q2.imp (fun q => by omega) id, by omega⟩
theorem bat.same {Γ : bG} {st st' : bS} {H H' : Heap} {a t : Nat} (h : bat Γ st a H t) (hH : H'[a]? = H[a]?) (hm : ∀ (r : Nat) (i : Int), st'.1 r (a : Int) i = st.1 r (a : Int) i) : bat Γ st' a H' t := by
  unfold bat at h ⊢
  by_cases ht2 : t < 1000
  · rw [if_pos ht2] at h ⊢
    refine ⟨fun q9 => ?_, fun q9 => ?_⟩
    · rw [hH, h.1 q9]
      simp only [hm]
    · obtain ⟨r, g1, g2⟩ := h.2 q9
      exact ⟨r, g1, (g2.kept hH).to (fun k _ => by rw [hm])⟩
  · rw [if_neg ht2] at h ⊢
    rw [hH, hm 4]
    refine ⟨?_, h.2.1, h.2.2.1, fun j ty hj hty => by rw [hm]; exact h.2.2.2 j ty hj hty⟩
    rw [h.1]
    congr 2
    funext j
    rw [hm]
theorem bRep.upd {Γ : bG} {st st' : bS} {H H' : Heap} (hR : bRep Γ st H) (a : Nat) (hlow : Γ.2.1 ≤ a) (hnx : bnx st' = bnx st) (hoth : ∀ (r : Nat) (b i : Int), b ≠ (a : Int) → st'.1 r b i = st.1 r b i) (htag : st'.1 0 a 0 = st.1 0 a 0) (h10 : st'.1 1 (-1) 0 = st.1 1 (-1) 0)
    (hsz : H'.size = H.size) (hH : ∀ q : Nat, q ≠ a → H'[q]? = H[q]?) (hat : ∀ t : Nat, st.1 0 (a : Int) 0 = (t : Int) → t ≠ 0 → bat Γ st' a H' t) : bRep Γ st' H' := by
  obtain ⟨h1, h2, h3, h4, h6, h5⟩ := hR
  have tg : ∀ b : Int, st'.1 0 b 0 = st.1 0 b 0 := fun b => by
    by_cases e : b = (a : Int)
    · rw [e, htag]
    · exact hoth 0 b 0 e
  refine ⟨by rw [hsz, hnx, h1], by rw [hsz]; exact h2, fun q hq => by rw [hH q (by omega)]; exact h3 q hq, fun b hb => by rw [hnx, tg]; exact h4 b (by rw [← tg b]; exact hb), ⟨by rw [h10]; exact h6.1, fun j => by rw [hoth _ _ _ (by omega)]; exact h6.2 j⟩, fun b t hb ht => ?_⟩
  rw [tg] at hb
  by_cases e : b = a
  · subst e
    exact hat t hb ht
  · exact (h5 b t hb ht).same (hH b e) (fun r i => hoth r b i (by omega))
theorem bRep.push {Γ : bG} {st : bS} {H H' : Heap} (hR : bRep Γ st H) (t n : Nat) (len : Int) (ht0 : t ≠ 0) (hsz : H'.size = H.size + 1) (hH : ∀ q : Nat, q < H.size → H'[q]? = H[q]?) (hat : bat Γ (bnw st t len n) H.size H' t) : bRep Γ (bnw st t len n) H' := by
  obtain ⟨h1, h2, h3, h4, h6, h5⟩ := hR
  have e0 : st.2.1 = H.size := h1.symm
  have oth : ∀ (r : Nat) (b i : Int), b ≠ (H.size : Int) → (bnw st t len n).1 r b i = st.1 r b i := fun r b i hb => by
    show (if b = (st.2.1 : Int) then _ else _) = _
    rw [e0, if_neg hb]
  refine ⟨by rw [hsz, bnx_bnw, h1], by omega, fun q hq => by rw [hH q (by omega)]; exact h3 q hq, fun b hb => ?_, ?_, fun b t2 hb ht => ?_⟩
  · rw [bnx_bnw, ← h1]
    by_cases e : b = (H.size : Int)
    · omega
    · rw [oth 0 b 0 e] at hb ⊢
      have := h4 b hb
      omega
  · exact ⟨by rw [oth 1 (-1) 0 (by omega)]; exact h6.1, fun j => by rw [oth _ _ _ (by omega)]; exact h6.2 j⟩
  · by_cases e : b = H.size
    · subst e
      have : (bnw st t len n).1 0 (H.size : Int) 0 = (t : Int) := by
        show (if (H.size : Int) = (st.2.1 : Int) then _ else _) = _
        rw [e0, if_pos rfl]
        rfl
      rw [this] at hb
      have e3 : t = t2 := by omega
      subst e3
      exact hat
    · have e2 : ((b : Nat) : Int) ≠ (H.size : Int) := by omega
      rw [oth _ _ _ e2] at hb
      have hold := h5 b t2 hb ht
      have hl : b < H.size := by
        have := h4 b (by rw [hb]; omega)
        omega
      exact hold.same (hH b hl) (fun r i => oth r b i e2)
theorem bRep.obj {Γ : bG} {st : bS} {H : Heap} {a t : Nat} {r : vw_C} (hR : bRep Γ st H) (ht : bg st 0 (a : Int) 0 = ((t + 1 : Nat) : Int)) (hc : bcls[t]? = some r) : t_OB a (Γ.1.1 t) r.2.2 (Γ.1.2 t) H (fun k => bval (bfr t k) (bg st (bfr t k) a 0)) := by
  have h := hR.2.2.2.2.2 a (t + 1) ht (by omega)
  have := bcls_lt hc
  unfold bat at h
  rw [if_pos (by omega)] at h
  obtain ⟨r', g1, g2⟩ := h.2 (by omega)
  rw [Nat.add_sub_cancel] at g1 g2
  cases g1.symm.trans hc
  exact g2
theorem bRep.arr {Γ : bG} {st : bS} {H : Heap} {a t : Nat} (hR : bRep Γ st H) (ht : bg st 0 (a : Int) 0 = ((t + 1000 : Nat) : Int)) : H[a]? = some (arrV (Γ.2.2.2.1 t) (bg st 4 a 0).toNat (fun j => bval (ber (t + 1000)) (bg st (ber (t + 1000)) a j))) ∧ 0 ≤ bg st 4 a 0 ∧ bg st 4 a 0 < 2147483648 := by
  have h := hR.2.2.2.2.2 a (t + 1000) ht (by omega)
  unfold bat at h
  rw [if_neg (by omega)] at h
  rw [Nat.add_sub_cancel] at h
  exact ⟨h.1, h.2.1, h.2.2.1⟩
theorem bRep.arrfit {Γ : bG} {st : bS} {H : Heap} {a t j : Nat} {ty : FieldType} (hR : bRep Γ st H) (ht : bg st 0 (a : Int) 0 = ((t + 1000 : Nat) : Int)) (hj : (j : Int) < bg st 4 a 0) (hty : btys[t]? = some ty) : fits ty (bval (ber (t + 1000)) (bg st (ber (t + 1000)) a j)) = true := by
  have h := hR.2.2.2.2.2 a (t + 1000) ht (by omega)
  unfold bat at h
  rw [if_neg (by omega)] at h
  exact h.2.2.2 j ty hj (by rw [Nat.add_sub_cancel]; exact hty)
theorem bRep.P {Γ : bG} {st : bS} {H : Heap} {a t : Nat} {r : vw_C} (hR : bRep Γ st H) (ht : bg st 0 (a : Int) 0 = ((t + 1 : Nat) : Int)) (hc : bcls[t]? = some r) : va_P Γ.1 bcls [(a, .inr (t, (List.range r.2.2).map fun k => bval (bfr t k) (bg st (bfr t k) a 0)))] H := by
  intro k q hq
  match k, hq with
  | 0, hq =>
    cases hq
    refine ⟨r, hc, (hR.obj ht hc).to fun k hk => ?_⟩
    simp [vp_V, List.getD, hk]
section BR4
variable {κ : bK} {Γ0 : bG} {l0 : Launch} {cc : ByteArray} {own : String} {nL fr lo : Nat} {st : bS} {pc : Nat} {L : List (Nat × bV)} {stk : List bV} {x y a : Int}
/-- getfield: the object's class by its tag t + 1; k the field's place, r its region -/
theorem r_get (hκ : bOk κ Γ0 l0 cc own nL fr lo) {t index k r : Nat} {ref C : String} {T : u_T} {N : Nat} (ht : bg st 0 a 0 = ((t + 1 : Nat) : Int)) (hc : bcls[t]? = some (C, T, N)) (hin : ∀ w ∈ u_ws C T N, w ∈ lw_all) (hk : k < N) (hr : bfr t k = r)
    (hlink : Cond.fieldLink own index ref (T k).2.1 (T k).2.2.1 ∈ lw_all) (hs : (T k).1 = ref ∨ Cond.sameField ref (T k).1 (T k).2.1 (T k).2.2.1 ∈ lw_all) (hd : decode cc pc = .ok (.getfield index, 3)) (kk : bJ κ st (pc + 3) L ((r % 4, bg st r a 0) :: stk)) : bJ κ st pc L ((2, a) :: stk) := by
  subst hr
  refine bJ_same hκ (fun p l e R s m args below meth c Q Γ s0 n H locs ls k1 k2 hn hx hb hK hts hown hR hL k' => ?_) kk
  obtain ⟨b, rfl, -, -⟩ := hR.nat (a := a) (by rw [ht]; omega)
  have hP := hR.P ht hc
  have h := k' ls hL
  have e : bd (2, (b : Int)) = .ref b := brv_nat b
  rw [List.map_cons, e]
  refine va_get (D := Γ.1) (cl := bcls) (tys := bty Γ) (ci := t) hx hb hts hin hown hK.1 hP 0 rfl hc k hk (hts _ hlink) (fun x hx => ?_) (v := bval (bfr t k) (bg st (bfr t k) b 0)) ?_ hd h
  · rcases hs with hs | hs
    · rw [← hs]; exact hx
    · exact u_same (hts _ hs) x hx
  · simp [hk]
/-- what a field of this region may be given: of the small types only their own numbers -/
def bfit (ty : FieldType) (v : Int) : Prop := match ty with
  | .int | .long | .object _ | .array _ => True
  | .boolean => v = 0 ∨ v = 1
  | .byte => -128 ≤ v ∧ v < 128
  | _ => False
theorem bfit_ok {ty : FieldType} {r : Nat} {v : Int} (h : bfit ty v) (hr : r % 4 = bkd ty) : narrow ty (bval r v) = bval r v ∧ fits ty (bval r v) = true := by
  unfold bval
  cases ty with
  | int => rw [hr]; exact ⟨rfl, rfl⟩
  | long => rw [hr]; exact ⟨rfl, rfl⟩
  | object n =>
    rw [hr]
    show narrow _ (brv v) = brv v ∧ fits _ (brv v) = true
    rcases brv_or v with e | ⟨q, e⟩ <;> rw [e] <;> exact ⟨rfl, rfl⟩
  | array n =>
    rw [hr]
    show narrow _ (brv v) = brv v ∧ fits _ (brv v) = true
    rcases brv_or v with e | ⟨q, e⟩ <;> rw [e] <;> exact ⟨rfl, rfl⟩
  | boolean => rw [hr]; rcases h with rfl | rfl <;> exact ⟨by decide, by decide⟩
  | byte =>
    rw [hr]
    obtain ⟨h1, h2⟩ := h
    obtain ⟨j, rfl⟩ : ∃ j : Fin 256, v = (j : Int) - 128 := ⟨⟨(v + 128).toNat, by omega⟩, by simp; omega⟩
    have : ∀ j : Fin 256, narrow .byte (bd (0, (j : Int) - 128)) = bd (0, (j : Int) - 128) ∧ fits .byte (bd (0, (j : Int) - 128)) = true := by decide +kernel
    exact this j
  | _ => exact h.elim
theorem bRep.put {Γ : bG} {st : bS} {H H' : Heap} {a t k r N : Nat} {C : String} {T : u_T} {v : Int} (hR : bRep Γ st H) (hlow : Γ.2.1 ≤ a) (ht : bg st 0 (a : Int) 0 = ((t + 1 : Nat) : Int)) (hc : bcls[t]? = some (C, T, N)) (hk : k < N) (hr : bfr t k = r) (hsz : H'.size = H.size) (hH : ∀ q : Nat, q ≠ a → H'[q]? = H[q]?)
    (hnew : t_OB a (Γ.1.1 t) N (Γ.1.2 t) H' (updV (fun j => bval (bfr t j) (bg st (bfr t j) a 0)) k (bval r v))) : bRep Γ (bw st r a 0 v) H' := by
  have ht25 := bcls_lt hc
  have hN := bcls_len t ht25 _ hc
  have h32 := bfr_ge t ht25 k (by rw [← hN]; exact hk)
  rw [hr] at h32
  refine hR.upd a hlow rfl (fun r' b i hb => ?_) ?_ ?_ hsz hH (fun t2 h2 h3 => ?_)
  · show (if r' = r ∧ b = (a : Int) ∧ i = 0 then v else _) = _
    rw [if_neg (by intro q; exact hb q.2.1)]
  · show (if 0 = r ∧ (a : Int) = (a : Int) ∧ (0 : Int) = 0 then v else _) = _
    rw [if_neg (by intro q; omega)]
  · show (if 1 = r ∧ (-1 : Int) = (a : Int) ∧ (0 : Int) = 0 then v else _) = _
    rw [if_neg (by intro q; omega)]
  · have e : t2 = t + 1 := by
      have h4 : bg st 0 (a : Int) 0 = (t2 : Int) := h2
      rw [ht] at h4
      omega
    subst e
    have ht25 := bcls_lt hc
    unfold bat
    rw [if_pos (by omega)]
    refine ⟨fun q9 => absurd q9 (by omega), fun _ => ?_⟩
    simp only [Nat.add_sub_cancel]
    refine ⟨_, hc, hnew.to fun j hj => ?_⟩
    show updV _ k (bval r v) j = bval (bfr t j) (if bfr t j = r ∧ (a : Int) = (a : Int) ∧ (0 : Int) = 0 then v else st.1 (bfr t j) a 0)
    by_cases e : j = k
    · subst e
      rw [hr]
      simp [updV]
    · have := bfr_inj t ht25 j k (by rw [← hN]; exact hj) (by rw [← hN]; exact hk) e
      rw [hr] at this
      simp [updV, e, this, bg]
theorem r_put (hκ : bOk κ Γ0 l0 cc own nL fr lo) {t index k r : Nat} {ref C : String} {T : u_T} {N : Nat} {ty : FieldType} (ty0 : Nat → FieldType) (hty : ∀ k, k < N → parseFieldDescriptor (T k).2.2.1 = some (ty0 k)) (hnm : ∀ a, a < N → ∀ b, b < N → a ≠ b → (T a).2.1 ≠ (T b).2.1) (ht : bg st 0 a 0 = ((t + 1 : Nat) : Int)) (hc : bcls[t]? = some (C, T, N)) (hin : ∀ w ∈ u_ws C T N, w ∈ lw_all) (hk : k < N) (hr : bfr t k = r)
    (hlink : Cond.fieldLink own index ref (T k).2.1 (T k).2.2.1 ∈ lw_all) (hs : (T k).1 = ref ∨ Cond.sameField ref (T k).1 (T k).2.1 (T k).2.2.1 ∈ lw_all) (hfin : (T k).2.2.2 = false) (hty2 : ty0 k = ty) (hr4 : r % 4 = bkd ty) (hv : bfit ty x) (hlo : t ≠ 19 ∨ bg st 1 (-1) 0 ≤ a)
    (hd : decode cc pc = .ok (.putfield index, 3)) (kk : ∀ st', st' = bw st r a 0 x → bJ κ st' (pc + 3) L stk) : bJ κ st pc L ((r % 4, x) :: (2, a) :: stk) := by
  have k0 := kk _ rfl
  obtain ⟨p, l, e, R, s, m, args, below, meth, c, Q, Γ, s0, n⟩ := κ
  obtain ⟨hx, hb, o3, hown, hts, hK, -⟩ := hκ
  intro hle H locs ls hR hS hL
  obtain ⟨b, rfl, hlow, hlt⟩ := hR.nat (a := a) (by rw [ht]; omega)
  have hlow : Γ.2.1 ≤ b := by
    have h9 := bcls_lt hc
    have h8 : bg st 1 (-1) 0 = (Γ.2.1 : Int) := hR.2.2.2.2.1.1
    omega
  have hOB := hR.obj ht hc
  have hap := va_apart (own := own) hts hin ty0 hty hnm hK.1 hc
  obtain ⟨hSl, hfc, kC, hkC, hkind⟩ := hK.1.1 t _ hc
  obtain ⟨cf, kf, fi, f, hi, hsl⟩ := hSl k hk
  have hlay := hts _ (hin _ (u_in_lay hk))
  unfold u_lay at hlay
  rw [if_neg (by rw [hfin]; decide)] at hlay
  have hst := (u_facts hfc hkC (u_lays hts hin hk) hi).1
  have hfn := bfit_ok (r := r) hv hr4
  have hd2 : parseFieldDescriptor (T k).2.2.1 = some ty := by rw [hty k hk, hty2]
  have h6 := u_store hfc hkC hkind hlay hi hd2 hfn.1 hfn.2
  have hi2 : s.fieldFound? ref (T k).2.1 (T k).2.2.1 = some (cf, kf, fi, f) := by
    rcases hs with hs | hs
    · rw [← hs]; exact hi
    · exact u_same (hts _ hs) _ hi
  obtain ⟨cell, q1, q2, q3, q4⟩ := hOB
  have e : bd (2, (b : Int)) = .ref b := brv_nat b
  have e2 : bd (r % 4, x) = bval r x := rfl
  rw [List.map_cons, List.map_cons, e, e2]
  refine W.putK hx hb (f := f) ⟨hown, hts _ hlink, ⟨_, _, _, hi2⟩, hst⟩ (by rw [q2]; exact h6) q1 q3 (by rw [hsl]; exact k2_hasslot (q4 k hk)) rfl rfl hd fun H' e1 e2 e3 => ?_
  rw [hsl] at e1 ⊢
  exact k0 hle H' _ ls (hR.put hlow ht hc hk hr e2 e3 ⟨_, e1, q2, q3, hr ▸ t_set q4 hap hk _⟩) (hS.put e2 e3 hlow) hL
theorem r_putF (hκ : bOk κ Γ0 l0 cc own nL fr lo) (hinit : ∀ (p : Program) (l : Launch) (e : Env) (R : Room) (s : State) (m : MethodId) (args : Array Value) (below : List Frame) (meth : Method) (c : Code) (Q : State → Prop) (Γ : bG) (s0 : bS) (n : Nat), κ = (p, l, e, R, s, m, args, below, meth, c, Q, Γ, s0, n) → meth.name = "<init>") {t index k r : Nat} {ref C : String} {T : u_T} {N : Nat} {ty : FieldType} (ty0 : Nat → FieldType) (hty : ∀ k, k < N → parseFieldDescriptor (T k).2.2.1 = some (ty0 k)) (hnm : ∀ a, a < N → ∀ b, b < N → a ≠ b → (T a).2.1 ≠ (T b).2.1) (ht : bg st 0 a 0 = ((t + 1 : Nat) : Int)) (hc : bcls[t]? = some (C, T, N)) (hin : ∀ w ∈ u_ws C T N, w ∈ lw_all) (hk : k < N) (hr : bfr t k = r)
    (hlink : Cond.fieldLink own index ref (T k).2.1 (T k).2.2.1 ∈ lw_all) (hs : (T k).1 = ref) (hfin : (T k).2.2.2 = true) (hdecl : (T k).1 = own) (hty2 : ty0 k = ty) (hr4 : r % 4 = bkd ty) (hv : bfit ty x) (hlo : t ≠ 19 ∨ bg st 1 (-1) 0 ≤ a)
    (hd : decode cc pc = .ok (.putfield index, 3)) (kk : ∀ st', st' = bw st r a 0 x → bJ κ st' (pc + 3) L stk) : bJ κ st pc L ((r % 4, x) :: (2, a) :: stk) := by
  have k0 := kk _ rfl
  obtain ⟨p, l, e, R, s, m, args, below, meth, c, Q, Γ, s0, n⟩ := κ
  have hin2 := hinit _ _ _ _ _ _ _ _ _ _ _ _ _ _ rfl
  obtain ⟨hx, hb, o3, hown, hts, hK, -⟩ := hκ
  intro hle H locs ls hR hS hL
  obtain ⟨b, rfl, hlow, hlt⟩ := hR.nat (a := a) (by rw [ht]; omega)
  have hlow : Γ.2.1 ≤ b := by
    have h9 := bcls_lt hc
    have h8 : bg st 1 (-1) 0 = (Γ.2.1 : Int) := hR.2.2.2.2.1.1
    omega
  have hOB := hR.obj ht hc
  have hap := va_apart (own := own) hts hin ty0 hty hnm hK.1 hc
  obtain ⟨hSl, hfc, kC, hkC, hkind⟩ := hK.1.1 t _ hc
  obtain ⟨cf, kf, fi, f, hi, hsl⟩ := hSl k hk
  have hlay := hts _ (hin _ (u_in_lay hk))
  unfold u_lay at hlay
  rw [if_pos hfin] at hlay
  have hst := (u_facts hfc hkC (u_lays hts hin hk) hi).1
  have hcf : m.cls = cf := by
    obtain ⟨_, _, c', _, _, _, -, -, hf', -, -, -, hown2, -⟩ := Cond.laysFinal_spec hlay
    have e1 : c' = cf := by have := hi.symm.trans hf'; simp at this; exact this.1.symm
    rw [hdecl] at hown2
    rw [← e1]; exact Option.some.inj (hown.symm.trans hown2)
  have hfn := bfit_ok (r := r) hv hr4
  have hd2 : parseFieldDescriptor (T k).2.2.1 = some ty := by rw [hty k hk, hty2]
  have h6 := u_fits hfc hkC hkind (Or.inr hlay) hi hd2 hfn.1 hfn.2
  have hi2 : s.fieldFound? ref (T k).2.1 (T k).2.2.1 = some (cf, kf, fi, f) := by rw [← hs]; exact hi
  obtain ⟨cell, q1, q2, q3, q4⟩ := hOB
  have e : bd (2, (b : Int)) = .ref b := brv_nat b
  have e2 : bd (r % 4, x) = bval r x := rfl
  rw [List.map_cons, List.map_cons, e, e2]
  refine W.putFinK hx hb hown (hts _ hlink) hi2 hst hcf hin2 (by rw [q2]; exact h6) q1 q3 (by rw [hsl]; exact k2_hasslot (q4 k hk)) rfl rfl hd fun H' e1 e2 e3 => ?_
  rw [hsl] at e1 ⊢
  exact k0 hle H' _ ls (hR.put hlow ht hc hk hr e2 e3 ⟨_, e1, q2, q3, hr ▸ t_set q4 hap hk _⟩) (hS.put e2 e3 hlow) hL
theorem va_S.pushed {A : Nat → Prop} {H0 H H1 : Heap} {locs : List Loc} (h : va_S A H0 H locs) (z : H1.size = H.size + 1) (oq : ∀ q : Nat, q < H.size → H1[q]? = H[q]?) : va_S A H0 H1 locs :=
  ⟨by have := h.1; omega, fun q h1 h2 => by rw [oq q (by have := h.1; omega)]; exact h.2.1 q h1 h2, h.2.2⟩
/-- new: an object of class t, all fields at their start -/
theorem r_new (hκ : bOk κ Γ0 l0 cc own nL fr lo) {t index n : Nat} {C : String} {T : u_T} {N : Nat} (ty0 : Nat → FieldType) (hty : ∀ k, k < N → parseFieldDescriptor (T k).2.2.1 = some (ty0 k)) (hdf : ∀ k, k < N → defaultValue (ty0 k) = bval (bfr t k) (bdf (bfr t k))) (hc : bcls[t]? = some (C, T, N)) (hin : ∀ w ∈ u_ws C T N, w ∈ lw_all)
    (hlink : Cond.classLink own index C ∈ lw_all) (hinst : Cond.instantiable C n ∈ lw_all) (hini : Cond.initialized C ∈ lw_all) (hroom : bc st + 1 ≤ bCM ∧ bk st + n ≤ bKM) (hd : decode cc pc = .ok (.new index, 3)) (kk : ∀ st', st' = bnw st ((t + 1 : Nat) : Int) 0 n → bJ κ st' (pc + 3) L ((2, (bnx st : Int)) :: stk)) : bJ κ st pc L stk := by
  have k0 := kk _ rfl
  obtain ⟨p, l, e, R, s, m, args, below, meth, c, Q, Γ, s0, nn⟩ := κ
  obtain ⟨hx, hb, o3, hown, hts, hK, o7, o8, o9, o10, -⟩ := hκ
  intro hle H locs ls hR hS hL
  have ht25 := bcls_lt hc
  have hN := bcls_len t ht25 _ hc
  obtain ⟨l1, l2, l3, l4⟩ := id hle
  obtain ⟨r1, r2⟩ := hroom
  refine W.newcK hx hb hown (hts _ hlink) (hts _ hinst) (hts _ hini) rfl hd (by rw [o9]; omega) (by rw [o10]; omega) (hK.1.1 t _ hc).2.1 hR.1 fun H' kC hkC hcell hz hH => ?_
  have hsz : H'.size = H.size + 1 := by rw [hz, hR.1]
  have hH2 : ∀ q : Nat, q < H.size → H'[q]? = H[q]? := fun q hq => hH q (by rw [← hR.1]; exact hq)
  have hborn := u_born ty0 hts hin (hK.1.1 t _ hc) hkC hcell hty
  have hat : bat Γ (bnw st ((t + 1 : Nat) : Int) 0 n) H.size H' (t + 1) := by
    unfold bat
    rw [if_pos (by omega)]
    refine ⟨fun q9 => absurd q9 (by omega), fun _ => ?_⟩
    simp only [Nat.add_sub_cancel]
    rw [hR.1]
    refine ⟨_, hc, hborn.to fun j hj => ?_⟩
    rw [hdf j hj]
    have h32 := bfr_ge t ht25 j (by rw [← hN]; exact hj)
    show _ = bval (bfr t j) (if ((bnx st : Nat) : Int) = (st.2.1 : Int) then (if bfr t j = 0 then _ else if bfr t j = 4 then _ else bdf (bfr t j)) else _)
    rw [if_pos (show ((bnx st : Nat) : Int) = (st.2.1 : Int) from rfl), if_neg (by omega), if_neg (by omega)]
  have hR' := hR.push (t + 1) n 0 (by omega) hsz hH2 hat
  have key := k0 ⟨by rw [bc_bnw]; omega, by rw [bc_bnw]; omega, by rw [bk_bnw]; omega, by rw [bk_bnw]; omega⟩ H' locs ls hR' (hS.pushed hsz hH2) hL
  rw [bc_bnw, bk_bnw] at key
  rw [show bc st - bc s0 + 1 = bc st + 1 - bc s0 by omega, show bk st - bk s0 + n = bk st + n - bk s0 by omega]
  have e : bd (2, (bnx st : Int)) = .ref (bnx st) := brv_nat _
  rw [List.map_cons, e] at key
  exact key
end BR4
/-! BASE 5: rows: arrays -/
theorem bRep.ast {Γ : bG} {st : bS} {H H' : Heap} {a t er : Nat} {i w : Int} {v : Value} (hR : bRep Γ st H) (hlow : Γ.2.1 ≤ a) (ht : bg st 0 (a : Int) 0 = ((t + 1000 : Nat) : Int)) (her : ber (t + 1000) = er) (h8 : 8 ≤ er) (hv : v = bval er w) (hfit : ∀ ty, btys[t]? = some ty → fits ty v = true) (h0 : 0 ≤ i) (hsz : H'.size = H.size) (hH : ∀ q : Nat, q ≠ a → H'[q]? = H[q]?)
    (hnew : H'[a]? = some ((arrV (Γ.2.2.2.1 t) (bg st 4 a 0).toNat (fun j => bval (ber (t + 1000)) (bg st (ber (t + 1000)) a j))).setSlot i.toNat v)) : bRep Γ (bw st er a i w) H' := by
  refine hR.upd a hlow rfl (fun r' b j hb => ?_) ?_ ?_ hsz hH (fun t2 h2 h3 => ?_)
  · show (if r' = er ∧ b = (a : Int) ∧ j = i then w else _) = _
    rw [if_neg (by intro q; exact hb q.2.1)]
  · show (if 0 = er ∧ (a : Int) = (a : Int) ∧ (0 : Int) = i then w else _) = _
    rw [if_neg (by intro q; omega)]
  · show (if 1 = er ∧ (-1 : Int) = (a : Int) ∧ (0 : Int) = i then w else _) = _
    rw [if_neg (by intro q; omega)]
  · have e : t2 = t + 1000 := by
      have h4 : bg st 0 (a : Int) 0 = (t2 : Int) := h2
      rw [ht] at h4
      omega
    subst e
    have e4 : (bw st er a i w).1 4 a 0 = bg st 4 a 0 := by
      show (if 4 = er ∧ (a : Int) = (a : Int) ∧ (0 : Int) = i then w else _) = _
      rw [if_neg (by intro q; omega)]
      rfl
    unfold bat
    rw [if_neg (by omega), e4, Nat.add_sub_cancel]
    refine ⟨?_, (hR.arr ht).2.1, (hR.arr ht).2.2, fun j ty hj hty => ?_⟩
    case refine_2 =>
      show fits ty (bval (ber (t + 1000)) (if ber (t + 1000) = er ∧ (a : Int) = (a : Int) ∧ (j : Int) = i then w else st.1 (ber (t + 1000)) a j)) = true
      by_cases e : (j : Int) = i
      · rw [if_pos ⟨her, rfl, e⟩, her, ← hv]
        exact hfit ty hty
      · rw [if_neg (by intro q; exact e q.2.2)]
        exact hR.arrfit ht hj hty
    rw [hnew, arrV_store, her]
    congr 2
    funext j
    show updV _ _ _ _ = bval er (if er = er ∧ (a : Int) = (a : Int) ∧ (j : Int) = i then w else st.1 er a j)
    unfold updV
    by_cases e : j = i.toNat
    · rw [if_pos e, if_pos ⟨rfl, rfl, by omega⟩, hv]
    · rw [if_neg e, if_neg (by intro q; omega)]
      rfl
def b_nz (x : Int) : Int := (match narrow .boolean (.int (i32 x)) with | .int v => v | _ => 0).toInt
theorem b_nz_ok (x : Int) : narrow .boolean (.int (i32 x)) = bd (0, b_nz x) := by
  have h : ∀ v : Int32, narrow .boolean (.int v) = .int (match narrow .boolean (.int v) with | .int v => v | _ => 0) := fun v => by simp [narrow]
  rw [h]
  exact congrArg Value.int (i32_of _).symm
theorem fit_i2b (x : Int32) : fits .byte (narrow .byte (.int x)) = true := pk_fb x
theorem fit_nz (x : Int32) : fits .boolean (narrow .boolean (.int x)) = true := by
  have h : x &&& 1 = 0 ∨ x &&& 1 = 1 := by
    obtain ⟨j, hj, e⟩ := pk_andE x (m := 1) 1 (by decide)
    rcases (show j = 0 ∨ j = 1 by omega) with h | h
    · subst h; exact Or.inl e
    · subst h; exact Or.inr e
  simpa [narrow, fits] using h
theorem fit_ref {ty : FieldType} (h : ty.isReference = true) (x : Int) : fits ty (brv x) = true := by
  cases ty with
  | object n => rcases brv_or x with e | ⟨q, e⟩ <;> rw [e] <;> rfl
  | array n => rcases brv_or x with e | ⟨q, e⟩ <;> rw [e] <;> rfl
  | _ => cases h
def bnullOr (ci : Nat) (x : Int) (st : bS) : Prop := x < 0 ∨ bg st 0 x 0 = ((ci + 1 : Nat) : Int)
section BR5
variable {κ : bK} {Γ0 : bG} {l0 : Launch} {cc : ByteArray} {own : String} {nL fr lo : Nat} {st : bS} {pc : Nat} {L : List (Nat × bV)} {stk : List bV} {x y a i : Int}
theorem i32_ofNat (q : Nat) : Int32.ofNat ((q : Int).toNat) = i32 (q : Int) := by
  show (⟨⟨BitVec.ofNat 32 _⟩⟩ : Int32) = ⟨⟨BitVec.ofInt 32 (q : Int)⟩⟩
  rw [BitVec.ofInt_natCast, Int.toNat_natCast]
theorem bin_ix {i : Int} {n : Int} (h : 0 ≤ i ∧ i < n) (hn : n < 2147483648) : ¬ (i32 i < 0 ∨ n.toNat ≤ (i32 i).toNatClampNeg) ∧ (i32 i).toNatClampNeg = i.toNat := by
  have e := i32_clamp h.1 (by omega)
  refine ⟨?_, e⟩
  rw [e]
  intro q
  rcases q with q | q
  · have h0 : (0 : Int32) = i32 0 := rfl
    rw [h0, i32_lt (by omega) (by omega)] at q
    omega
  · omega
theorem r_alen (hκ : bOk κ Γ0 l0 cc own nL fr lo) {t : Nat} (ht : bg st 0 a 0 = ((t + 1000 : Nat) : Int)) {ty : FieldType} (hty : btys[t]? = some ty) (hd : decode cc pc = .ok (.arraylength, 1)) (k : bJ κ st (pc + 1) L ((0, bg st 4 a 0) :: stk)) : bJ κ st pc L ((2, a) :: stk) := by
  refine bJ_same hκ (fun p l e R s m args below meth c Q Γ s0 n H locs ls k1 k2 hn hx hb hK hts hown hR hL kk => ?_) k
  obtain ⟨b, rfl, -, -⟩ := hR.nat (a := a) (by rw [ht]; omega)
  obtain ⟨hc, h1, h2⟩ := hR.arr ht
  have e : bd (2, (b : Int)) = .ref b := brv_nat b
  rw [List.map_cons, e]
  have hk2 : (bty Γ)[t]? = some (Γ.2.2.2.1 t, ty) := by simp [bty, hty]
  refine W.alen (n := i32 (bg st 4 b 0)) hx hb hc ((hK.1.2 t _ hk2).1 _ _) ?_ rfl rfl hd (kk ls hL)
  rw [arrV_size]
  obtain ⟨q, hq⟩ : ∃ q : Nat, bg st 4 b 0 = (q : Int) := ⟨(bg st 4 b 0).toNat, by omega⟩
  rw [hq]
  show Int32.ofNat _ = Int32.ofInt _
  exact i32_ofNat q
theorem r_iald (hκ : bOk κ Γ0 l0 cc own nL fr lo) (ht : bg st 0 a 0 = 1003) (hi : 0 ≤ i ∧ i < bg st 4 a 0) (hd : decode cc pc = .ok (.iaload, 1)) (k : bJ κ st (pc + 1) L ((0, bg st 20 a i) :: stk)) : bJ κ st pc L ((0, i) :: (2, a) :: stk) := by
  refine bJ_same hκ (fun p l e R s m args below meth c Q Γ s0 n H locs ls k1 k2 hn hx hb hK hts hown hR hL kk => ?_) k
  obtain ⟨b, rfl, -, -⟩ := hR.nat (a := a) (by rw [ht]; omega)
  obtain ⟨hc, h1, h2⟩ := hR.arr (t := 3) ht
  obtain ⟨g1, g2⟩ := bin_ix hi h2
  have e : bd (2, (b : Int)) = .ref b := brv_nat b
  rw [List.map_cons, List.map_cons, e]
  refine W.iald (v := bd (0, bg st 20 b i)) hx hb hc ((hK.1.2 3 (Γ.2.2.2.1 3, .int) rfl).1 _ _) (fun h => by cases h) (by rw [arrV_size]; exact g1) ?_ rfl rfl hd (kk ls hL)
  rw [g2, arrV_read _ _ (by omega), show ((i.toNat : Nat) : Int) = i by omega]
  rfl
theorem r_isld (hκ : bOk κ Γ0 l0 cc own nL fr lo) (ht : bg st 0 a 0 = 1011) (hi : 0 ≤ i ∧ i < bg st 4 a 0) (hd : decode cc pc = .ok (.iaload, 1)) (k : bJ κ st (pc + 1) L ((0, bg st 28 a i) :: stk)) : bJ κ st pc L ((0, i) :: (2, a) :: stk) := by
  refine bJ_same hκ (fun p l e R s m args below meth c Q Γ s0 n H locs ls k1 k2 hn hx hb hK hts hown hR hL kk => ?_) k
  obtain ⟨b, rfl, -, -⟩ := hR.nat (a := a) (by rw [ht]; omega)
  obtain ⟨hc, h1, h2⟩ := hR.arr (t := 11) ht
  obtain ⟨g1, g2⟩ := bin_ix hi h2
  have e : bd (2, (b : Int)) = .ref b := brv_nat b
  rw [List.map_cons, List.map_cons, e]
  refine W.iald (v := bd (0, bg st 28 b i)) hx hb hc ((hK.1.2 11 (Γ.2.2.2.1 11, .int) rfl).1 _ _) (fun h => by cases h) (by rw [arrV_size]; exact g1) ?_ rfl rfl hd (kk ls hL)
  rw [g2, arrV_read _ _ (by omega), show ((i.toNat : Nat) : Int) = i by omega]
  rfl
theorem r_bald (hκ : bOk κ Γ0 l0 cc own nL fr lo) (ht : bg st 0 a 0 = 1000) (hi : 0 ≤ i ∧ i < bg st 4 a 0) (hd : decode cc pc = .ok (.baload, 1)) (k : bJ κ st (pc + 1) L ((0, bg st 8 a i) :: stk)) : bJ κ st pc L ((0, i) :: (2, a) :: stk) := by
  refine bJ_same hκ (fun p l e R s m args below meth c Q Γ s0 n H locs ls k1 k2 hn hx hb hK hts hown hR hL kk => ?_) k
  obtain ⟨b, rfl, -, -⟩ := hR.nat (a := a) (by rw [ht]; omega)
  obtain ⟨hc, h1, h2⟩ := hR.arr (t := 0) ht
  obtain ⟨g1, g2⟩ := bin_ix hi h2
  have e : bd (2, (b : Int)) = .ref b := brv_nat b
  rw [List.map_cons, List.map_cons, e]
  refine W.bald (v := bd (0, bg st 8 b i)) hx hb hc ((hK.1.2 0 (Γ.2.2.2.1 0, .byte) rfl).1 _ _) (fun h => by cases h) (by rw [arrV_size]; exact g1) ?_ rfl rfl hd (kk ls hL)
  rw [g2, arrV_read _ _ (by omega), show ((i.toNat : Nat) : Int) = i by omega]
  rfl
theorem r_zald (hκ : bOk κ Γ0 l0 cc own nL fr lo) (ht : bg st 0 a 0 = 1001) (hi : 0 ≤ i ∧ i < bg st 4 a 0) (hd : decode cc pc = .ok (.baload, 1)) (k : bJ κ st (pc + 1) L ((0, bg st 12 a i) :: stk)) : bJ κ st pc L ((0, i) :: (2, a) :: stk) := by
  refine bJ_same hκ (fun p l e R s m args below meth c Q Γ s0 n H locs ls k1 k2 hn hx hb hK hts hown hR hL kk => ?_) k
  obtain ⟨b, rfl, -, -⟩ := hR.nat (a := a) (by rw [ht]; omega)
  obtain ⟨hc, h1, h2⟩ := hR.arr (t := 1) ht
  obtain ⟨g1, g2⟩ := bin_ix hi h2
  have e : bd (2, (b : Int)) = .ref b := brv_nat b
  rw [List.map_cons, List.map_cons, e]
  refine W.zald (v := bd (0, bg st 12 b i)) hx hb hc ((hK.1.2 1 (Γ.2.2.2.1 1, .boolean) rfl).1 _ _) (fun h => by cases h) (by rw [arrV_size]; exact g1) ?_ rfl rfl hd (kk ls hL)
  rw [g2, arrV_read _ _ (by omega), show ((i.toNat : Nat) : Int) = i by omega]
  rfl
theorem r_sald (hκ : bOk κ Γ0 l0 cc own nL fr lo) (ht : bg st 0 a 0 = 1002) (hi : 0 ≤ i ∧ i < bg st 4 a 0) (hd : decode cc pc = .ok (.saload, 1)) (k : bJ κ st (pc + 1) L ((0, bg st 16 a i) :: stk)) : bJ κ st pc L ((0, i) :: (2, a) :: stk) := by
  refine bJ_same hκ (fun p l e R s m args below meth c Q Γ s0 n H locs ls k1 k2 hn hx hb hK hts hown hR hL kk => ?_) k
  obtain ⟨b, rfl, -, -⟩ := hR.nat (a := a) (by rw [ht]; omega)
  obtain ⟨hc, h1, h2⟩ := hR.arr (t := 2) ht
  obtain ⟨g1, g2⟩ := bin_ix hi h2
  have e : bd (2, (b : Int)) = .ref b := brv_nat b
  rw [List.map_cons, List.map_cons, e]
  refine W.sald (v := bd (0, bg st 16 b i)) hx hb hc ((hK.1.2 2 (Γ.2.2.2.1 2, .short) rfl).1 _ _) (fun h => by cases h) (by rw [arrV_size]; exact g1) ?_ rfl rfl hd (kk ls hL)
  rw [g2, arrV_read _ _ (by omega), show ((i.toNat : Nat) : Int) = i by omega]
  rfl
theorem r_cald (hκ : bOk κ Γ0 l0 cc own nL fr lo) (ht : bg st 0 a 0 = 1004) (hi : 0 ≤ i ∧ i < bg st 4 a 0) (hd : decode cc pc = .ok (.caload, 1)) (k : bJ κ st (pc + 1) L ((0, bg st 24 a i) :: stk)) : bJ κ st pc L ((0, i) :: (2, a) :: stk) := by
  refine bJ_same hκ (fun p l e R s m args below meth c Q Γ s0 n H locs ls k1 k2 hn hx hb hK hts hown hR hL kk => ?_) k
  obtain ⟨b, rfl, -, -⟩ := hR.nat (a := a) (by rw [ht]; omega)
  obtain ⟨hc, h1, h2⟩ := hR.arr (t := 4) ht
  obtain ⟨g1, g2⟩ := bin_ix hi h2
  have e : bd (2, (b : Int)) = .ref b := brv_nat b
  rw [List.map_cons, List.map_cons, e]
  refine W.cald (v := bd (0, bg st 24 b i)) hx hb hc ((hK.1.2 4 (Γ.2.2.2.1 4, .char) rfl).1 _ _) (fun h => by cases h) (by rw [arrV_size]; exact g1) ?_ rfl rfl hd (kk ls hL)
  rw [g2, arrV_read _ _ (by omega), show ((i.toNat : Nat) : Int) = i by omega]
  rfl
theorem r_lald (hκ : bOk κ Γ0 l0 cc own nL fr lo) (ht : bg st 0 a 0 = 1005) (hi : 0 ≤ i ∧ i < bg st 4 a 0) (hd : decode cc pc = .ok (.laload, 1)) (k : bJ κ st (pc + 1) L ((1, bg st 9 a i) :: stk)) : bJ κ st pc L ((0, i) :: (2, a) :: stk) := by
  refine bJ_same hκ (fun p l e R s m args below meth c Q Γ s0 n H locs ls k1 k2 hn hx hb hK hts hown hR hL kk => ?_) k
  obtain ⟨b, rfl, -, -⟩ := hR.nat (a := a) (by rw [ht]; omega)
  obtain ⟨hc, h1, h2⟩ := hR.arr (t := 5) ht
  obtain ⟨g1, g2⟩ := bin_ix hi h2
  have e : bd (2, (b : Int)) = .ref b := brv_nat b
  rw [List.map_cons, List.map_cons, e]
  refine W.lald (v := bd (1, bg st 9 b i)) hx hb hc ((hK.1.2 5 (Γ.2.2.2.1 5, .long) rfl).1 _ _) (fun h => by cases h) (by rw [arrV_size]; exact g1) ?_ rfl rfl hd (kk ls hL)
  rw [g2, arrV_read _ _ (by omega), show ((i.toNat : Nat) : Int) = i by omega]
  rfl
theorem r_aald (hκ : bOk κ Γ0 l0 cc own nL fr lo) {t : Nat} (h6 : 6 ≤ t ∧ t < 11) (ht : bg st 0 a 0 = ((t + 1000 : Nat) : Int)) (hi : 0 ≤ i ∧ i < bg st 4 a 0) (hd : decode cc pc = .ok (.aaload, 1)) (k : bJ κ st (pc + 1) L ((2, bg st 10 a i) :: stk)) : bJ κ st pc L ((0, i) :: (2, a) :: stk) := by
  refine bJ_same hκ (fun p l e R s m args below meth c Q Γ s0 n H locs ls k1 k2 hn hx hb hK hts hown hR hL kk => ?_) k
  obtain ⟨b, rfl, -, -⟩ := hR.nat (a := a) (by rw [ht]; omega)
  obtain ⟨hc, h1, h2⟩ := hR.arr ht
  obtain ⟨g1, g2⟩ := bin_ix hi h2
  have her : ber (t + 1000) = 10 := by
    obtain ⟨q1, q2⟩ := h6
    rcases (show t = 6 ∨ t = 7 ∨ t = 8 ∨ t = 9 ∨ t = 10 by omega) with h | h | h | h | h <;> subst h <;> rfl
  obtain ⟨ty, hty, href⟩ : ∃ ty, btys[t]? = some ty ∧ ty.isReference = true := by
    obtain ⟨q1, q2⟩ := h6
    rcases (show t = 6 ∨ t = 7 ∨ t = 8 ∨ t = 9 ∨ t = 10 by omega) with h | h | h | h | h <;> subst h <;> exact ⟨_, rfl, rfl⟩
  have hk2 : (bty Γ)[t]? = some (Γ.2.2.2.1 t, ty) := by simp [bty, hty]
  have e : bd (2, (b : Int)) = .ref b := brv_nat b
  rw [List.map_cons, List.map_cons, e]
  refine W.aald (v := bd (2, bg st 10 b i)) hx hb hc ((hK.1.2 t _ hk2).1 _ _) href (fun h => by cases h) (by rw [arrV_size]; exact g1) ?_ rfl rfl hd (kk ls hL)
  rw [g2, arrV_read _ _ (by omega), show ((i.toNat : Nat) : Int) = i by omega, her]
  rfl
theorem r_iast (hκ : bOk κ Γ0 l0 cc own nL fr lo) (ht : bg st 0 a 0 = 1003) (hi : 0 ≤ i ∧ i < bg st 4 a 0) (hd : decode cc pc = .ok (.iastore, 1)) (kk : ∀ st', st' = bw st 20 a i (x) → bJ κ st' (pc + 1) L stk) : bJ κ st pc L ((0, x) :: (0, i) :: (2, a) :: stk) := by
  have k0 := kk _ rfl
  obtain ⟨p, l, e, R, s, m, args, below, meth, c, Q, Γ, s0, n⟩ := κ
  obtain ⟨hx, hb, o3, hown, hts, hK, -⟩ := hκ
  intro hle H locs ls hR hS hL
  obtain ⟨b, rfl, hlow, -⟩ := hR.nat (a := a) (by rw [ht]; omega)
  have h8 : bg st 1 (-1) 0 = (Γ.2.1 : Int) := hR.2.2.2.2.1.1
  have hlow : Γ.2.1 ≤ b := by omega
  obtain ⟨hc, h1, h2⟩ := hR.arr (t := 3) ht
  obtain ⟨g1, g2⟩ := bin_ix hi h2
  have e : bd (2, (b : Int)) = .ref b := brv_nat b
  rw [List.map_cons, List.map_cons, List.map_cons, e]
  refine W.iast hx hb hc ((hK.1.2 3 (Γ.2.2.2.1 3, .int) rfl).1 _ _) (fun h => by cases h) (by rw [arrV_size]; exact g1) rfl rfl hd fun H' e1 e2 e3 => ?_
  rw [g2] at e1 ⊢
  exact k0 hle H' _ ls (hR.ast (t := 3) (er := 20) hlow ht rfl (by decide) (rfl) (fun ty hty => by cases hty; exact rfl) hi.1 e2 e3 e1) (hS.put e2 e3 hlow) hL
theorem r_bast (hκ : bOk κ Γ0 l0 cc own nL fr lo) (ht : bg st 0 a 0 = 1000) (hi : 0 ≤ i ∧ i < bg st 4 a 0) (hlo : bg st 1 (-1) 0 ≤ a) (hd : decode cc pc = .ok (.bastore, 1)) (kk : ∀ st', st' = bw st 8 a i (b_i2b x) → bJ κ st' (pc + 1) L stk) : bJ κ st pc L ((0, x) :: (0, i) :: (2, a) :: stk) := by
  have k0 := kk _ rfl
  obtain ⟨p, l, e, R, s, m, args, below, meth, c, Q, Γ, s0, n⟩ := κ
  obtain ⟨hx, hb, o3, hown, hts, hK, -⟩ := hκ
  intro hle H locs ls hR hS hL
  obtain ⟨b, rfl, hlow, -⟩ := hR.nat (a := a) (by rw [ht]; omega)
  have h8 : bg st 1 (-1) 0 = (Γ.2.1 : Int) := hR.2.2.2.2.1.1
  have hlow : Γ.2.1 ≤ b := by omega
  obtain ⟨hc, h1, h2⟩ := hR.arr (t := 0) ht
  obtain ⟨g1, g2⟩ := bin_ix hi h2
  have e : bd (2, (b : Int)) = .ref b := brv_nat b
  rw [List.map_cons, List.map_cons, List.map_cons, e]
  refine W.bast hx hb hc ((hK.1.2 0 (Γ.2.2.2.1 0, .byte) rfl).1 _ _) (fun h => by cases h) (by rw [arrV_size]; exact g1) rfl rfl hd fun H' e1 e2 e3 => ?_
  rw [g2] at e1 ⊢
  exact k0 hle H' _ ls (hR.ast (t := 0) (er := 8) hlow ht rfl (by decide) (congrArg Value.int (i32_of _).symm) (fun ty hty => by cases hty; exact fit_i2b _) hi.1 e2 e3 e1) (hS.put e2 e3 hlow) hL
theorem r_zast (hκ : bOk κ Γ0 l0 cc own nL fr lo) (ht : bg st 0 a 0 = 1001) (hi : 0 ≤ i ∧ i < bg st 4 a 0) (hd : decode cc pc = .ok (.bastore, 1)) (kk : ∀ st', st' = bw st 12 a i (b_nz x) → bJ κ st' (pc + 1) L stk) : bJ κ st pc L ((0, x) :: (0, i) :: (2, a) :: stk) := by
  have k0 := kk _ rfl
  obtain ⟨p, l, e, R, s, m, args, below, meth, c, Q, Γ, s0, n⟩ := κ
  obtain ⟨hx, hb, o3, hown, hts, hK, -⟩ := hκ
  intro hle H locs ls hR hS hL
  obtain ⟨b, rfl, hlow, -⟩ := hR.nat (a := a) (by rw [ht]; omega)
  have h8 : bg st 1 (-1) 0 = (Γ.2.1 : Int) := hR.2.2.2.2.1.1
  have hlow : Γ.2.1 ≤ b := by omega
  obtain ⟨hc, h1, h2⟩ := hR.arr (t := 1) ht
  obtain ⟨g1, g2⟩ := bin_ix hi h2
  have e : bd (2, (b : Int)) = .ref b := brv_nat b
  rw [List.map_cons, List.map_cons, List.map_cons, e]
  refine W.zast hx hb hc ((hK.1.2 1 (Γ.2.2.2.1 1, .boolean) rfl).1 _ _) (fun h => by cases h) (by rw [arrV_size]; exact g1) rfl rfl hd fun H' e1 e2 e3 => ?_
  rw [g2] at e1 ⊢
  exact k0 hle H' _ ls (hR.ast (t := 1) (er := 12) hlow ht rfl (by decide) (b_nz_ok x) (fun ty hty => by cases hty; exact fit_nz _) hi.1 e2 e3 e1) (hS.put e2 e3 hlow) hL
theorem r_sast (hκ : bOk κ Γ0 l0 cc own nL fr lo) (ht : bg st 0 a 0 = 1002) (hi : 0 ≤ i ∧ i < bg st 4 a 0) (hd : decode cc pc = .ok (.sastore, 1)) (kk : ∀ st', st' = bw st 16 a i (b_i2s x) → bJ κ st' (pc + 1) L stk) : bJ κ st pc L ((0, x) :: (0, i) :: (2, a) :: stk) := by
  have k0 := kk _ rfl
  obtain ⟨p, l, e, R, s, m, args, below, meth, c, Q, Γ, s0, n⟩ := κ
  obtain ⟨hx, hb, o3, hown, hts, hK, -⟩ := hκ
  intro hle H locs ls hR hS hL
  obtain ⟨b, rfl, hlow, -⟩ := hR.nat (a := a) (by rw [ht]; omega)
  have h8 : bg st 1 (-1) 0 = (Γ.2.1 : Int) := hR.2.2.2.2.1.1
  have hlow : Γ.2.1 ≤ b := by omega
  obtain ⟨hc, h1, h2⟩ := hR.arr (t := 2) ht
  obtain ⟨g1, g2⟩ := bin_ix hi h2
  have e : bd (2, (b : Int)) = .ref b := brv_nat b
  rw [List.map_cons, List.map_cons, List.map_cons, e]
  refine W.sast hx hb hc ((hK.1.2 2 (Γ.2.2.2.1 2, .short) rfl).1 _ _) (fun h => by cases h) (by rw [arrV_size]; exact g1) rfl rfl hd fun H' e1 e2 e3 => ?_
  rw [g2] at e1 ⊢
  exact k0 hle H' _ ls (hR.ast (t := 2) (er := 16) hlow ht rfl (by decide) (congrArg Value.int (i32_of _).symm) (fun ty hty => by cases hty; exact pk_fs _) hi.1 e2 e3 e1) (hS.put e2 e3 hlow) hL
theorem r_last (hκ : bOk κ Γ0 l0 cc own nL fr lo) (ht : bg st 0 a 0 = 1005) (hi : 0 ≤ i ∧ i < bg st 4 a 0) (hd : decode cc pc = .ok (.lastore, 1)) (kk : ∀ st', st' = bw st 9 a i (x) → bJ κ st' (pc + 1) L stk) : bJ κ st pc L ((1, x) :: (0, i) :: (2, a) :: stk) := by
  have k0 := kk _ rfl
  obtain ⟨p, l, e, R, s, m, args, below, meth, c, Q, Γ, s0, n⟩ := κ
  obtain ⟨hx, hb, o3, hown, hts, hK, -⟩ := hκ
  intro hle H locs ls hR hS hL
  obtain ⟨b, rfl, hlow, -⟩ := hR.nat (a := a) (by rw [ht]; omega)
  have h8 : bg st 1 (-1) 0 = (Γ.2.1 : Int) := hR.2.2.2.2.1.1
  have hlow : Γ.2.1 ≤ b := by omega
  obtain ⟨hc, h1, h2⟩ := hR.arr (t := 5) ht
  obtain ⟨g1, g2⟩ := bin_ix hi h2
  have e : bd (2, (b : Int)) = .ref b := brv_nat b
  rw [List.map_cons, List.map_cons, List.map_cons, e]
  refine W.last hx hb hc ((hK.1.2 5 (Γ.2.2.2.1 5, .long) rfl).1 _ _) (fun h => by cases h) (by rw [arrV_size]; exact g1) rfl rfl hd fun H' e1 e2 e3 => ?_
  rw [g2] at e1 ⊢
  exact k0 hle H' _ ls (hR.ast (t := 5) (er := 9) hlow ht rfl (by decide) (rfl) (fun ty hty => by cases hty; exact rfl) hi.1 e2 e3 e1) (hS.put e2 e3 hlow) hL
/-- storing null, or an object that may lie there -/
theorem r_aast (hκ : bOk κ Γ0 l0 cc own nL fr lo) {t : Nat} {CN : String} (hCN : btys[t]? = some (.object CN)) (h6 : 6 ≤ t ∧ t < 10) (hlo : t ≠ 6 ∨ bg st 1 (-1) 0 ≤ a) (ht : bg st 0 a 0 = ((t + 1000 : Nat) : Int)) (hi : 0 ≤ i ∧ i < bg st 4 a 0)
    (hv : x < 0 ∨ ∃ ci r, bg st 0 x 0 = ((ci + 1 : Nat) : Int) ∧ bcls[ci]? = some r ∧ (r.1 = CN ∨ (r.1, CN) ∈ bcast)) (hd : decode cc pc = .ok (.aastore, 1)) (kk : ∀ st', st' = bw st 10 a i x → bJ κ st' (pc + 1) L stk) : bJ κ st pc L ((2, x) :: (0, i) :: (2, a) :: stk) := by
  have k0 := kk _ rfl
  obtain ⟨p, l, e, R, s, m, args, below, meth, c, Q, Γ, s0, n⟩ := κ
  obtain ⟨hx, hb, o3, hown, hts, hK, -⟩ := hκ
  intro hle H locs ls hR hS hL
  obtain ⟨b, rfl, hlow, -⟩ := hR.nat (a := a) (by rw [ht]; omega)
  have h8 : bg st 1 (-1) 0 = (Γ.2.1 : Int) := hR.2.2.2.2.1.1
  have hlow : Γ.2.1 ≤ b := by omega
  obtain ⟨hc, h1, h2⟩ := hR.arr ht
  obtain ⟨g1, g2⟩ := bin_ix hi h2
  have her : ber (t + 1000) = 10 := by
    obtain ⟨q1, q2⟩ := h6
    rcases (show t = 6 ∨ t = 7 ∨ t = 8 ∨ t = 9 by omega) with h | h | h | h <;> subst h <;> rfl
  have hk2 : (bty Γ)[t]? = some (Γ.2.2.2.1 t, .object CN) := by simp [bty, hCN]
  have e : bd (2, (b : Int)) = .ref b := brv_nat b
  rw [List.map_cons, List.map_cons, List.map_cons, e]
  rcases hv with hv | ⟨ci, r, hv1, hv2, hv3⟩
  · have e5 : bd (2, x) = .null := brv_null hv
    rw [e5]
    refine va_WaastN (C := CN) hx hb hc ((hK.1.2 t _ hk2).1 _ _) (fun h => by cases h) (by rw [arrV_size]; exact g1) rfl rfl hd fun H' e1 e2 e3 => ?_
    rw [g2] at e1 ⊢
    exact k0 hle H' _ ls (hR.ast (er := 10) hlow ht her (by decide) (show Value.null = bval 10 x from e5.symm) (fun ty hty => by cases hCN.symm.trans hty; rfl) hi.1 e2 e3 e1) (hS.put e2 e3 hlow) hL
  · obtain ⟨v, rfl, -, -⟩ := hR.nat (a := x) (by rw [hv1]; omega)
    have e5 : bd (2, (v : Int)) = .ref v := brv_nat v
    obtain ⟨cellV, q1, q2, q3, -⟩ := hR.obj hv1 hv2
    have hcls := (hK.1.1 ci r hv2).2
    obtain ⟨kA, comp, f1, f2, f3, -⟩ := (hK.1.2 t _ hk2).2
    obtain ⟨kC, hkC, -⟩ := hcls.2
    have hasg : s.vm.assignable (Γ.1.1 ci) comp = true := by
      rcases hv3 with h | h
      · have : comp = Γ.1.1 ci := Option.some.inj (f3.symm.trans (h ▸ hcls.1))
        rw [this]
        exact va_assign hcls
      · exact vb_asgC (hK.2.2.1 _ h) comp _ f3 hcls.1
    obtain ⟨kcomp, hkcomp⟩ : ∃ k, s.vm.classes[comp]? = some k := by
      rcases hv3 with h | h
      · have : comp = Γ.1.1 ci := Option.some.inj (f3.symm.trans (h ▸ hcls.1))
        rw [this]
        exact ⟨kC, hkC⟩
      · obtain ⟨kE, hkE, -⟩ := Vm.findClass_spec f3
        exact ⟨kE, hkE⟩
    rw [e5]
    refine W.aast hx hb hc (fun q h => by cases h) (fun h => by cases h) f1 f2 rfl hkcomp ⟨fun q => g1 (Or.inl q), by rw [arrV_size]; exact Nat.not_le.mp fun q => g1 (Or.inr q)⟩ q1 (fun q h => by rw [q3] at h; cases h) (by rw [q2]; exact hkC) (by rw [q2]; exact hasg) rfl rfl hd fun H' e1 e2 e3 => ?_
    rw [g2] at e1 ⊢
    exact k0 hle H' _ ls (hR.ast (er := 10) hlow ht her (by decide) (show Value.ref v = bval 10 (v : Int) from e5.symm) (fun ty hty => by cases hCN.symm.trans hty; rfl) hi.1 e2 e3 e1) (hS.put e2 e3 hlow) hL
/-- newarray -/
theorem bRep.newarr {Γ : bG} {st : bS} {H H' : Heap} {t er : Nat} {d : Value} {n : Int} (hR : bRep Γ st H) (her : ber (t + 1000) = er) (h8 : 8 ≤ er) (hdv : d = bval er (bdf er)) (hfit : ∀ ty, btys[t]? = some ty → fits ty d = true) (h0 : 0 ≤ n) (hn : n < 2147483648) (hsz : H'.size = H.size + 1) (hH : ∀ q : Nat, q < H.size → H'[q]? = H[q]?) (hnew : H'[H.size]? = some (arrV (Γ.2.2.2.1 t) n.toNat (fun _ => d))) : bRep Γ (bnw st ((t + 1000 : Nat) : Int) n n.toNat) H' := by
  refine hR.push (t + 1000) n.toNat n (by omega) hsz hH ?_
  have e0 : st.2.1 = H.size := hR.1.symm
  unfold bat
  rw [if_neg (by omega), Nat.add_sub_cancel]
  have e4 : (bnw st ((t + 1000 : Nat) : Int) n n.toNat).1 4 (H.size : Int) 0 = n := by
    show (if (H.size : Int) = (st.2.1 : Int) then (if 4 = 0 then _ else if 4 = 4 then n else _) else _) = n
    rw [e0, if_pos rfl]
    rfl
  rw [e4]
  have e5 : ∀ j : Int, (bnw st ((t + 1000 : Nat) : Int) n n.toNat).1 er (H.size : Int) j = bdf er := fun j => by
    show (if (H.size : Int) = (st.2.1 : Int) then (if er = 0 then _ else if er = 4 then _ else bdf er) else _) = _
    rw [e0, if_pos rfl, if_neg (by omega), if_neg (by omega)]
  refine ⟨?_, h0, hn, fun j ty hj hty => by rw [her, e5, ← hdv]; exact hfit ty hty⟩
  rw [hnew, her]
  congr 2
  funext j
  show d = bval er (if (H.size : Int) = (st.2.1 : Int) then (if er = 0 then _ else if er = 4 then _ else bdf er) else _)
  rw [e0, if_pos rfl, if_neg (by omega), if_neg (by omega), hdv]
theorem r_new_int (hκ : bOk κ Γ0 l0 cc own nL fr lo) (hw : Cond.arrayClass .int ∈ lw_all) (hn : 0 ≤ x ∧ x ≤ 67108864) (hroom : bc st + 1 ≤ bCM ∧ bk st + x.toNat ≤ bKM) (hd : decode cc pc = .ok (.newarray .int, 2)) (kk : ∀ st', st' = bnw st 1003 x x.toNat → bJ κ st' (pc + 2) L ((2, (bnx st : Int)) :: stk)) : bJ κ st pc L ((0, x) :: stk) := by
  have k0 := kk _ rfl
  obtain ⟨p, l, e, R, s, m, args, below, meth, c, Q, Γ, s0, nn⟩ := κ
  obtain ⟨hx, hb, o3, hown, hts, hK, o7, o8, o9, o10, -⟩ := hκ
  intro hle H locs ls hR hS hL
  obtain ⟨l1, l2, l3, l4⟩ := id hle
  obtain ⟨r1, r2⟩ := hroom
  have ecl := i32_clamp hn.1 (by omega)
  refine W.newa (atype := .int) hx hb (hts _ hw) rfl hd (n := i32 x) rfl (fun q => ?_) ?_ (by rw [o9]; omega) (by rw [o10, ecl]; omega) fun cA kA comp f1 f2 f3 => ?_
  · have h0 : (0 : Int32) = i32 0 := rfl
    rw [h0, i32_lt (by omega) (by omega)] at q
    omega
  · have : componentBytes (newarray.typeOf .int) ≤ 8 := by decide
    have h9 : x.toNat * componentBytes (newarray.typeOf .int) ≤ x.toNat * 8 := Nat.mul_le_mul_left _ this
    rw [ecl]
    omega
  · have hcA : cA = Γ.2.2.2.1 3 := Option.some.inj (f1.symm.trans (hK.1.2 3 (Γ.2.2.2.1 3, .int) rfl).2)
    subst hcA
    rw [ecl, arrV_new]
    generalize hH' : H.push (arrV (Γ.2.2.2.1 3) x.toNat (fun _ => defaultValue (newarray.typeOf .int))) = H'
    have hz : H'.size = H.size + 1 := by rw [← hH', Array.size_push]
    have hH : ∀ q : Nat, q < H.size → H'[q]? = H[q]? := fun q hq => by rw [← hH', Array.getElem?_push, if_neg (Nat.ne_of_lt hq)]
    have hcell : H'[H.size]? = some (arrV (Γ.2.2.2.1 3) x.toNat (fun _ => defaultValue (newarray.typeOf .int))) := by rw [← hH', Array.getElem?_push_size]
    have hR' := hR.newarr (t := 3) (er := 20) (n := x) rfl (by decide) (show defaultValue (newarray.typeOf .int) = _ by decide) (fun ty hty => by cases hty; rfl) hn.1 (by omega) hz hH hcell
    have key := k0 ⟨by rw [bc_bnw]; omega, by rw [bc_bnw]; omega, by rw [bk_bnw]; omega, by rw [bk_bnw]; omega⟩ H' locs ls hR' (hS.pushed hz hH) hL
    rw [bc_bnw, bk_bnw] at key
    rw [show bc st - bc s0 + 1 = bc st + 1 - bc s0 by omega, show bk st - bk s0 + x.toNat = bk st + x.toNat - bk s0 by omega]
    have e : bd (2, (bnx st : Int)) = .ref (bnx st) := brv_nat _
    rw [List.map_cons, e, ← hR.1] at key
    exact key
theorem r_new_byte (hκ : bOk κ Γ0 l0 cc own nL fr lo) (hw : Cond.arrayClass .byte ∈ lw_all) (hn : 0 ≤ x ∧ x ≤ 67108864) (hroom : bc st + 1 ≤ bCM ∧ bk st + x.toNat ≤ bKM) (hd : decode cc pc = .ok (.newarray .byte, 2)) (kk : ∀ st', st' = bnw st 1000 x x.toNat → bJ κ st' (pc + 2) L ((2, (bnx st : Int)) :: stk)) : bJ κ st pc L ((0, x) :: stk) := by
  have k0 := kk _ rfl
  obtain ⟨p, l, e, R, s, m, args, below, meth, c, Q, Γ, s0, nn⟩ := κ
  obtain ⟨hx, hb, o3, hown, hts, hK, o7, o8, o9, o10, -⟩ := hκ
  intro hle H locs ls hR hS hL
  obtain ⟨l1, l2, l3, l4⟩ := id hle
  obtain ⟨r1, r2⟩ := hroom
  have ecl := i32_clamp hn.1 (by omega)
  refine W.newa (atype := .byte) hx hb (hts _ hw) rfl hd (n := i32 x) rfl (fun q => ?_) ?_ (by rw [o9]; omega) (by rw [o10, ecl]; omega) fun cA kA comp f1 f2 f3 => ?_
  · have h0 : (0 : Int32) = i32 0 := rfl
    rw [h0, i32_lt (by omega) (by omega)] at q
    omega
  · have : componentBytes (newarray.typeOf .byte) ≤ 8 := by decide
    have h9 : x.toNat * componentBytes (newarray.typeOf .byte) ≤ x.toNat * 8 := Nat.mul_le_mul_left _ this
    rw [ecl]
    omega
  · have hcA : cA = Γ.2.2.2.1 0 := Option.some.inj (f1.symm.trans (hK.1.2 0 (Γ.2.2.2.1 0, .byte) rfl).2)
    subst hcA
    rw [ecl, arrV_new]
    generalize hH' : H.push (arrV (Γ.2.2.2.1 0) x.toNat (fun _ => defaultValue (newarray.typeOf .byte))) = H'
    have hz : H'.size = H.size + 1 := by rw [← hH', Array.size_push]
    have hH : ∀ q : Nat, q < H.size → H'[q]? = H[q]? := fun q hq => by rw [← hH', Array.getElem?_push, if_neg (Nat.ne_of_lt hq)]
    have hcell : H'[H.size]? = some (arrV (Γ.2.2.2.1 0) x.toNat (fun _ => defaultValue (newarray.typeOf .byte))) := by rw [← hH', Array.getElem?_push_size]
    have hR' := hR.newarr (t := 0) (er := 8) (n := x) rfl (by decide) (show defaultValue (newarray.typeOf .byte) = _ by decide) (fun ty hty => by cases hty; rfl) hn.1 (by omega) hz hH hcell
    have key := k0 ⟨by rw [bc_bnw]; omega, by rw [bc_bnw]; omega, by rw [bk_bnw]; omega, by rw [bk_bnw]; omega⟩ H' locs ls hR' (hS.pushed hz hH) hL
    rw [bc_bnw, bk_bnw] at key
    rw [show bc st - bc s0 + 1 = bc st + 1 - bc s0 by omega, show bk st - bk s0 + x.toNat = bk st + x.toNat - bk s0 by omega]
    have e : bd (2, (bnx st : Int)) = .ref (bnx st) := brv_nat _
    rw [List.map_cons, e, ← hR.1] at key
    exact key
theorem r_new_boolean (hκ : bOk κ Γ0 l0 cc own nL fr lo) (hw : Cond.arrayClass .boolean ∈ lw_all) (hn : 0 ≤ x ∧ x ≤ 67108864) (hroom : bc st + 1 ≤ bCM ∧ bk st + x.toNat ≤ bKM) (hd : decode cc pc = .ok (.newarray .boolean, 2)) (kk : ∀ st', st' = bnw st 1001 x x.toNat → bJ κ st' (pc + 2) L ((2, (bnx st : Int)) :: stk)) : bJ κ st pc L ((0, x) :: stk) := by
  have k0 := kk _ rfl
  obtain ⟨p, l, e, R, s, m, args, below, meth, c, Q, Γ, s0, nn⟩ := κ
  obtain ⟨hx, hb, o3, hown, hts, hK, o7, o8, o9, o10, -⟩ := hκ
  intro hle H locs ls hR hS hL
  obtain ⟨l1, l2, l3, l4⟩ := id hle
  obtain ⟨r1, r2⟩ := hroom
  have ecl := i32_clamp hn.1 (by omega)
  refine W.newa (atype := .boolean) hx hb (hts _ hw) rfl hd (n := i32 x) rfl (fun q => ?_) ?_ (by rw [o9]; omega) (by rw [o10, ecl]; omega) fun cA kA comp f1 f2 f3 => ?_
  · have h0 : (0 : Int32) = i32 0 := rfl
    rw [h0, i32_lt (by omega) (by omega)] at q
    omega
  · have : componentBytes (newarray.typeOf .boolean) ≤ 8 := by decide
    have h9 : x.toNat * componentBytes (newarray.typeOf .boolean) ≤ x.toNat * 8 := Nat.mul_le_mul_left _ this
    rw [ecl]
    omega
  · have hcA : cA = Γ.2.2.2.1 1 := Option.some.inj (f1.symm.trans (hK.1.2 1 (Γ.2.2.2.1 1, .boolean) rfl).2)
    subst hcA
    rw [ecl, arrV_new]
    generalize hH' : H.push (arrV (Γ.2.2.2.1 1) x.toNat (fun _ => defaultValue (newarray.typeOf .boolean))) = H'
    have hz : H'.size = H.size + 1 := by rw [← hH', Array.size_push]
    have hH : ∀ q : Nat, q < H.size → H'[q]? = H[q]? := fun q hq => by rw [← hH', Array.getElem?_push, if_neg (Nat.ne_of_lt hq)]
    have hcell : H'[H.size]? = some (arrV (Γ.2.2.2.1 1) x.toNat (fun _ => defaultValue (newarray.typeOf .boolean))) := by rw [← hH', Array.getElem?_push_size]
    have hR' := hR.newarr (t := 1) (er := 12) (n := x) rfl (by decide) (show defaultValue (newarray.typeOf .boolean) = _ by decide) (fun ty hty => by cases hty; rfl) hn.1 (by omega) hz hH hcell
    have key := k0 ⟨by rw [bc_bnw]; omega, by rw [bc_bnw]; omega, by rw [bk_bnw]; omega, by rw [bk_bnw]; omega⟩ H' locs ls hR' (hS.pushed hz hH) hL
    rw [bc_bnw, bk_bnw] at key
    rw [show bc st - bc s0 + 1 = bc st + 1 - bc s0 by omega, show bk st - bk s0 + x.toNat = bk st + x.toNat - bk s0 by omega]
    have e : bd (2, (bnx st : Int)) = .ref (bnx st) := brv_nat _
    rw [List.map_cons, e, ← hR.1] at key
    exact key
theorem r_new_short (hκ : bOk κ Γ0 l0 cc own nL fr lo) (hw : Cond.arrayClass .short ∈ lw_all) (hn : 0 ≤ x ∧ x ≤ 67108864) (hroom : bc st + 1 ≤ bCM ∧ bk st + x.toNat ≤ bKM) (hd : decode cc pc = .ok (.newarray .short, 2)) (kk : ∀ st', st' = bnw st 1002 x x.toNat → bJ κ st' (pc + 2) L ((2, (bnx st : Int)) :: stk)) : bJ κ st pc L ((0, x) :: stk) := by
  have k0 := kk _ rfl
  obtain ⟨p, l, e, R, s, m, args, below, meth, c, Q, Γ, s0, nn⟩ := κ
  obtain ⟨hx, hb, o3, hown, hts, hK, o7, o8, o9, o10, -⟩ := hκ
  intro hle H locs ls hR hS hL
  obtain ⟨l1, l2, l3, l4⟩ := id hle
  obtain ⟨r1, r2⟩ := hroom
  have ecl := i32_clamp hn.1 (by omega)
  refine W.newa (atype := .short) hx hb (hts _ hw) rfl hd (n := i32 x) rfl (fun q => ?_) ?_ (by rw [o9]; omega) (by rw [o10, ecl]; omega) fun cA kA comp f1 f2 f3 => ?_
  · have h0 : (0 : Int32) = i32 0 := rfl
    rw [h0, i32_lt (by omega) (by omega)] at q
    omega
  · have : componentBytes (newarray.typeOf .short) ≤ 8 := by decide
    have h9 : x.toNat * componentBytes (newarray.typeOf .short) ≤ x.toNat * 8 := Nat.mul_le_mul_left _ this
    rw [ecl]
    omega
  · have hcA : cA = Γ.2.2.2.1 2 := Option.some.inj (f1.symm.trans (hK.1.2 2 (Γ.2.2.2.1 2, .short) rfl).2)
    subst hcA
    rw [ecl, arrV_new]
    generalize hH' : H.push (arrV (Γ.2.2.2.1 2) x.toNat (fun _ => defaultValue (newarray.typeOf .short))) = H'
    have hz : H'.size = H.size + 1 := by rw [← hH', Array.size_push]
    have hH : ∀ q : Nat, q < H.size → H'[q]? = H[q]? := fun q hq => by rw [← hH', Array.getElem?_push, if_neg (Nat.ne_of_lt hq)]
    have hcell : H'[H.size]? = some (arrV (Γ.2.2.2.1 2) x.toNat (fun _ => defaultValue (newarray.typeOf .short))) := by rw [← hH', Array.getElem?_push_size]
    have hR' := hR.newarr (t := 2) (er := 16) (n := x) rfl (by decide) (show defaultValue (newarray.typeOf .short) = _ by decide) (fun ty hty => by cases hty; rfl) hn.1 (by omega) hz hH hcell
    have key := k0 ⟨by rw [bc_bnw]; omega, by rw [bc_bnw]; omega, by rw [bk_bnw]; omega, by rw [bk_bnw]; omega⟩ H' locs ls hR' (hS.pushed hz hH) hL
    rw [bc_bnw, bk_bnw] at key
    rw [show bc st - bc s0 + 1 = bc st + 1 - bc s0 by omega, show bk st - bk s0 + x.toNat = bk st + x.toNat - bk s0 by omega]
    have e : bd (2, (bnx st : Int)) = .ref (bnx st) := brv_nat _
    rw [List.map_cons, e, ← hR.1] at key
    exact key
theorem r_new_long (hκ : bOk κ Γ0 l0 cc own nL fr lo) (hw : Cond.arrayClass .long ∈ lw_all) (hn : 0 ≤ x ∧ x ≤ 67108864) (hroom : bc st + 1 ≤ bCM ∧ bk st + x.toNat ≤ bKM) (hd : decode cc pc = .ok (.newarray .long, 2)) (kk : ∀ st', st' = bnw st 1005 x x.toNat → bJ κ st' (pc + 2) L ((2, (bnx st : Int)) :: stk)) : bJ κ st pc L ((0, x) :: stk) := by
  have k0 := kk _ rfl
  obtain ⟨p, l, e, R, s, m, args, below, meth, c, Q, Γ, s0, nn⟩ := κ
  obtain ⟨hx, hb, o3, hown, hts, hK, o7, o8, o9, o10, -⟩ := hκ
  intro hle H locs ls hR hS hL
  obtain ⟨l1, l2, l3, l4⟩ := id hle
  obtain ⟨r1, r2⟩ := hroom
  have ecl := i32_clamp hn.1 (by omega)
  refine W.newa (atype := .long) hx hb (hts _ hw) rfl hd (n := i32 x) rfl (fun q => ?_) ?_ (by rw [o9]; omega) (by rw [o10, ecl]; omega) fun cA kA comp f1 f2 f3 => ?_
  · have h0 : (0 : Int32) = i32 0 := rfl
    rw [h0, i32_lt (by omega) (by omega)] at q
    omega
  · have : componentBytes (newarray.typeOf .long) ≤ 8 := by decide
    have h9 : x.toNat * componentBytes (newarray.typeOf .long) ≤ x.toNat * 8 := Nat.mul_le_mul_left _ this
    rw [ecl]
    omega
  · have hcA : cA = Γ.2.2.2.1 5 := Option.some.inj (f1.symm.trans (hK.1.2 5 (Γ.2.2.2.1 5, .long) rfl).2)
    subst hcA
    rw [ecl, arrV_new]
    generalize hH' : H.push (arrV (Γ.2.2.2.1 5) x.toNat (fun _ => defaultValue (newarray.typeOf .long))) = H'
    have hz : H'.size = H.size + 1 := by rw [← hH', Array.size_push]
    have hH : ∀ q : Nat, q < H.size → H'[q]? = H[q]? := fun q hq => by rw [← hH', Array.getElem?_push, if_neg (Nat.ne_of_lt hq)]
    have hcell : H'[H.size]? = some (arrV (Γ.2.2.2.1 5) x.toNat (fun _ => defaultValue (newarray.typeOf .long))) := by rw [← hH', Array.getElem?_push_size]
    have hR' := hR.newarr (t := 5) (er := 9) (n := x) rfl (by decide) (show defaultValue (newarray.typeOf .long) = _ by decide) (fun ty hty => by cases hty; rfl) hn.1 (by omega) hz hH hcell
    have key := k0 ⟨by rw [bc_bnw]; omega, by rw [bc_bnw]; omega, by rw [bk_bnw]; omega, by rw [bk_bnw]; omega⟩ H' locs ls hR' (hS.pushed hz hH) hL
    rw [bc_bnw, bk_bnw] at key
    rw [show bc st - bc s0 + 1 = bc st + 1 - bc s0 by omega, show bk st - bk s0 + x.toNat = bk st + x.toNat - bk s0 by omega]
    have e : bd (2, (bnx st : Int)) = .ref (bnx st) := brv_nat _
    rw [List.map_cons, e, ← hR.1] at key
    exact key
end BR5
/-! BASE 6: entering a method, leaving it, calling one -/
def bsz (av : List bV) : Nat := match av with
  | [] => 0
  | v :: vs => (if v.1 = 1 then 2 else 1) + bsz vs
def bargs (i : Nat) (av : List bV) : List (Nat × bV) := match av with
  | [] => []
  | v :: vs => (i, v) :: bargs (if v.1 = 1 then i + 2 else i + 1) vs
theorem bd_cat2 (v : bV) : (bd v).category = 2 ↔ v.1 = 1 := by
  have h := bd_cat v
  by_cases q : v.1 = 1
  · rw [show (v.1 == 1) = true by simp [q]] at h
    exact ⟨fun _ => q, fun _ => by simpa using h⟩
  · rw [show (v.1 == 1) = false by simp [q]] at h
    exact ⟨fun e => by simp [e] at h, fun e => absurd e q⟩
theorem bsz_eq (av : List bV) : (lg_sl (av.map bd)).length = bsz av := by
  induction av with
  | nil => rfl
  | cons v vs ih =>
    have e : lg_sl ((v :: vs).map bd) = (if (bd v).category = 2 then [.val (bd v), .second] else [.val (bd v)]) ++ lg_sl (vs.map bd) := rfl
    rw [e, List.length_append, ih]
    show _ = (if v.1 = 1 then 2 else 1) + bsz vs
    by_cases q : v.1 = 1
    · rw [if_pos ((bd_cat2 v).mpr q), if_pos q]; rfl
    · rw [if_neg (fun h => q ((bd_cat2 v).mp h)), if_neg q]; rfl
theorem bargs_eq (av : List bV) : ∀ i : Nat, lv_args i (av.map bd) = (bargs i av).map (fun q => (q.1, bd q.2)) := by
  induction av with
  | nil => intro i; rfl
  | cons v vs ih =>
    intro i
    show (i, bd v) :: lv_args (if (bd v).category = 2 then i + 2 else i + 1) (vs.map bd) = (i, bd v) :: (bargs (if v.1 = 1 then i + 2 else i + 1) vs).map (fun q => (q.1, bd q.2))
    by_cases q : v.1 = 1
    · rw [if_pos ((bd_cat2 v).mpr q), if_pos q, ih]
    · rw [if_neg (fun h => q ((bd_cat2 v).mp h)), if_neg q, ih]
abbrev bQc (Γ : bG) (st st' : bS) (ov : Option bV) : Array Value → State → Outcome → State → Prop := fun _ s₁ oc t => oc = .returned (ov.map bd) ∧ bRep Γ st' t.heap ∧ va_F (bA Γ) s₁ t ∧ bLe st st'
def bFin (κ : bK) (ret : Option FieldType) (st' : bS) (ov : Option bV) : Prop := match κ with
  | (p, l, e, R, s, m, args, below, meth, c, Q, Γ, s0, n) => meth.sig.returnType = ret ∧ Q = MQ below (bQc Γ s0 st' ov) args s (bc st' - bc s0) (bk st' - bk s0) (bA Γ)
def bIn (κ : bK) (y : MethodName) : Prop := match κ with
  | (p, l, e, R, s, m, args, below, meth, c, Q, Γ, s0, n) => meth.name = y.name ∧ s.methodNamed? y = some m
theorem bIn.init {κ : bK} {y : MethodName} (h : bIn κ y) (hy : y.name = "<init>") (p : Program) (l : Launch) (e : Env) (R : Room) (s : State) (m : MethodId) (args : Array Value) (below : List Frame) (meth : Method) (c : Code) (Q : State → Prop) (Γ : bG) (s0 : bS) (n : Nat) (hk : κ = (p, l, e, R, s, m, args, below, meth, c, Q, Γ, s0, n)) : meth.name = "<init>" := by
  subst hk
  exact h.1.trans hy
theorem b_ent {Γ : bG} {l : Launch} {y : MethodName} {cc : ByteArray} {own : String} {nL : Nat} {ret : Option FieldType} {fr lo : Nat} {av : List bV} {st st' : bS} {ov : Option bV} {L : List (Nat × bV)} (hy : plainName y.cls = true) (hown : y.cls = own) (hlen : bsz av ≤ nL) (hL : bargs 0 av = L)
    (body : ∀ κ : bK, bOk κ Γ l cc own nL fr lo → bIn κ y → bFin κ ret st' ov → bJ κ st 0 L []) : bCt Γ l y cc nL ret fr lo av st st' ov := by
  subst hown; subst hL
  refine Met.ofW (cc := cc) (maxL := nL) (ret := ret) hy rfl ?_
  intro p e s m args below meth c s₁ B hml hv
  obtain ⟨rfl, hR, hK, hc1, hk1⟩ := hv
  have hts := atoms_spec (ws := ws_ y cc nL ret) B.pre
  have hts : ∀ w ∈ lw_all, w.before _ s = true := fun w h => hts w (List.mem_cons_of_mem _ h)
  have hn : meth.name = y.name := (name_of_methodNamed B.named B.method).1
  have key := body (p, l, e, { frames := fr, cells := bCM - bc st, slots := bKM - bk st, locals := lo }, s, m, (av.map bd).toArray, below, meth, c, MQ below (bQc Γ st st' ov) (av.map bd).toArray s (bc st' - bc st) (bk st' - bk st) (bA Γ), Γ, st, nL)
    ⟨B.exec, B.bytes, hml, findClass_of_methodNamed B.named, hts, hK, B.notSynchronized, rfl, rfl, rfl, rfl, rfl, rfl, rfl⟩ ⟨hn, B.named⟩ ⟨B.returns, rfl⟩ ⟨Nat.le_refl _, hc1, Nat.le_refl _, hk1⟩
  have he := lv_entry (av.map bd) (n := nL) (by rw [bsz_eq]; exact hlen)
  rw [bargs_eq] at he
  have h2 := key s.heap [] _ hR (va_S.rf) he
  rw [Nat.sub_self, Nat.sub_self] at h2
  rw [lg_entry_eq]
  exact h2
section BR6
variable {κ : bK} {Γ0 : bG} {l0 : Launch} {cc : ByteArray} {own : String} {nL fr lo : Nat} {st : bS} {pc : Nat} {L : List (Nat × bV)} {stk : List bV} {x y a i : Int}
theorem r_vret (hκ : bOk κ Γ0 l0 cc own nL fr lo) (hf : bFin κ none st none) (hd : decode cc pc = .ok (.return_, 1)) : bJ κ st pc L [] := by
  obtain ⟨p, l, e, R, s, m, args, below, meth, c, Q, Γ, s0, n⟩ := κ
  obtain ⟨hx, hb, o3, hown, hts, hK, hlk, -⟩ := hκ
  obtain ⟨hr, rfl⟩ := hf
  intro hle H locs ls hR hS hL
  exact W.vret hx hb hr (fun t ht hW => ⟨rfl, by rw [ht]; exact hR, hS.F ht, hle⟩) hS.2.2 hd hlk
theorem r_iret (hκ : bOk κ Γ0 l0 cc own nL fr lo) {ty : FieldType} (hf : bFin κ (some ty) st (some (0, x))) (hn : narrow ty (.int (i32 x)) = .int (i32 x)) (hd : decode cc pc = .ok (.ireturn, 1)) : bJ κ st pc L [(0, x)] := by
  obtain ⟨p, l, e, R, s, m, args, below, meth, c, Q, Γ, s0, n⟩ := κ
  obtain ⟨hx, hb, o3, hown, hts, hK, hlk, -⟩ := hκ
  obtain ⟨hr, rfl⟩ := hf
  intro hle H locs ls hR hS hL
  exact W.zret hx hb hr hn (fun t ht hW => ⟨rfl, by rw [ht]; exact hR, hS.F ht, hle⟩) hS.2.2 hd hlk
theorem nar_int (x : Int) : narrow .int (.int (i32 x)) = .int (i32 x) := rfl
theorem nar_bool {x : Int} (h : x = 0 ∨ x = 1) : narrow .boolean (.int (i32 x)) = .int (i32 x) := by rcases h with rfl | rfl <;> decide
theorem nar_byte {x : Int} (h : -128 ≤ x ∧ x < 128) : narrow .byte (.int (i32 x)) = .int (i32 x) := (bfit_ok (ty := .byte) (r := 0) h rfl).1
theorem nar_char {x : Int} (h : 0 ≤ x ∧ x < 65536) : narrow .char (.int (i32 x)) = .int (i32 x) := by
  obtain ⟨q, rfl⟩ : ∃ q : Nat, x = (q : Int) := ⟨x.toNat, by omega⟩
  have e : i32 (q : Int) = nI q := (i32_ofNat q).symm.trans (by rw [Int.toNat_natCast]; rfl)
  rw [e]
  exact (pk_charN (by omega)).1
theorem r_lret (hκ : bOk κ Γ0 l0 cc own nL fr lo) (hf : bFin κ (some .long) st (some (1, x))) (hd : decode cc pc = .ok (.lreturn, 1)) : bJ κ st pc L [(1, x)] := by
  obtain ⟨p, l, e, R, s, m, args, below, meth, c, Q, Γ, s0, n⟩ := κ
  obtain ⟨hx, hb, o3, hown, hts, hK, hlk, -⟩ := hκ
  obtain ⟨hr, rfl⟩ := hf
  intro hle H locs ls hR hS hL
  exact W.lret hx hb hr (fun t ht hW => ⟨rfl, by rw [ht]; exact hR, hS.F ht, hle⟩) hS.2.2 hd hlk
theorem r_aret (hκ : bOk κ Γ0 l0 cc own nL fr lo) {rt : FieldType} (hf : bFin κ (some rt) st (some (2, x))) (hrt : (∃ n, rt = .object n) ∨ ∃ t, rt = .array t) (hd : decode cc pc = .ok (.areturn, 1)) : bJ κ st pc L [(2, x)] := by
  obtain ⟨p, l, e, R, s, m, args, below, meth, c, Q, Γ, s0, n⟩ := κ
  obtain ⟨hx, hb, o3, hown, hts, hK, hlk, -⟩ := hκ
  obtain ⟨hr, rfl⟩ := hf
  intro hle H locs ls hR hS hL
  exact W.aret hx hb hr hrt (brv_or x) (fun t ht hW => ⟨rfl, by rw [ht]; exact hR, hS.F ht, hle⟩) hS.2.2 hd hlk
/-- a value gets a name -/
theorem r_nm {k : Nat} (kk : ∀ t, t = x → bJ κ st pc L ((k, t) :: stk)) : bJ κ st pc L ((k, x) :: stk) := kk x rfl
end BR6
section BC
variable {p : Program} {l : Launch} {e : Env} {R : Room} {s : State} {m : MethodId} {args : Array Value} {below : List Frame} {meth : Method} {c : Code} {H : Heap} {locs : List Loc} {cells slots : Nat} {Q : State → Prop}
variable {y : MethodName} {bytes cc : ByteArray} {maxL nL mc ms n index : Nat} {ret : Option FieldType} {ws : List Cond} {rm : Room} {Pc : Array Value → State → Prop} {Qc : Array Value → State → Outcome → State → Prop} {free : Addr → Prop} {Ts : List Cond} {own C : String} {b : Addr} {As rest : List Value} {g : JFrame}
theorem back2 {sargs : Array Value} {len W : Nat} (hM : Met l y ws rm Pc Qc mc ms free) (hblind : FrameBlind Pc) (hframes : rm.frames + 1 ≤ R.frames) (hlocals : W + (maxL + 11) + rm.locals ≤ R.locals)
    (hws : ∀ w ∈ ws, ∀ a' U, s.WarmedH U.vm → w.before a' U = true) (hcode : Cond.code y bytes maxL ret ∈ ws) (hinit : ∀ a' U, s.WarmedH U.vm → (Cond.initialized y.cls).before a' U = true) :
    Back l R p e below s sargs y len W (PreOf R rm.cells rm.slots Pc) (PostOf Qc mc ms free) := by
  refine Back.of_free (S := headSpec ws rm) (P := Pc) (K := fun _ _ _ _ _ => True) (Q := fun a st o t => Qc a st o t ∧ ∃ L, FrameEnd st o t L mc ms ∧ ∀ q ∈ L, free q.base) (bytes := bytes) (maxL := maxL) (ret := ret)
    (E := fun a st o t L k n => k = mc ∧ n = ms ∧ ∀ q ∈ L, free q.base) hM hframes hlocals ?_ ?_ (fun _ _ _ _ _ _ _ _ _ => trivial) ?_ ?_
  · intro m meth c A a X hp
    exact ⟨atoms_intro fun w hw => hws w hw _ _ X.warmed, hws _ hcode _ _ X.warmed, hinit _ _ X.warmed, hp.1, hp.2.1⟩
  · intro m meth c A a g mk X hp
    exact hblind _ _ _ _ hp.2.2
  · intro a st o t ⟨hq, L, hF, hL⟩
    exact ⟨L, mc, ms, hF, rfl, rfl, hL⟩
  · intro m meth c A a g mk v t L k n X hp hq hF ⟨e1, e2, hL⟩
    subst e1; subst e2
    exact ⟨g, mk, t, L, rfl, rfl, hq.1, rfl, hL, rfl, rfl⟩
theorem callBack2 {sargs : Array Value} (cb : CallB R s args own index y bytes maxL ret ws rm rm.cells rm.slots n) (hM : Met l y ws rm Pc Qc mc ms free) (hbl : FrameBlind Pc) : Back l R p e below s args y 3 8 (PreOf R rm.cells rm.slots Pc) (PostOf Qc mc ms free) := by
  obtain ⟨hrc, hrs, hfr, hlo, hws, hcw, -, hini, -⟩ := cb
  exact back2 (bytes := bytes) (maxL := maxL) (ret := ret) hM hbl hfr hlo hws hcw (fun a' U hW => word_at hW (Or.inl (by first | rfl | simp [Cond.onTables, Cond.keeps, Cond.steady])) hini)
end BC
/-! BASE 7: rows: calls -/
theorem bsz_sum (av : List bV) : ((av.map bd).map fun v => v.category).sum = bsz av := by
  induction av with
  | nil => rfl
  | cons v vs ih =>
    show (bd v).category + _ = (if v.1 = 1 then 2 else 1) + bsz vs
    rw [← ih]
    by_cases q : v.1 = 1
    · rw [(bd_cat2 v).mpr q, if_pos q]
      rfl
    · rw [bd_cat1 v q, if_neg q]
      rfl
theorem b_room {m : MethodId} {pc : Nat} {ls : Array Slot} {stk0 : List Value} {stk : List bV} (h : bsz stk ≤ 8) : 2 * (F0 m pc ls stk0).monitorRoom + ((stk.map bd).map fun v => v.category).sum ≤ 8 := by
  have h1 : ((stk.map bd).map fun v => v.category).sum ≤ 8 := by rw [bsz_sum]; exact h
  have h2 := lv_room (m := m) (pc := pc) (ls := ls) (rest := stk0) h1
  exact h2
abbrev bRm (st : bS) (fr lo : Nat) : Room := { frames := fr, cells := bCM - bc st, slots := bKM - bk st, locals := lo }
abbrev bPc (Γ : bG) (st : bS) (av : List bV) : Array Value → State → Prop := va_Pc (av.map bd) (fun U => bRep Γ st U.heap ∧ bKK Γ U ∧ bc st ≤ bCM ∧ bk st ≤ bKM)
theorem bPc_blind (Γ : bG) (st : bS) (av : List bV) : FrameBlind (bPc Γ st av) := by
  intro a U g mk h
  obtain ⟨h1, h2, h3, h4⟩ := h
  exact ⟨h1, h2, bKK.calling g mk a h3, h4⟩
section BF
variable {p : Program} {l : Launch} {e : Env} {R : Room} {s : State} {m : MethodId} {args : Array Value} {below : List Frame} {meth : Method} {c : Code} {Q : State → Prop} {Γ : bG} {s0 : bS} {n : Nat}
theorem b_fin {st st2 : bS} {ov : Option bV} {pc ln : Nat} {L : List (Nat × bV)} {stk : List bV} {stk0 : List Value} {T : State} {H : Heap} {locs : List Loc} {ls : Array Slot} (k : bJ (p, l, e, R, s, m, args, below, meth, c, Q, Γ, s0, n) st2 (pc + ln) L (ov.toList ++ stk)) (hle : bLe s0 st) (hS : va_S (bA Γ) s.heap H locs) (hL : bLs n L ls) (hTH : T.heap = H) {a : Array Value}
    (h : ∃ (v : Option Value) (vm₁ : Vm) (B : Pt), s.WarmedH vm₁ ∧ Stand p l e R s m args below meth c B.U B.locs B.cells B.slots ∧ PostOf (bQc Γ st st2 ov) (bc st2 - bc st) (bk st2 - bk st) (bA Γ) ⟨T.setVm vm₁, locs, bc st - bc s0, bk st - bk s0⟩ a v B ∧ Goes p e below T (F0 m pc ls stk0) B.U { F0 m pc ls stk0 with pc := pc + ln, stack := v.toList ++ stk.map bd }) :
    ∃ t, Steps p.tables e below (T.setTop (F0 m pc ls stk0)) t ∧ Q t := by
  obtain ⟨v, vm₁, ⟨U', l2, c2, s2⟩, hW₁, X', ⟨g', mk, t, L', e1, e2, hq, h1, hL', h2, h3⟩, st'⟩ := h
  dsimp only [Pt.U, Pt.locs, Pt.cells, Pt.slots] at X' e1 e2 h1 h2 h3 st'
  subst h1; subst h2; subst h3
  obtain ⟨hv, hR2, ⟨hz, hk⟩, hle2⟩ := hq
  cases hv
  obtain ⟨a1, a2, a3, a4⟩ := hle
  obtain ⟨b1, b2, b3, b4⟩ := hle2
  have hz' : H.size ≤ t.heap.size := by rw [← hTH]; exact hz
  have hk' : ∀ q : Nat, q < H.size → ¬ bA Γ q → t.heap[q]? = H[q]? := fun q q1 q2 => by rw [← hTH]; exact hk q (by rw [← hTH] at q1; exact q1) q2
  have hS' : va_S (bA Γ) s.heap U'.heap (locs ++ L') := by
    rw [e1]
    refine ⟨Nat.le_trans hS.1 hz', fun q q1 q2 => ?_, fun q hq => ?_⟩
    · rw [hk' q (Nat.lt_of_lt_of_le q1 hS.1) q2]
      exact hS.2.1 q q1 q2
    · rcases List.mem_append.mp hq with h | h
      · exact hS.2.2 q h
      · exact hL' q h
  have X2 : Stand p l e R s m args below meth c U' (locs ++ L') (bc st2 - bc s0) (bk st2 - bk s0) := by
    rw [show bc st2 - bc s0 = bc st - bc s0 + (bc st2 - bc st) by omega, show bk st2 - bk s0 = bk st - bk s0 + (bk st2 - bk st) by omega]
    exact X'
  have key := k ⟨by omega, b2, by omega, b4⟩ U'.heap (locs ++ L') ls (by rw [e1]; exact hR2) hS' hL U' rfl X2
  obtain ⟨t2, z1, z2⟩ := key
  refine ⟨t2, st' t2 ?_, z2⟩
  have ee : (ov.map bd).toList ++ stk.map bd = (ov.toList ++ stk).map bd := by cases ov <;> rfl
  rw [ee]
  exact z1
end BF
section BR7
variable {κ : bK} {Γ0 : bG} {l0 : Launch} {cc : ByteArray} {own : String} {nL fr lo : Nat} {st st2 : bS} {pc : Nat} {L : List (Nat × bV)} {stk : List bV} {x y a i : Int}
variable {b : ByteArray} {maxL frc loc n' index : Nat} {ret : Option FieldType} {av : List bV} {ov : Option bV} {stk0 : List bV}
theorem r_callS (hκ : bOk κ Γ0 l0 cc own nL fr lo) {y : MethodName} (ct : bCt Γ0 l0 y b maxL ret frc loc av st st2 ov) (hw : GoodIn lw_all (va_wsS own index y (ws_ y b maxL ret))) (hd1 : y.cls ≠ "java/lang/invoke/MethodHandle" ∧ y.cls ≠ "java/lang/invoke/VarHandle" ∧ (parseMethodDescriptor y.desc).map (fun d => d.parameters.length) = some n') (hlen : av.length = n') (hRR : frc + 1 ≤ fr ∧ 8 + (maxL + 11) + loc ≤ lo) (hstk : stk0 = av.reverse ++ stk) (hW : bsz stk ≤ 8) (hd : decode cc pc = .ok (.invokestatic index, 3)) (k : bJ κ st2 (pc + 3) L (ov.toList ++ stk)) : bJ κ st pc L stk0 := by
  obtain ⟨p, l, e, R, s, m, args, below, meth, c, Q, Γ, s0, n⟩ := κ
  obtain ⟨hx, hb, o3, hown, hts, hK, o7, o8, o9, o10, o11, o12, rfl, rfl⟩ := hκ
  intro hle H locs ls hR hS hL
  have hRm : (bRm st frc loc).frames + 1 ≤ R.frames ∧ 8 + (maxL + 11) + (bRm st frc loc).locals ≤ R.locals := by rw [o11, o12]; exact hRR
  have hf1 : bc st - bc s0 + (bCM - bc st) ≤ R.cells := by rw [o9]; obtain ⟨q1, q2, -⟩ := hle; omega
  have hf2 : bk st - bk s0 + (bKM - bk st) ≤ R.slots := by rw [o10]; obtain ⟨-, -, q1, q2⟩ := hle; omega
  have hPc : ∀ U : State, U.heap = H → s.WarmedH U.vm → bPc Γ st av ((av.map bd).toArray) U := fun U hU hW => ⟨rfl, by rw [hU]; exact hR, bKK.moved hW hK, hle.2.1, hle.2.2.2⟩
  have cw := va_cwS (R := R) (mc := (bRm st frc loc).cells) (ms := (bRm st frc loc).slots) n' hts hw rfl rfl rfl hd1 hRm
  have hKb := callBack2 (sargs := args) (p := p) (e := e) (below := below) cw.1 ct (bPc_blind Γ st av)
  obtain ⟨⟨-, -, -, -, -, -, hcode, hini, hy, hlen2, hl⟩, hstt⟩ := cw
  intro T hT X
  have hstk2 : stk0.map bd = (av.map bd).reverse ++ stk.map bd := by
    rw [hstk, List.map_append, List.map_reverse]
  rw [hstk2]
  exact b_fin k hle hS hL hT (callS X hx (bytes := b) (maxL := maxL) (ret := ret) hown hl hstt hini hcode hy hKb (g := F0 m pc ls _) rfl (by show ls.size = c.maxLocals; rw [hL.1, o3]) (argsL := av.map bd) (rest := stk.map bd) (fun sig h => by rw [List.length_map]; exact hlen.trans (hlen2 sig h)) rfl (b_room hW) (by rw [hb]; exact hd) (fun vm₁ hW₁ => ⟨hf1, hf2, hPc (T.setVm vm₁) hT hW₁⟩))
theorem r_callI (hκ : bOk κ Γ0 l0 cc own nL fr lo) {y : MethodName} (ct : bCt Γ0 l0 y b maxL none frc loc ((2, a) :: av) st st2 ov) (hw : GoodIn lw_all (ws_ y b maxL none)) (hini : Cond.initialized y.cls ∈ lw_all) (hl0 : Cond.methodLink own index y ∈ lw_all) (hin0 : Cond.instanceMethod y ∈ lw_all) (hy1 : y.name = "<init>") (hd1 : y.cls ≠ "java/lang/invoke/MethodHandle" ∧ y.cls ≠ "java/lang/invoke/VarHandle" ∧ (parseMethodDescriptor y.desc).map (fun d => d.parameters.length) = some n') {t : Nat} {r : vw_C} (ht : bg st 0 a 0 = ((t + 1 : Nat) : Int)) (hc : bcls[t]? = some r) (hlen : av.length = n') (hRR : frc + 1 ≤ fr ∧ 8 + (maxL + 11) + loc ≤ lo) (hstk : stk0 = av.reverse ++ (2, a) :: stk) (hW : bsz stk ≤ 8) (hd : decode cc pc = .ok (.invokespecial index, 3)) (k : bJ κ st2 (pc + 3) L (ov.toList ++ stk)) : bJ κ st pc L stk0 := by
  obtain ⟨p, l, e, R, s, m, args, below, meth, c, Q, Γ, s0, n⟩ := κ
  obtain ⟨hx, hb, o3, hown, hts, hK, o7, o8, o9, o10, o11, o12, rfl, rfl⟩ := hκ
  intro hle H locs ls hR hS hL
  have hRm : (bRm st frc loc).frames + 1 ≤ R.frames ∧ 8 + (maxL + 11) + (bRm st frc loc).locals ≤ R.locals := by rw [o11, o12]; exact hRR
  have hf1 : bc st - bc s0 + (bCM - bc st) ≤ R.cells := by rw [o9]; obtain ⟨q1, q2, -⟩ := hle; omega
  have hf2 : bk st - bk s0 + (bKM - bk st) ≤ R.slots := by rw [o10]; obtain ⟨-, -, q1, q2⟩ := hle; omega
  obtain ⟨bb, rfl, -, -⟩ := hR.nat (a := a) (by rw [ht]; omega)
  have hOB := hR.obj ht hc
  obtain ⟨cellB, g1, g2, g3, -⟩ := hOB
  have hcls := (hK.1.1 t _ hc).2
  have hPc : ∀ U : State, U.heap = H → s.WarmedH U.vm → bPc Γ st ((2, (bb : Int)) :: av) ((Value.ref bb :: av.map bd).toArray) U := fun U hU hW => ⟨by show _ = ((bd (2, (bb : Int))) :: av.map bd).toArray; rw [show bd (2, (bb : Int)) = .ref bb from brv_nat bb], by rw [hU]; exact hR, bKK.moved hW hK, hle.2.1, hle.2.2.2⟩
  have cw := cwI (R := R) (mc := (bRm st frc loc).cells) (ms := (bRm st frc loc).slots) n' hts hw rfl rfl rfl (hts _ hini) (hts _ hl0) (hts _ hin0) hy1 hd1 hRm
  have hKb := callBack2 (sargs := args) (p := p) (e := e) (below := below) cw.1 ct (bPc_blind Γ st _)
  obtain ⟨⟨-, -, -, -, -, -, hcode, -, hy, hlen2, hl⟩, -, hin⟩ := cw
  intro T hT X
  have hstk2 : stk0.map bd = (av.map bd).reverse ++ .ref bb :: stk.map bd := by
    rw [hstk, List.map_append, List.map_reverse]
    rw [List.map_cons, show bd (2, (bb : Int)) = .ref bb from brv_nat bb]
  rw [hstk2]
  exact b_fin k hle hS hL hT (callI X hx (bytes := b) (maxL := maxL) hown hy1 hl hin hcode hy hKb (a := bb) (g := F0 m pc ls _) rfl (by show ls.size = c.maxLocals; rw [hL.1, o3]) (argsL := av.map bd) (rest := stk.map bd) (fun sig h => by rw [List.length_map]; exact hlen.trans (hlen2 sig h)) rfl (b_room hW) (by rw [hb]; exact hd) (fun vm₁ hW₁ => ⟨hf1, hf2, hPc (T.setVm vm₁) hT hW₁⟩))
theorem r_callV (hκ : bOk κ Γ0 l0 cc own nL fr lo) {y : MethodName} {C : String} {t N : Nat} {T9 : u_T} (ct : bCt Γ0 l0 y b maxL ret frc loc ((2, a) :: av) st st2 ov) (hw : GoodIn lw_all (wsV own index C y (ws_ y b maxL ret))) (hd1 : y.cls = C ∧ y.cls ≠ "java/lang/invoke/MethodHandle" ∧ y.cls ≠ "java/lang/invoke/VarHandle" ∧ (parseMethodDescriptor y.desc).map (fun d => d.parameters.length) = some n') (ht : bg st 0 a 0 = ((t + 1 : Nat) : Int)) (hc : bcls[t]? = some (C, T9, N)) (hlen : av.length = n') (hRR : frc + 1 ≤ fr ∧ 8 + (maxL + 11) + loc ≤ lo) (hstk : stk0 = av.reverse ++ (2, a) :: stk) (hW : bsz stk ≤ 8) (hd : decode cc pc = .ok (.invokevirtual index, 3)) (k : bJ κ st2 (pc + 3) L (ov.toList ++ stk)) : bJ κ st pc L stk0 := by
  obtain ⟨p, l, e, R, s, m, args, below, meth, c, Q, Γ, s0, n⟩ := κ
  obtain ⟨hx, hb, o3, hown, hts, hK, o7, o8, o9, o10, o11, o12, rfl, rfl⟩ := hκ
  intro hle H locs ls hR hS hL
  have hRm : (bRm st frc loc).frames + 1 ≤ R.frames ∧ 8 + (maxL + 11) + (bRm st frc loc).locals ≤ R.locals := by rw [o11, o12]; exact hRR
  have hf1 : bc st - bc s0 + (bCM - bc st) ≤ R.cells := by rw [o9]; obtain ⟨q1, q2, -⟩ := hle; omega
  have hf2 : bk st - bk s0 + (bKM - bk st) ≤ R.slots := by rw [o10]; obtain ⟨-, -, q1, q2⟩ := hle; omega
  obtain ⟨bb, rfl, -, -⟩ := hR.nat (a := a) (by rw [ht]; omega)
  have hOB := hR.obj ht hc
  obtain ⟨cellB, g1, g2, g3, -⟩ := hOB
  have hcls := (hK.1.1 t _ hc).2
  have hPc : ∀ U : State, U.heap = H → s.WarmedH U.vm → bPc Γ st ((2, (bb : Int)) :: av) ((Value.ref bb :: av.map bd).toArray) U := fun U hU hW => ⟨by show _ = ((bd (2, (bb : Int))) :: av.map bd).toArray; rw [show bd (2, (bb : Int)) = .ref bb from brv_nat bb], by rw [hU]; exact hR, bKK.moved hW hK, hle.2.1, hle.2.2.2⟩
  have cw := cwV (R := R) (mc := (bRm st frc loc).cells) (ms := (bRm st frc loc).slots) n' hts hw rfl rfl rfl hd1 hRm
  have hKb := callBack2 (sargs := args) (p := p) (e := e) (below := below) cw.1 ct (bPc_blind Γ st _)
  obtain ⟨⟨-, -, -, -, -, -, hcode, -, hy, hlen2, hl⟩, hin, hse⟩ := cw
  intro T hT X
  have hstk2 : stk0.map bd = (av.map bd).reverse ++ .ref bb :: stk.map bd := by
    rw [hstk, List.map_append, List.map_reverse]
    rw [List.map_cons, show bd (2, (bb : Int)) = .ref bb from brv_nat bb]
  rw [hstk2]
  exact b_fin k hle hS hL hT (callV X hx (C := C) (bytes := b) (maxL := maxL) (ret := ret) hown hl hin hse hcode hy hKb (b := bb) (by rw [hT]; exact g1) (by rw [g3]; rfl) (by rw [g2]; exact hcls.1) (g := F0 m pc ls _) rfl (by show ls.size = c.maxLocals; rw [hL.1, o3]) (argsL := av.map bd) (rest := stk.map bd) (fun sig h => by rw [List.length_map]; exact hlen.trans (hlen2 sig h)) rfl (b_room hW) (by rw [hb]; exact hd) (fun vm₁ hW₁ => ⟨hf1, hf2, hPc (T.setVm vm₁) hT hW₁⟩))
theorem r_callU (hκ : bOk κ Γ0 l0 cc own nL fr lo) {x9 y : MethodName} {C owner : String} {t N : Nat} {T9 : u_T} (ct : bCt Γ0 l0 y b maxL ret frc loc ((2, a) :: av) st st2 ov) (hcw : ∀ (R : Room) (s : State) (args : Array Value), (∀ w ∈ lw_all, w.before args s = true) → (frc + 1 ≤ R.frames ∧ 8 + (maxL + 11) + loc ≤ R.locals) → va_CU R s args own C owner index x9 y b maxL ret (ws_ y b maxL ret) (bRm st frc loc) (bRm st frc loc).cells (bRm st frc loc).slots n') (ht : bg st 0 a 0 = ((t + 1 : Nat) : Int)) (hc : bcls[t]? = some (C, T9, N)) (hlen : av.length = n') (hRR : frc + 1 ≤ fr ∧ 8 + (maxL + 11) + loc ≤ lo) (hstk : stk0 = av.reverse ++ (2, a) :: stk) (hW : bsz stk ≤ 8) (hd : decode cc pc = .ok (.invokevirtual index, 3)) (k : bJ κ st2 (pc + 3) L (ov.toList ++ stk)) : bJ κ st pc L stk0 := by
  obtain ⟨p, l, e, R, s, m, args, below, meth, c, Q, Γ, s0, n⟩ := κ
  obtain ⟨hx, hb, o3, hown, hts, hK, o7, o8, o9, o10, o11, o12, rfl, rfl⟩ := hκ
  intro hle H locs ls hR hS hL
  have hRm : (bRm st frc loc).frames + 1 ≤ R.frames ∧ 8 + (maxL + 11) + (bRm st frc loc).locals ≤ R.locals := by rw [o11, o12]; exact hRR
  have hf1 : bc st - bc s0 + (bCM - bc st) ≤ R.cells := by rw [o9]; obtain ⟨q1, q2, -⟩ := hle; omega
  have hf2 : bk st - bk s0 + (bKM - bk st) ≤ R.slots := by rw [o10]; obtain ⟨-, -, q1, q2⟩ := hle; omega
  obtain ⟨bb, rfl, -, -⟩ := hR.nat (a := a) (by rw [ht]; omega)
  have hOB := hR.obj ht hc
  obtain ⟨cellB, g1, g2, g3, -⟩ := hOB
  have hcls := (hK.1.1 t _ hc).2
  have hPc : ∀ U : State, U.heap = H → s.WarmedH U.vm → bPc Γ st ((2, (bb : Int)) :: av) ((Value.ref bb :: av.map bd).toArray) U := fun U hU hW => ⟨by show _ = ((bd (2, (bb : Int))) :: av.map bd).toArray; rw [show bd (2, (bb : Int)) = .ref bb from brv_nat bb], by rw [hU]; exact hR, bKK.moved hW hK, hle.2.1, hle.2.2.2⟩
  have cw := hcw R s args hts hRm
  obtain ⟨hrc, hrs, hfr, hlo, hws, hcw2⟩ := cw.back
  have hini := cw.init
  have hKb := back2 (sargs := args) (p := p) (e := e) (below := below) (W := 8) (len := 3) (bytes := b) (maxL := maxL) (ret := ret) ct (bPc_blind Γ st _) hfr hlo hws hcw2 (fun a' U hW => word_at hW (Or.inl (by first | rfl | simp [Cond.onTables, Cond.keeps, Cond.steady])) hini)
  have hlen2 := cw.len
  intro T hT X
  have hstk2 : stk0.map bd = (av.map bd).reverse ++ .ref bb :: stk.map bd := by
    rw [hstk, List.map_append, List.map_reverse]
    rw [List.map_cons, show bd (2, (bb : Int)) = .ref bb from brv_nat bb]
  rw [hstk2]
  exact b_fin k hle hS hL hT (va_callVU X hx (C := C) (owner := owner) (bytes := b) (maxL := maxL) (ret := ret) hown cw.link cw.same cw.decl cw.notMH cw.sel cw.inst cw.code hKb (b := bb) (by rw [hT]; exact g1) (by rw [g3]; rfl) (by rw [g2]; exact hcls.1) (g := F0 m pc ls _) rfl (by show ls.size = c.maxLocals; rw [hL.1, o3]) (argsL := av.map bd) (rest := stk.map bd) (fun sig h => by rw [List.length_map]; exact hlen.trans (hlen2 sig h)) rfl (b_room hW) (by rw [hb]; exact hd) (fun vm₁ hW₁ => ⟨hf1, hf2, hPc (T.setVm vm₁) hT hW₁⟩))
theorem r_callF (hκ : bOk κ Γ0 l0 cc own nL fr lo) {x9 y : MethodName} {C : String} {count t N : Nat} {T9 : u_T} (ct : bCt Γ0 l0 y b maxL ret frc loc ((2, a) :: av) st st2 ov) (hw : GoodIn lw_all (va_wsF own index C x9 y (ws_ y b maxL ret))) (hF : (C, x9, y) ∈ bface) (hd1 : x9.cls ≠ "java/lang/invoke/MethodHandle" ∧ x9.cls ≠ "java/lang/invoke/VarHandle" ∧ (parseMethodDescriptor x9.desc).map (fun d => d.parameters.length) = some n') (ht : bg st 0 a 0 = ((t + 1 : Nat) : Int)) (hc : bcls[t]? = some (C, T9, N)) (hlen : av.length = n') (hRR : frc + 1 ≤ fr ∧ 8 + (maxL + 11) + loc ≤ lo) (hstk : stk0 = av.reverse ++ (2, a) :: stk) (hW : bsz stk ≤ 8) (hd : decode cc pc = .ok (.invokeinterface index count, 5)) (k : bJ κ st2 (pc + 5) L (ov.toList ++ stk)) : bJ κ st pc L stk0 := by
  obtain ⟨p, l, e, R, s, m, args, below, meth, c, Q, Γ, s0, n⟩ := κ
  obtain ⟨hx, hb, o3, hown, hts, hK, o7, o8, o9, o10, o11, o12, rfl, rfl⟩ := hκ
  intro hle H locs ls hR hS hL
  have hRm : (bRm st frc loc).frames + 1 ≤ R.frames ∧ 8 + (maxL + 11) + (bRm st frc loc).locals ≤ R.locals := by rw [o11, o12]; exact hRR
  have hf1 : bc st - bc s0 + (bCM - bc st) ≤ R.cells := by rw [o9]; obtain ⟨q1, q2, -⟩ := hle; omega
  have hf2 : bk st - bk s0 + (bKM - bk st) ≤ R.slots := by rw [o10]; obtain ⟨-, -, q1, q2⟩ := hle; omega
  obtain ⟨bb, rfl, -, -⟩ := hR.nat (a := a) (by rw [ht]; omega)
  have hOB := hR.obj ht hc
  obtain ⟨cellB, g1, g2, g3, -⟩ := hOB
  have hcls := (hK.1.1 t _ hc).2
  have hPc : ∀ U : State, U.heap = H → s.WarmedH U.vm → bPc Γ st ((2, (bb : Int)) :: av) ((Value.ref bb :: av.map bd).toArray) U := fun U hU hW => ⟨by show _ = ((bd (2, (bb : Int))) :: av.map bd).toArray; rw [show bd (2, (bb : Int)) = .ref bb from brv_nat bb], by rw [hU]; exact hR, bKK.moved hW hK, hle.2.1, hle.2.2.2⟩
  obtain ⟨hfc, kB, hkB, -⟩ := hcls
  have cw := va_cwF (R := R) (mc := (bRm st frc loc).cells) (ms := (bRm st frc loc).slots) n' hts hw rfl rfl rfl (hK.2.2.2.1 _ hF) hd1 hRm
  obtain ⟨hrc, hrs, hfr, hlo, hws, hcw2⟩ := cw.back
  have hini := cw.init
  have hKb := back2 (sargs := args) (p := p) (e := e) (below := below) (W := 8) (len := 5) (bytes := b) (maxL := maxL) (ret := ret) ct (bPc_blind Γ st _) hfr hlo hws hcw2 (fun a' U hW => word_at hW (Or.inl (by first | rfl | simp [Cond.onTables, Cond.keeps, Cond.steady])) hini)
  have hlen2 := cw.len
  intro T hT X
  have hstk2 : stk0.map bd = (av.map bd).reverse ++ .ref bb :: stk.map bd := by
    rw [hstk, List.map_append, List.map_reverse]
    rw [List.map_cons, show bd (2, (bb : Int)) = .ref bb from brv_nat bb]
  rw [hstk2]
  exact b_fin k hle hS hL hT (va_callIF X hx (C := C) (bytes := b) (maxL := maxL) (ret := ret) hown cw.link cw.decl cw.face cw.sel cw.inst cw.pub cw.unh cw.cast cw.code cw.notMH hKb (b := bb) (by rw [hT]; exact g1) (by rw [g3]; rfl) (by rw [g2]; exact hfc) (by rw [g2]; exact hkB) (g := F0 m pc ls _) rfl (by show ls.size = c.maxLocals; rw [hL.1, o3]) (argsL := av.map bd) (rest := stk.map bd) (fun sig h => by rw [List.length_map]; exact hlen.trans (hlen2 sig h)) rfl (b_room hW) (by rw [hb]; exact hd) (fun vm₁ hW₁ => ⟨hf1, hf2, hPc (T.setVm vm₁) hT hW₁⟩))
theorem r_callSU (hκ : bOk κ Γ0 l0 cc own nL fr lo) {y : MethodName} {t : Nat} {r : vw_C} (ct : bCt Γ0 l0 y b maxL ret frc loc ((2, a) :: av) st st2 ov) (hw : GoodIn lw_all (va_wsSU own index y (ws_ y b maxL ret))) (hd1 : y.name ≠ "<init>" ∧ (parseMethodDescriptor y.desc).map (fun d => d.parameters.length) = some n') (ht : bg st 0 a 0 = ((t + 1 : Nat) : Int)) (hc : bcls[t]? = some r) (hlen : av.length = n') (hRR : frc + 1 ≤ fr ∧ 8 + (maxL + 11) + loc ≤ lo) (hstk : stk0 = av.reverse ++ (2, a) :: stk) (hW : bsz stk ≤ 8) (hd : decode cc pc = .ok (.invokespecial index, 3)) (k : bJ κ st2 (pc + 3) L (ov.toList ++ stk)) : bJ κ st pc L stk0 := by
  obtain ⟨p, l, e, R, s, m, args, below, meth, c, Q, Γ, s0, n⟩ := κ
  obtain ⟨hx, hb, o3, hown, hts, hK, o7, o8, o9, o10, o11, o12, rfl, rfl⟩ := hκ
  intro hle H locs ls hR hS hL
  have hRm : (bRm st frc loc).frames + 1 ≤ R.frames ∧ 8 + (maxL + 11) + (bRm st frc loc).locals ≤ R.locals := by rw [o11, o12]; exact hRR
  have hf1 : bc st - bc s0 + (bCM - bc st) ≤ R.cells := by rw [o9]; obtain ⟨q1, q2, -⟩ := hle; omega
  have hf2 : bk st - bk s0 + (bKM - bk st) ≤ R.slots := by rw [o10]; obtain ⟨-, -, q1, q2⟩ := hle; omega
  obtain ⟨bb, rfl, -, -⟩ := hR.nat (a := a) (by rw [ht]; omega)
  have hOB := hR.obj ht hc
  obtain ⟨cellB, g1, g2, g3, -⟩ := hOB
  have hcls := (hK.1.1 t _ hc).2
  have hPc : ∀ U : State, U.heap = H → s.WarmedH U.vm → bPc Γ st ((2, (bb : Int)) :: av) ((Value.ref bb :: av.map bd).toArray) U := fun U hU hW => ⟨by show _ = ((bd (2, (bb : Int))) :: av.map bd).toArray; rw [show bd (2, (bb : Int)) = .ref bb from brv_nat bb], by rw [hU]; exact hR, bKK.moved hW hK, hle.2.1, hle.2.2.2⟩
  obtain ⟨hfc, kB, hkB, -⟩ := hcls
  have cw := va_cwSU (R := R) (mc := (bRm st frc loc).cells) (ms := (bRm st frc loc).slots) n' hts hw rfl rfl rfl hd1 hRm
  obtain ⟨⟨hrc, hrs, hfr, hlo, hws, hcw2⟩, hl1, hl2, hl3, hl4, hini, hcode, hno, hlen2⟩ := cw
  have hKb := back2 (sargs := args) (p := p) (e := e) (below := below) (W := 8) (len := 3) (bytes := b) (maxL := maxL) (ret := ret) ct (bPc_blind Γ st _) hfr hlo hws hcw2 (fun a' U hW => word_at hW (Or.inl (by first | rfl | simp [Cond.onTables, Cond.keeps, Cond.steady])) hini)
  intro T hT X
  have hstk2 : stk0.map bd = (av.map bd).reverse ++ .ref bb :: stk.map bd := by
    rw [hstk, List.map_append, List.map_reverse]
    rw [List.map_cons, show bd (2, (bb : Int)) = .ref bb from brv_nat bb]
  rw [hstk2]
  exact b_fin k hle hS hL hT (va_callSU X hx (bytes := b) (maxL := maxL) (ret := ret) hown hl1 hl2 hl3 hl4 hcode hno hKb (b := bb) (by rw [hT]; exact g1) (by rw [g3]; rfl) (by rw [g2]; exact hkB) (g := F0 m pc ls _) rfl (by show ls.size = c.maxLocals; rw [hL.1, o3]) (argsL := av.map bd) (rest := stk.map bd) (fun sig h => by rw [List.length_map]; exact hlen.trans (hlen2 sig h)) rfl (b_room hW) (by rw [hb]; exact hd) (fun vm₁ hW₁ => ⟨hf1, hf2, hPc (T.setVm vm₁) hT hW₁⟩))
theorem r_callSN (hκ : bOk κ Γ0 l0 cc own nL fr lo) {y : MethodName} {host : String} (ct : bCt Γ0 l0 y b maxL ret frc loc av st st2 ov) (hw : GoodIn lw_all (ws_ y b maxL ret)) (hN : (own, index, y, host) ∈ bnest) (hini0 : Cond.initialized y.cls ∈ lw_all) (hd1 : y.cls ≠ "java/lang/invoke/MethodHandle" ∧ y.cls ≠ "java/lang/invoke/VarHandle" ∧ (parseMethodDescriptor y.desc).map (fun d => d.parameters.length) = some n') (hst0 : Cond.static y ∈ lw_all) (hlen : av.length = n') (hRR : frc + 1 ≤ fr ∧ 8 + (maxL + 11) + loc ≤ lo) (hstk : stk0 = av.reverse ++ stk) (hW : bsz stk ≤ 8) (hd : decode cc pc = .ok (.invokestatic index, 3)) (k : bJ κ st2 (pc + 3) L (ov.toList ++ stk)) : bJ κ st pc L stk0 := by
  obtain ⟨p, l, e, R, s, m, args, below, meth, c, Q, Γ, s0, n⟩ := κ
  obtain ⟨hx, hb, o3, hown, hts, hK, o7, o8, o9, o10, o11, o12, rfl, rfl⟩ := hκ
  intro hle H locs ls hR hS hL
  have hRm : (bRm st frc loc).frames + 1 ≤ R.frames ∧ 8 + (maxL + 11) + (bRm st frc loc).locals ≤ R.locals := by rw [o11, o12]; exact hRR
  have hf1 : bc st - bc s0 + (bCM - bc st) ≤ R.cells := by rw [o9]; obtain ⟨q1, q2, -⟩ := hle; omega
  have hf2 : bk st - bk s0 + (bKM - bk st) ≤ R.slots := by rw [o10]; obtain ⟨-, -, q1, q2⟩ := hle; omega
  have hPc : ∀ U : State, U.heap = H → s.WarmedH U.vm → bPc Γ st av ((av.map bd).toArray) U := fun U hU hW => ⟨rfl, by rw [hU]; exact hR, bKK.moved hW hK, hle.2.1, hle.2.2.2⟩
  have cw := va_cnB (R := R) (mc := (bRm st frc loc).cells) (ms := (bRm st frc loc).slots) n' hts hw rfl rfl rfl (hK.2.2.2.2.1 _ hN) (hts _ hini0) hd1 hRm
  obtain ⟨⟨hrc, hrs, hfr, hlo, hws, hcw2⟩, hcode, hini, hy, hlen2, hl⟩ := cw
  have hKb := back2 (sargs := args) (p := p) (e := e) (below := below) (W := 8) (len := 3) (bytes := b) (maxL := maxL) (ret := ret) ct (bPc_blind Γ st _) hfr hlo hws hcw2 (fun a' U hW => word_at hW (Or.inl (by first | rfl | simp [Cond.onTables, Cond.keeps, Cond.steady])) hini)
  intro T hT X
  have hstk2 : stk0.map bd = (av.map bd).reverse ++ stk.map bd := by
    rw [hstk, List.map_append, List.map_reverse]
  rw [hstk2]
  exact b_fin k hle hS hL hT (va_callSN X hx (bytes := b) (maxL := maxL) (ret := ret) hown hl (hts _ hst0) hini hcode hy hKb (g := F0 m pc ls _) rfl (by show ls.size = c.maxLocals; rw [hL.1, o3]) (argsL := av.map bd) (rest := stk.map bd) (fun sig h => by rw [List.length_map]; exact hlen.trans (hlen2 sig h)) rfl (b_room hW) (by rw [hb]; exact hd) (fun vm₁ hW₁ => ⟨hf1, hf2, hPc (T.setVm vm₁) hT hW₁⟩))
theorem r_callVN (hκ : bOk κ Γ0 l0 cc own nL fr lo) {y : MethodName} {host C : String} {t N : Nat} {T9 : u_T} (ct : bCt Γ0 l0 y b maxL ret frc loc ((2, a) :: av) st st2 ov) (hw : GoodIn lw_all (ws_ y b maxL ret)) (hN : (own, index, y, host) ∈ bnest) (hini0 : Cond.initialized y.cls ∈ lw_all) (hd1 : y.cls ≠ "java/lang/invoke/MethodHandle" ∧ y.cls ≠ "java/lang/invoke/VarHandle" ∧ (parseMethodDescriptor y.desc).map (fun d => d.parameters.length) = some n') (hin0 : Cond.instanceMethod y ∈ lw_all) (hse0 : Cond.selects C y y ∈ lw_all) (ht : bg st 0 a 0 = ((t + 1 : Nat) : Int)) (hc : bcls[t]? = some (C, T9, N)) (hlen : av.length = n') (hRR : frc + 1 ≤ fr ∧ 8 + (maxL + 11) + loc ≤ lo) (hstk : stk0 = av.reverse ++ (2, a) :: stk) (hW : bsz stk ≤ 8) (hd : decode cc pc = .ok (.invokevirtual index, 3)) (k : bJ κ st2 (pc + 3) L (ov.toList ++ stk)) : bJ κ st pc L stk0 := by
  obtain ⟨p, l, e, R, s, m, args, below, meth, c, Q, Γ, s0, n⟩ := κ
  obtain ⟨hx, hb, o3, hown, hts, hK, o7, o8, o9, o10, o11, o12, rfl, rfl⟩ := hκ
  intro hle H locs ls hR hS hL
  have hRm : (bRm st frc loc).frames + 1 ≤ R.frames ∧ 8 + (maxL + 11) + (bRm st frc loc).locals ≤ R.locals := by rw [o11, o12]; exact hRR
  have hf1 : bc st - bc s0 + (bCM - bc st) ≤ R.cells := by rw [o9]; obtain ⟨q1, q2, -⟩ := hle; omega
  have hf2 : bk st - bk s0 + (bKM - bk st) ≤ R.slots := by rw [o10]; obtain ⟨-, -, q1, q2⟩ := hle; omega
  obtain ⟨bb, rfl, -, -⟩ := hR.nat (a := a) (by rw [ht]; omega)
  have hOB := hR.obj ht hc
  obtain ⟨cellB, g1, g2, g3, -⟩ := hOB
  have hcls := (hK.1.1 t _ hc).2
  have hPc : ∀ U : State, U.heap = H → s.WarmedH U.vm → bPc Γ st ((2, (bb : Int)) :: av) ((Value.ref bb :: av.map bd).toArray) U := fun U hU hW => ⟨by show _ = ((bd (2, (bb : Int))) :: av.map bd).toArray; rw [show bd (2, (bb : Int)) = .ref bb from brv_nat bb], by rw [hU]; exact hR, bKK.moved hW hK, hle.2.1, hle.2.2.2⟩
  have cw := va_cnB (R := R) (mc := (bRm st frc loc).cells) (ms := (bRm st frc loc).slots) n' hts hw rfl rfl rfl (hK.2.2.2.2.1 _ hN) (hts _ hini0) hd1 hRm
  obtain ⟨⟨hrc, hrs, hfr, hlo, hws, hcw2⟩, hcode, hini, hy, hlen2, hl⟩ := cw
  have hKb := back2 (sargs := args) (p := p) (e := e) (below := below) (W := 8) (len := 3) (bytes := b) (maxL := maxL) (ret := ret) ct (bPc_blind Γ st _) hfr hlo hws hcw2 (fun a' U hW => word_at hW (Or.inl (by first | rfl | simp [Cond.onTables, Cond.keeps, Cond.steady])) hini)
  intro T hT X
  have hstk2 : stk0.map bd = (av.map bd).reverse ++ .ref bb :: stk.map bd := by
    rw [hstk, List.map_append, List.map_reverse]
    rw [List.map_cons, show bd (2, (bb : Int)) = .ref bb from brv_nat bb]
  rw [hstk2]
  exact b_fin k hle hS hL hT (va_callVN X hx (C := C) (bytes := b) (maxL := maxL) (ret := ret) hown hl (hts _ hin0) (hts _ hse0) hcode hy hKb (b := bb) (by rw [hT]; exact g1) (by rw [g3]; rfl) (by rw [g2]; exact hcls.1) (g := F0 m pc ls _) rfl (by show ls.size = c.maxLocals; rw [hL.1, o3]) (argsL := av.map bd) (rest := stk.map bd) (fun sig h => by rw [List.length_map]; exact hlen.trans (hlen2 sig h)) rfl (b_room hW) (by rw [hb]; exact hd) (fun vm₁ hW₁ => ⟨hf1, hf2, hPc (T.setVm vm₁) hT hW₁⟩))
theorem r_callIN (hκ : bOk κ Γ0 l0 cc own nL fr lo) {y : MethodName} {host : String} {t : Nat} {r : vw_C} (ct : bCt Γ0 l0 y b maxL none frc loc ((2, a) :: av) st st2 ov) (hw : GoodIn lw_all (ws_ y b maxL none)) (hN : (own, index, y, host) ∈ bnest) (hini0 : Cond.initialized y.cls ∈ lw_all) (hd1 : y.cls ≠ "java/lang/invoke/MethodHandle" ∧ y.cls ≠ "java/lang/invoke/VarHandle" ∧ (parseMethodDescriptor y.desc).map (fun d => d.parameters.length) = some n') (hin0 : Cond.instanceMethod y ∈ lw_all) (hy1 : y.name = "<init>") (ht : bg st 0 a 0 = ((t + 1 : Nat) : Int)) (hc : bcls[t]? = some r) (hlen : av.length = n') (hRR : frc + 1 ≤ fr ∧ 8 + (maxL + 11) + loc ≤ lo) (hstk : stk0 = av.reverse ++ (2, a) :: stk) (hW : bsz stk ≤ 8) (hd : decode cc pc = .ok (.invokespecial index, 3)) (k : bJ κ st2 (pc + 3) L (ov.toList ++ stk)) : bJ κ st pc L stk0 := by
  obtain ⟨p, l, e, R, s, m, args, below, meth, c, Q, Γ, s0, n⟩ := κ
  obtain ⟨hx, hb, o3, hown, hts, hK, o7, o8, o9, o10, o11, o12, rfl, rfl⟩ := hκ
  intro hle H locs ls hR hS hL
  have hRm : (bRm st frc loc).frames + 1 ≤ R.frames ∧ 8 + (maxL + 11) + (bRm st frc loc).locals ≤ R.locals := by rw [o11, o12]; exact hRR
  have hf1 : bc st - bc s0 + (bCM - bc st) ≤ R.cells := by rw [o9]; obtain ⟨q1, q2, -⟩ := hle; omega
  have hf2 : bk st - bk s0 + (bKM - bk st) ≤ R.slots := by rw [o10]; obtain ⟨-, -, q1, q2⟩ := hle; omega
  obtain ⟨bb, rfl, -, -⟩ := hR.nat (a := a) (by rw [ht]; omega)
  have hOB := hR.obj ht hc
  obtain ⟨cellB, g1, g2, g3, -⟩ := hOB
  have hcls := (hK.1.1 t _ hc).2
  have hPc : ∀ U : State, U.heap = H → s.WarmedH U.vm → bPc Γ st ((2, (bb : Int)) :: av) ((Value.ref bb :: av.map bd).toArray) U := fun U hU hW => ⟨by show _ = ((bd (2, (bb : Int))) :: av.map bd).toArray; rw [show bd (2, (bb : Int)) = .ref bb from brv_nat bb], by rw [hU]; exact hR, bKK.moved hW hK, hle.2.1, hle.2.2.2⟩
  have cw := va_cnB (R := R) (mc := (bRm st frc loc).cells) (ms := (bRm st frc loc).slots) n' hts hw rfl rfl rfl (hK.2.2.2.2.1 _ hN) (hts _ hini0) hd1 hRm
  obtain ⟨⟨hrc, hrs, hfr, hlo, hws, hcw2⟩, hcode, hini, hy, hlen2, hl⟩ := cw
  have hKb := back2 (sargs := args) (p := p) (e := e) (below := below) (W := 8) (len := 3) (bytes := b) (maxL := maxL) (ret := none) ct (bPc_blind Γ st _) hfr hlo hws hcw2 (fun a' U hW => word_at hW (Or.inl (by first | rfl | simp [Cond.onTables, Cond.keeps, Cond.steady])) hini)
  intro T hT X
  have hstk2 : stk0.map bd = (av.map bd).reverse ++ .ref bb :: stk.map bd := by
    rw [hstk, List.map_append, List.map_reverse]
    rw [List.map_cons, show bd (2, (bb : Int)) = .ref bb from brv_nat bb]
  rw [hstk2]
  exact b_fin k hle hS hL hT (va_callIN X hx (bytes := b) (maxL := maxL) hown hy1 hl (hts _ hin0) hcode hy hKb (a := bb) (g := F0 m pc ls _) rfl (by show ls.size = c.maxLocals; rw [hL.1, o3]) (argsL := av.map bd) (rest := stk.map bd) (fun sig h => by rw [List.length_map]; exact hlen.trans (hlen2 sig h)) rfl (b_room hW) (by rw [hb]; exact hd) (fun vm₁ hW₁ => ⟨hf1, hf2, hPc (T.setVm vm₁) hT hW₁⟩))
end BR7
theorem lw_l4 {a0 a1 a2 a3 : Cond} (h0 : a0 ∈ lw_all) (h1 : a1 ∈ lw_all) (h2 : a2 ∈ lw_all) (h3 : a3 ∈ lw_all) : ∀ w ∈ [a0, a1, a2, a3], w ∈ lw_all := by
  intro w hw
  simp only [List.mem_cons, List.not_mem_nil, or_false] at hw
  rcases hw with e | e | e | e
  · exact e ▸ h0
  · exact e ▸ h1
  · exact e ▸ h2
  · exact e ▸ h3
theorem lw_l5 {a0 a1 a2 a3 a4 : Cond} (h0 : a0 ∈ lw_all) (h1 : a1 ∈ lw_all) (h2 : a2 ∈ lw_all) (h3 : a3 ∈ lw_all) (h4 : a4 ∈ lw_all) : ∀ w ∈ [a0, a1, a2, a3, a4], w ∈ lw_all := by
  intro w hw
  simp only [List.mem_cons, List.not_mem_nil, or_false] at hw
  rcases hw with e | e | e | e | e
  · exact e ▸ h0
  · exact e ▸ h1
  · exact e ▸ h2
  · exact e ▸ h3
  · exact e ▸ h4
theorem lw_l6 {a0 a1 a2 a3 a4 a5 : Cond} (h0 : a0 ∈ lw_all) (h1 : a1 ∈ lw_all) (h2 : a2 ∈ lw_all) (h3 : a3 ∈ lw_all) (h4 : a4 ∈ lw_all) (h5 : a5 ∈ lw_all) : ∀ w ∈ [a0, a1, a2, a3, a4, a5], w ∈ lw_all := by
  intro w hw
  simp only [List.mem_cons, List.not_mem_nil, or_false] at hw
  rcases hw with e | e | e | e | e | e
  · exact e ▸ h0
  · exact e ▸ h1
  · exact e ▸ h2
  · exact e ▸ h3
  · exact e ▸ h4
  · exact e ▸ h5
/-! BASE 8: rows for the printed walks -/
theorem pick_map (L : List (Nat × bV)) (ks : List Nat) : (ks.filterMap (fun k => L[k]?)).map (fun q => (q.1, bd q.2)) = lv_pick (L.map fun q => (q.1, bd q.2)) ks := by
  unfold lv_pick
  induction ks with
  | nil => rfl
  | cons k ks ih =>
    rw [List.filterMap_cons, List.filterMap_cons, List.getElem?_map]
    cases h : L[k]? with
    | none => exact ih
    | some q =>
      show _ :: _ = _ :: _
      rw [ih]
section BR8
variable {κ : bK} {Γ0 : bG} {l0 : Launch} {cc : ByteArray} {own : String} {nL fr lo : Nat} {st st' : bS} {pc : Nat} {L L2 : List (Nat × bV)} {stk : List bV} {x y a i v : Int}
theorem r_seq {A B : Prop} (a : A) (f : A → B) : B := f a
theorem r_sub (ks : List Nat) (hl : ks.filterMap (fun k => L[k]?) = L2) (k : bJ κ st pc L2 stk) : bJ κ st pc L stk := by
  obtain ⟨p, l, e, R, s, m, args, below, meth, c, Q, Γ, s0, n⟩ := κ
  intro hle H locs ls hR hS hL
  refine k hle H locs ls hR hS (lv_sub hL ks ?_)
  rw [← hl]
  exact (pick_map L ks).symm
theorem r_vretH (hκ : bOk κ Γ0 l0 cc own nL fr lo) (hf : bFin κ none st' none) (h : some (st, (0 : Int)) = some (st', v)) (hd : decode cc pc = .ok (.return_, 1)) : bJ κ st pc L [] := by
  cases h
  exact r_vret hκ hf hd
theorem r_iretH (hκ : bOk κ Γ0 l0 cc own nL fr lo) {ty : FieldType} (hf : bFin κ (some ty) st' (some (0, v))) (h : some (st, x) = some (st', v)) (hn : narrow ty (.int (i32 x)) = .int (i32 x)) (hd : decode cc pc = .ok (.ireturn, 1)) : bJ κ st pc L [(0, x)] := by
  cases h
  exact r_iret hκ hf hn hd
theorem r_lretH (hκ : bOk κ Γ0 l0 cc own nL fr lo) (hf : bFin κ (some .long) st' (some (1, v))) (h : some (st, x) = some (st', v)) (hd : decode cc pc = .ok (.lreturn, 1)) : bJ κ st pc L [(1, x)] := by
  cases h
  exact r_lret hκ hf hd
theorem r_aretH (hκ : bOk κ Γ0 l0 cc own nL fr lo) {rt : FieldType} (hf : bFin κ (some rt) st' (some (2, v))) (h : some (st, x) = some (st', v)) (hrt : (∃ n, rt = .object n) ∨ ∃ t, rt = .array t) (hd : decode cc pc = .ok (.areturn, 1)) : bJ κ st pc L [(2, x)] := by
  cases h
  exact r_aret hκ hf hrt hd
theorem rt_o {n : String} : (∃ m, FieldType.object n = .object m) ∨ ∃ t, FieldType.object n = .array t := Or.inl ⟨n, rfl⟩
theorem rt_a {n : FieldType} : (∃ m, FieldType.array n = .object m) ∨ ∃ t, FieldType.array n = .array t := Or.inr ⟨n, rfl⟩
theorem r_oinit (hκ : bOk κ Γ0 l0 cc own nL fr lo) {index : Nat} (h0 : 0 ≤ a) (hl : Cond.methodLink own index Lib.objectInit ∈ lw_all) (hin : Cond.instanceMethod Lib.objectInit ∈ lw_all) (hc : Cond.code Lib.objectInit ⟨#[0xb1]⟩ 1 none ∈ lw_all) (hf : 1 ≤ fr ∧ 20 ≤ lo) (hW : bsz stk ≤ 8) (hd : decode cc pc = .ok (.invokespecial index, 3)) (k : bJ κ st (pc + 3) L stk) : bJ κ st pc L ((2, a) :: stk) := by
  obtain ⟨p, l, e, R, s, m, args, below, meth, c, Q, Γ, s0, n⟩ := κ
  obtain ⟨hx, hb, o3, hown, hts, hK, o7, o8, o9, o10, o11, o12, rfl, rfl⟩ := hκ
  intro hle H locs ls hR hS hL
  have e : bd (2, a) = .ref a.toNat := brv_ref h0
  rw [List.map_cons, e]
  have hr := b_room (m := m) (pc := pc) (ls := ls) (stk0 := .ref a.toNat :: stk.map bd) hW
  exact W.objInit hx hb hown (hts _ hl) (hts _ hin) (hts _ hc) rfl (by show ls.size = c.maxLocals; rw [hL.1, o3]) rfl hd (by omega) (by omega) (k hle H locs ls hR hS hL)
theorem r_ifnull (hκ : bOk κ Γ0 l0 cc own nL fr lo) {off : Int} {tgt : Nat} (ht : (pc : Int) + off = (tgt : Int)) (hd : decode cc pc = .ok (.ifnull off, 3)) (k1 : x < 0 → bJ κ st tgt L stk) (k2 : ¬ x < 0 → bJ κ st (pc + 3) L stk) : bJ κ st pc L ((2, x) :: stk) := by
  by_cases hc : x < 0
  · refine bJ_same hκ (fun p l e R s m args below meth c Q Γ s0 n H locs ls q1 q2 hn hx hb hk hts hown hR hL kk => ?_) (k1 hc)
    rw [List.map_cons, show bd (2, x) = .null from brv_null hc]
    exact lv_ifnullN hx hb hd ht (kk ls hL)
  · refine bJ_same hκ (fun p l e R s m args below meth c Q Γ s0 n H locs ls q1 q2 hn hx hb hk hts hown hR hL kk => ?_) (k2 hc)
    rw [List.map_cons, show bd (2, x) = .ref x.toNat from brv_ref (by omega)]
    exact lv_ifnull hx hb hd (kk ls hL)
theorem r_ifnonnull (hκ : bOk κ Γ0 l0 cc own nL fr lo) {off : Int} {tgt : Nat} (ht : (pc : Int) + off = (tgt : Int)) (hd : decode cc pc = .ok (.ifnonnull off, 3)) (k1 : ¬ x < 0 → bJ κ st tgt L stk) (k2 : x < 0 → bJ κ st (pc + 3) L stk) : bJ κ st pc L ((2, x) :: stk) := by
  by_cases hc : x < 0
  · refine bJ_same hκ (fun p l e R s m args below meth c Q Γ s0 n H locs ls q1 q2 hn hx hb hk hts hown hR hL kk => ?_) (k2 hc)
    rw [List.map_cons, show bd (2, x) = .null from brv_null hc]
    exact lv_ifnonnullN hx hb hd (kk ls hL)
  · refine bJ_same hκ (fun p l e R s m args below meth c Q Γ s0 n H locs ls q1 q2 hn hx hb hk hts hown hR hL kk => ?_) (k1 hc)
    rw [List.map_cons, show bd (2, x) = .ref x.toNat from brv_ref (by omega)]
    exact lv_ifnonnull hx hb hd ht (kk ls hL)
/-- references compared: null is any negative number -/
abbrev bReq (x y : Int) : Prop := x = y ∨ (x < 0 ∧ y < 0)
theorem bd_cat2k (x : Int) : (bd (2, x)).category = 1 := bd_cat1 _ (show (2 : Nat) ≠ 1 by decide)
theorem bd_cat0k (x : Int) : (bd (0, x)).category = 1 := rfl
end BR8
section BR9
variable {κ : bK} {Γ0 : bG} {l0 : Launch} {cc : ByteArray} {own : String} {nL fr lo : Nat} {st st' : bS} {pc : Nat} {L L2 : List (Nat × bV)} {stk : List bV} {x y a i v : Int}
theorem b_recv {Γ : bG} {H : Heap} {ci : Nat} {r : vw_C} {s : State} (hR : bRep Γ st H) (hK : bKK Γ s) (hv : bg st 0 x 0 = ((ci + 1 : Nat) : Int)) (hc : bcls[ci]? = some r) : ∃ v : Nat, x = (v : Int) ∧ ∃ cell : Cell, H[v]? = some cell ∧ cell.vm.isStatics = false ∧ s.vm.findClass r.1 = some cell.cls := by
  obtain ⟨v, rfl, -, -⟩ := hR.nat (a := x) (by rw [hv]; omega)
  obtain ⟨cellV, q1, q2, q3, -⟩ := hR.obj hv hc
  exact ⟨v, rfl, cellV, q1, by rw [q3]; rfl, by rw [q2]; exact (hK.1.1 ci r hc).2.1⟩
theorem r_cast (hκ : bOk κ Γ0 l0 cc own nL fr lo) {index : Nat} {nm : String} (hl : Cond.classLink own index nm ∈ lw_all) (hv : x < 0 ∨ ∃ ci r, bg st 0 x 0 = ((ci + 1 : Nat) : Int) ∧ bcls[ci]? = some r ∧ (r.1 = nm ∨ (r.1, nm) ∈ bcast)) (hd : decode cc pc = .ok (.checkcast index, 3)) (k : bJ κ st (pc + 3) L ((2, x) :: stk)) : bJ κ st pc L ((2, x) :: stk) := by
  refine bJ_same hκ (fun p l e R s m args below meth c Q Γ s0 n H locs ls q1 q2 hn hx hb hK hts hown hR hL kk => ?_) k
  have h := kk ls hL
  rw [List.map_cons] at h ⊢
  rcases hv with hv | ⟨ci, r, hv1, hv2, hv3⟩
  · rw [show bd (2, x) = .null from brv_null hv] at h ⊢
    exact lv_castN hx hb hd h
  · obtain ⟨v, rfl, cell, g1, g2, g3⟩ := b_recv hR hK hv1 hv2
    rw [show bd (2, (v : Int)) = .ref v from brv_nat v] at h ⊢
    rcases hv3 with e | e
    · exact va_castS hx hb hown (hts _ hl) (e ▸ (hK.1.1 ci r hv2).2) ⟨cell, g1, g2, e ▸ g3⟩ hd h
    · exact va_castY hx hb hown (hts _ hl) (hK.2.2.1 _ e) ⟨cell, g1, g2, g3⟩ hd h
theorem r_instY (hκ : bOk κ Γ0 l0 cc own nL fr lo) {index : Nat} {nm : String} (hl : Cond.classLink own index nm ∈ lw_all) (hv : ∃ ci r, bg st 0 x 0 = ((ci + 1 : Nat) : Int) ∧ bcls[ci]? = some r ∧ (r.1 = nm ∨ (r.1, nm) ∈ bcast)) (hd : decode cc pc = .ok (.instanceof index, 3)) (k : bJ κ st (pc + 3) L ((0, 1) :: stk)) : bJ κ st pc L ((2, x) :: stk) := by
  refine bJ_same hκ (fun p l e R s m args below meth c Q Γ s0 n H locs ls q1 q2 hn hx hb hK hts hown hR hL kk => ?_) k
  have h := kk ls hL
  rw [List.map_cons] at h ⊢
  obtain ⟨ci, r, hv1, hv2, hv3⟩ := hv
  obtain ⟨v, rfl, cell, g1, g2, g3⟩ := b_recv hR hK hv1 hv2
  rw [show bd (2, (v : Int)) = .ref v from brv_nat v]
  rcases hv3 with e | e
  · exact va_instS hx hb hown (hts _ hl) (e ▸ (hK.1.1 ci r hv2).2) ⟨cell, g1, g2, e ▸ g3⟩ hd h
  · exact va_instY hx hb hown (hts _ hl) (hK.2.2.1 _ e) ⟨cell, g1, g2, g3⟩ hd h
theorem r_instN (hκ : bOk κ Γ0 l0 cc own nL fr lo) {index : Nat} {nm : String} (hl : Cond.classLink own index nm ∈ lw_all) (hv : x < 0 ∨ ∃ ci r, bg st 0 x 0 = ((ci + 1 : Nat) : Int) ∧ bcls[ci]? = some r ∧ (r.1, nm) ∈ bncast) (hd : decode cc pc = .ok (.instanceof index, 3)) (k : bJ κ st (pc + 3) L ((0, 0) :: stk)) : bJ κ st pc L ((2, x) :: stk) := by
  refine bJ_same hκ (fun p l e R s m args below meth c Q Γ s0 n H locs ls q1 q2 hn hx hb hK hts hown hR hL kk => ?_) k
  have h := kk ls hL
  rw [List.map_cons] at h ⊢
  rcases hv with hv | ⟨ci, r, hv1, hv2, e⟩
  · rw [show bd (2, x) = .null from brv_null hv]
    exact lv_instN hx hb hd h
  · obtain ⟨v, rfl, cell, g1, g2, g3⟩ := b_recv hR hK hv1 hv2
    rw [show bd (2, (v : Int)) = .ref v from brv_nat v]
    exact va_instNo hx hb hown (hts _ hl) (hK.2.2.2.2.2.1 _ e) ⟨cell, g1, g2, g3⟩ hd h
end BR9
