/-! ROWS X: methods that throw (xb_back follows vx_back of kit/laws/EXCEPTIONS) -/
set_option maxRecDepth 100000
def bex : List String := ["EditsMeet$Refused", "EditsMeet$Fault", "java/lang/NegativeArraySizeException", "java/lang/ArrayIndexOutOfBoundsException", "java/lang/NullPointerException", "java/lang/ArrayStoreException", "java/lang/ClassCastException"]
abbrev bP : Type := bS → Int → Int → Prop
/-- the end of a method with outcomes P st' v x: x = -1: it returned v; x = j: it threw the object v, of class bex[j] -/
def bXQ (Γ : bG) (rk : Option Nat) (st : bS) (P : bP) : Array Value → State → Outcome → State → Prop := fun _ s o t =>
  ∃ (st' : bS) (v x : Int), P st' v x ∧ bRep Γ st' t.heap ∧ va_F (bA Γ) s t ∧ bLe st st' ∧
    ((x = -1 ∧ o = .returned (rk.map fun k => bd (k, v)) ∧ ∃ L, FrameEnd s o t L (bc st' - bc st) (bk st' - bk st) ∧ ∀ q ∈ L, bA Γ q.base) ∨
     (∃ (j : Nat) (E : String) (q : Nat) (ce : Cell) (L : List Loc), x = (j : Int) ∧ bex[j]? = some E ∧ v = (q : Int) ∧ o = .threw q ∧ t.heap[q]? = some ce ∧ ce.vm = .none ∧ s.vm.findClass E = some ce.cls ∧ s.WarmedH t.vm ∧ s.sameButNew ({ t with vm := s.vm } : State) L (bc st' - bc st) (bk st' - bk st) ∧ ∀ z ∈ L, bA Γ z.base))
def bCx (Γ : bG) (l : Launch) (y : MethodName) (ws : List Cond) (fr lo : Nat) (rk : Option Nat) (av : List bV) (st : bS) (P : bP) : Prop :=
  MetFree l y (headSpec ws (bRm st fr lo)) (bPc Γ st av) (fun _ _ _ _ _ => True) (bXQ Γ rk st P)
def xbPost (Γ : bG) (rk : Option Nat) (st : bS) (P : bP) : Pt → Array Value → Option Value → Pt → Prop := fun A a v B =>
  ∃ (g : JFrame) (mk : MethodId) (t : State) (L : List Loc) (st' : bS) (v0 : Int), B.U.heap = t.heap ∧ B.U.vm = t.vm ∧ P st' v0 (-1) ∧ v = rk.map (fun k => bd (k, v0)) ∧ bRep Γ st' t.heap ∧ va_F (bA Γ) (A.U.calling g mk a) t ∧ bLe st st' ∧ B.locs = A.locs ++ L ∧ (∀ z ∈ L, bA Γ z.base) ∧ B.cells = A.cells + (bc st' - bc st) ∧ B.slots = A.slots + (bk st' - bk st)
def xbPostX (Γ : bG) (st : bS) (P : bP) : Pt → Array Value → Addr → Pt → Prop := fun A a q B =>
  ∃ (g : JFrame) (mk : MethodId) (t : State) (L : List Loc) (E : String) (ce : Cell) (j : Nat) (st' : bS), B.U.heap = t.heap ∧ B.U.vm = t.vm ∧ P st' (q : Int) (j : Int) ∧ bex[j]? = some E ∧ t.heap[q]? = some ce ∧ ce.vm = .none ∧ A.U.vm.findClass E = some ce.cls ∧ bRep Γ st' t.heap ∧ va_F (bA Γ) (A.U.calling g mk a) t ∧ bLe st st' ∧ B.locs = A.locs ++ L ∧ (∀ z ∈ L, bA Γ z.base) ∧ B.cells = A.cells + (bc st' - bc st) ∧ B.slots = A.slots + (bk st' - bk st)
section XB
variable {l : Launch} {R : Room} {p : Program} {e : Env} {below : List Frame} {s : State} {sargs : Array Value} {y : MethodName} {len W9 : Nat}
theorem xb_back {ws : List Cond} {rm : Room} {Pc : Array Value → State → Prop} {Γ : bG} {rk : Option Nat} {st : bS} {P : bP} {bytes : ByteArray} {maxL : Nat} {ret : Option FieldType}
    (hM : MetFree l y (headSpec ws rm) Pc (fun _ _ _ _ _ => True) (bXQ Γ rk st P)) (hblind : FrameBlind Pc)
    (hframes : rm.frames + 1 ≤ R.frames) (hlocals : W9 + (maxL + 11) + rm.locals ≤ R.locals)
    (hws : ∀ w ∈ ws, ∀ a' U, s.WarmedH U.vm → w.before a' U = true) (hcode : Cond.code y bytes maxL ret ∈ ws) (hinit : ∀ a' U, s.WarmedH U.vm → (Cond.initialized y.cls).before a' U = true) :
    vx_Back l R p e below s sargs y len W9 (PreOf R rm.cells rm.slots Pc) (xbPost Γ rk st P) (xbPostX Γ st P) := by
  intro m meth c A g ig mk a X hg hsize hdg hW hn hp
  have h1 : (headSpec ws rm).pre.before a A.U = true := atoms_intro fun w hw => hws w hw _ _ X.warmed
  have h2 : (Cond.code y bytes maxL ret).before a A.U = true := hws _ hcode _ _ X.warmed
  have h3 : (Cond.initialized y.cls).before a A.U = true := hinit _ _ X.warmed
  have h4 : A.cells + (headSpec ws rm).room.cells ≤ R.cells := hp.1
  have h5 : A.slots + (headSpec ws rm).room.slots ≤ R.slots := hp.2.1
  have hPc : Pc a (A.U.calling g mk a) := hblind _ _ _ _ hp.2.2
  obtain ⟨U, Ls, c0, s0⟩ := A
  dsimp only [Pt.U, Pt.locs, Pt.cells, Pt.slots] at h1 h2 h3 h4 h5 X hn hPc ⊢
  obtain ⟨methY, cY, hmY, hcY, -, hlY, -, -, -, -⟩ := Cond.code_spec hn h2
  obtain ⟨kY, hkY, -⟩ := className_of_methodNamed hn
  have hinitY : kY.init = .initialized := Cond.initialized_spec (findClass_of_methodNamed hn) hkY h3
  have h : At U g.method c below := by rw [hg]; exact X.here
  have hlocals9 : W9 + (maxL + 11) + (headSpec ws rm).room.locals ≤ R.locals := hlocals
  have happ : (headSpec ws rm).appliesLoose y e.platform (U.calling g mk a) = true :=
    Spec.appliesLoose_calling (g := g) h hdg hn hkY hinitY
      (X.room_calling (g := g) (R' := (headSpec ws rm).room) hsize hmY hcY hframes (by rw [hlY]; omega) h4 h5) h1
  obtain ⟨mid, hmid⟩ := h.above
  have hfr : (U.setTop g).frames = (.java g :: mid) ++ below := by rw [State.frames_setTop' g h.top, hmid]; rfl
  obtain ⟨o, s₂, hsteps, -, hend, hq⟩ := Steps.callFree hM p X.admits X.cas X.clock (acts := []) hfr happ hPc trivial
  obtain ⟨st', v0, x0, hP0, hR0, hF0, hl0, hq'⟩ := (show bXQ Γ rk st P a (U.calling g mk a) o s₂ from hq)
  rw [State.frames_setTop' g h.top] at hend
  obtain ⟨g₀, hg0⟩ := Option.isSome_iff_exists.mp h.top
  obtain ⟨r, hr⟩ := State.topJava?_eq_some.mp hg0
  have hr' : (({ U with heap := s₂.heap, slotsUsed := s₂.slotsUsed } : State).setVm s₂.vm).frames = .java g₀ :: r := hr
  rcases hq' with ⟨rfl, rfl, L, hfe, hL⟩ | ⟨j, E, q, ce, L, rfl, hE, rfl, rfl, hce, hcv, hcl, hW₂, hsm, hL⟩
  · obtain ⟨-, hW₂, e2, q2, q3, q4, q5, q6⟩ := id hfe
    generalize hv9 : rk.map (fun k => bd (k, v0)) = v at hsteps hend hfe
    have e3 : s₂ = ({ (U.calling g mk a).setFrames s₂.frames with heap := s₂.heap, slotsUsed := s₂.slotsUsed } : State).setVm s₂.vm := by
      have : s₂ = ({ s₂ with vm := (U.calling g mk a).vm } : State).setVm s₂.vm := rfl
      rw [e2] at this
      exact this
    obtain ⟨c₂, i₂, len₂, hc₂, hd₂, hf₂⟩ := hend
    have hW' : U.WarmedH s₂.vm := hW₂
    have hcc : c₂ = c := by
      have h1 : s₂.code? g.method = U.code? g.method := by
        rw [State.code?_eq, State.code?_eq, hW'.alike.method?]
      exact Option.some.inj (hc₂.symm.trans (h1.trans h.code))
    subst hcc
    have hlen : len₂ = len := by rw [hdg] at hd₂; cases hd₂; rfl
    subst hlen
    have hs₂ : s₂ = (({ U with heap := s₂.heap, slotsUsed := s₂.slotsUsed } : State).setVm s₂.vm).setTop { g with pc := g.pc + len₂, stack := v.toList ++ g.stack } := by
      refine e3.trans ?_
      rw [hf₂, State.calling_eq h.top, State.setFrames_setFrames, State.setTop_of_frames _ hr', hr]
      rfl
    have hsame : U.sameButNew ({ U with heap := s₂.heap, slotsUsed := s₂.slotsUsed } : State) L (bc st' - bc st) (bk st' - bk st) := by
      refine ⟨?_, q2, q3, q4, q5, q6⟩
      obtain ⟨t, ht, -⟩ := State.frames_cons hr
      show ({ U with heap := s₂.heap, slotsUsed := s₂.slotsUsed } : State) = { U.setFrames U.frames with heap := s₂.heap, slotsUsed := s₂.slotsUsed }
      rw [State.setFrames_self ht]
    subst hg
    refine Or.inl ⟨v, ⟨(({ U with heap := s₂.heap, slotsUsed := s₂.slotsUsed } : State).setVm s₂.vm), Ls ++ L, c0 + (bc st' - bc st), s0 + (bk st' - bk st)⟩,
      ⟨X.admits, X.cas, X.clock, X.frames, X.room, X.hears, X.method, X.code, (X.here.setHeapUsed s₂.heap s₂.slotsUsed).setVm hW'.alike, X.tail, State.WarmedH.trans X.warmed hW', X.limits, X.bytes, X.same.trans (hsame.setVm s.vm)⟩,
      ⟨g, mk, s₂, L, st', v0, rfl, rfl, hP0, hv9.symm, hR0, hF0, hl0, rfl, hL, rfl, rfl⟩, ?_⟩
    show Steps p.tables e below _ ((({ U with heap := s₂.heap, slotsUsed := s₂.slotsUsed } : State).setVm s₂.vm).setTop { g with pc := g.pc + len₂, stack := v.toList ++ g.stack })
    rw [← hs₂]
    exact hsteps
  · obtain ⟨e2, q2, q3, q4, q5, q6⟩ := id hsm
    have e3 : s₂ = ({ (U.calling g mk a).setFrames s₂.frames with heap := s₂.heap, slotsUsed := s₂.slotsUsed } : State).setVm s₂.vm := by
      have : s₂ = ({ s₂ with vm := (U.calling g mk a).vm } : State).setVm s₂.vm := rfl
      rw [e2] at this
      exact this
    have hf₂ : s₂.frames = .throwing q :: .java g :: U.frames.tail := hend
    have hW' : U.WarmedH s₂.vm := hW₂
    have hs₂ : s₂ = ((({ U with heap := s₂.heap, slotsUsed := s₂.slotsUsed } : State).setVm s₂.vm).setTop g).pushFrame (.throwing q) := by
      refine e3.trans ?_
      rw [hf₂, State.calling_eq h.top, State.setFrames_setFrames, State.pushFrame, State.frames_setTop _ hr', State.setTop_of_frames _ hr', State.setFrames_setFrames, hr]
      rfl
    have hsame : U.sameButNew ({ U with heap := s₂.heap, slotsUsed := s₂.slotsUsed } : State) L (bc st' - bc st) (bk st' - bk st) := by
      refine ⟨?_, q2, q3, q4, q5, q6⟩
      obtain ⟨t, ht, -⟩ := State.frames_cons hr
      show ({ U with heap := s₂.heap, slotsUsed := s₂.slotsUsed } : State) = { U.setFrames U.frames with heap := s₂.heap, slotsUsed := s₂.slotsUsed }
      rw [State.setFrames_self ht]
    subst hg
    refine Or.inr ⟨q, ⟨(({ U with heap := s₂.heap, slotsUsed := s₂.slotsUsed } : State).setVm s₂.vm), Ls ++ L, c0 + (bc st' - bc st), s0 + (bk st' - bk st)⟩,
      ⟨X.admits, X.cas, X.clock, X.frames, X.room, X.hears, X.method, X.code, (X.here.setHeapUsed s₂.heap s₂.slotsUsed).setVm hW'.alike, X.tail, State.WarmedH.trans X.warmed hW', X.limits, X.bytes, X.same.trans (hsame.setVm s.vm)⟩,
      ⟨g, mk, s₂, L, E, ce, j, st', rfl, rfl, hP0, hE, hce, hcv, hcl, hR0, hF0, hl0, rfl, hL, rfl, rfl⟩, ?_⟩
    show Steps p.tables e below _ (((({ U with heap := s₂.heap, slotsUsed := s₂.slotsUsed } : State).setVm s₂.vm).setTop g).pushFrame (.throwing q))
    rw [← hs₂]
    exact hsteps
theorem xb_backW {ws : List Cond} {rm : Room} {Pc : Array Value → State → Prop} {Γ : bG} {rk : Option Nat} {st : bS} {P : bP} {bytes : ByteArray} {maxL : Nat} {ret : Option FieldType} {hh : List (Nat × Nat × Nat × Nat)}
    (hM : MetFree l y (headSpec ws rm) Pc (fun _ _ _ _ _ => True) (bXQ Γ rk st P)) (hblind : FrameBlind Pc)
    (hframes : rm.frames + 1 ≤ R.frames) (hlocals : W9 + (maxL + 11) + rm.locals ≤ R.locals)
    (hws : ∀ w ∈ ws, ∀ a' U, s.WarmedH U.vm → w.before a' U = true) (hcode : Cond.codeWith y bytes maxL ret hh ∈ ws) (hinit : ∀ a' U, s.WarmedH U.vm → (Cond.initialized y.cls).before a' U = true) :
    vx_Back l R p e below s sargs y len W9 (PreOf R rm.cells rm.slots Pc) (xbPost Γ rk st P) (xbPostX Γ st P) := by
  intro m meth c A g ig mk a X hg hsize hdg hW hn hp
  have h1 : (headSpec ws rm).pre.before a A.U = true := atoms_intro fun w hw => hws w hw _ _ X.warmed
  have h2 : (Cond.codeWith y bytes maxL ret hh).before a A.U = true := hws _ hcode _ _ X.warmed
  have h3 : (Cond.initialized y.cls).before a A.U = true := hinit _ _ X.warmed
  have h4 : A.cells + (headSpec ws rm).room.cells ≤ R.cells := hp.1
  have h5 : A.slots + (headSpec ws rm).room.slots ≤ R.slots := hp.2.1
  have hPc : Pc a (A.U.calling g mk a) := hblind _ _ _ _ hp.2.2
  obtain ⟨U, Ls, c0, s0⟩ := A
  dsimp only [Pt.U, Pt.locs, Pt.cells, Pt.slots] at h1 h2 h3 h4 h5 X hn hPc ⊢
  obtain ⟨m9, methY, cY, hn9, hmY, hcY, -, hlY, -⟩ := Cond.codeWith_spec h2
  cases Option.some.inj (hn9.symm.trans hn)
  obtain ⟨kY, hkY, -⟩ := className_of_methodNamed hn
  have hinitY : kY.init = .initialized := Cond.initialized_spec (findClass_of_methodNamed hn) hkY h3
  have h : At U g.method c below := by rw [hg]; exact X.here
  have hlocals9 : W9 + (maxL + 11) + (headSpec ws rm).room.locals ≤ R.locals := hlocals
  have happ : (headSpec ws rm).appliesLoose y e.platform (U.calling g mk a) = true :=
    Spec.appliesLoose_calling (g := g) h hdg hn hkY hinitY
      (X.room_calling (g := g) (R' := (headSpec ws rm).room) hsize hmY hcY hframes (by rw [hlY]; omega) h4 h5) h1
  obtain ⟨mid, hmid⟩ := h.above
  have hfr : (U.setTop g).frames = (.java g :: mid) ++ below := by rw [State.frames_setTop' g h.top, hmid]; rfl
  obtain ⟨o, s₂, hsteps, -, hend, hq⟩ := Steps.callFree hM p X.admits X.cas X.clock (acts := []) hfr happ hPc trivial
  obtain ⟨st', v0, x0, hP0, hR0, hF0, hl0, hq'⟩ := (show bXQ Γ rk st P a (U.calling g mk a) o s₂ from hq)
  rw [State.frames_setTop' g h.top] at hend
  obtain ⟨g₀, hg0⟩ := Option.isSome_iff_exists.mp h.top
  obtain ⟨r, hr⟩ := State.topJava?_eq_some.mp hg0
  have hr' : (({ U with heap := s₂.heap, slotsUsed := s₂.slotsUsed } : State).setVm s₂.vm).frames = .java g₀ :: r := hr
  rcases hq' with ⟨rfl, rfl, L, hfe, hL⟩ | ⟨j, E, q, ce, L, rfl, hE, rfl, rfl, hce, hcv, hcl, hW₂, hsm, hL⟩
  · obtain ⟨-, hW₂, e2, q2, q3, q4, q5, q6⟩ := id hfe
    generalize hv9 : rk.map (fun k => bd (k, v0)) = v at hsteps hend hfe
    have e3 : s₂ = ({ (U.calling g mk a).setFrames s₂.frames with heap := s₂.heap, slotsUsed := s₂.slotsUsed } : State).setVm s₂.vm := by
      have : s₂ = ({ s₂ with vm := (U.calling g mk a).vm } : State).setVm s₂.vm := rfl
      rw [e2] at this
      exact this
    obtain ⟨c₂, i₂, len₂, hc₂, hd₂, hf₂⟩ := hend
    have hW' : U.WarmedH s₂.vm := hW₂
    have hcc : c₂ = c := by
      have h1 : s₂.code? g.method = U.code? g.method := by
        rw [State.code?_eq, State.code?_eq, hW'.alike.method?]
      exact Option.some.inj (hc₂.symm.trans (h1.trans h.code))
    subst hcc
    have hlen : len₂ = len := by rw [hdg] at hd₂; cases hd₂; rfl
    subst hlen
    have hs₂ : s₂ = (({ U with heap := s₂.heap, slotsUsed := s₂.slotsUsed } : State).setVm s₂.vm).setTop { g with pc := g.pc + len₂, stack := v.toList ++ g.stack } := by
      refine e3.trans ?_
      rw [hf₂, State.calling_eq h.top, State.setFrames_setFrames, State.setTop_of_frames _ hr', hr]
      rfl
    have hsame : U.sameButNew ({ U with heap := s₂.heap, slotsUsed := s₂.slotsUsed } : State) L (bc st' - bc st) (bk st' - bk st) := by
      refine ⟨?_, q2, q3, q4, q5, q6⟩
      obtain ⟨t, ht, -⟩ := State.frames_cons hr
      show ({ U with heap := s₂.heap, slotsUsed := s₂.slotsUsed } : State) = { U.setFrames U.frames with heap := s₂.heap, slotsUsed := s₂.slotsUsed }
      rw [State.setFrames_self ht]
    subst hg
    refine Or.inl ⟨v, ⟨(({ U with heap := s₂.heap, slotsUsed := s₂.slotsUsed } : State).setVm s₂.vm), Ls ++ L, c0 + (bc st' - bc st), s0 + (bk st' - bk st)⟩,
      ⟨X.admits, X.cas, X.clock, X.frames, X.room, X.hears, X.method, X.code, (X.here.setHeapUsed s₂.heap s₂.slotsUsed).setVm hW'.alike, X.tail, State.WarmedH.trans X.warmed hW', X.limits, X.bytes, X.same.trans (hsame.setVm s.vm)⟩,
      ⟨g, mk, s₂, L, st', v0, rfl, rfl, hP0, hv9.symm, hR0, hF0, hl0, rfl, hL, rfl, rfl⟩, ?_⟩
    show Steps p.tables e below _ ((({ U with heap := s₂.heap, slotsUsed := s₂.slotsUsed } : State).setVm s₂.vm).setTop { g with pc := g.pc + len₂, stack := v.toList ++ g.stack })
    rw [← hs₂]
    exact hsteps
  · obtain ⟨e2, q2, q3, q4, q5, q6⟩ := id hsm
    have e3 : s₂ = ({ (U.calling g mk a).setFrames s₂.frames with heap := s₂.heap, slotsUsed := s₂.slotsUsed } : State).setVm s₂.vm := by
      have : s₂ = ({ s₂ with vm := (U.calling g mk a).vm } : State).setVm s₂.vm := rfl
      rw [e2] at this
      exact this
    have hf₂ : s₂.frames = .throwing q :: .java g :: U.frames.tail := hend
    have hW' : U.WarmedH s₂.vm := hW₂
    have hs₂ : s₂ = ((({ U with heap := s₂.heap, slotsUsed := s₂.slotsUsed } : State).setVm s₂.vm).setTop g).pushFrame (.throwing q) := by
      refine e3.trans ?_
      rw [hf₂, State.calling_eq h.top, State.setFrames_setFrames, State.pushFrame, State.frames_setTop _ hr', State.setTop_of_frames _ hr', State.setFrames_setFrames, hr]
      rfl
    have hsame : U.sameButNew ({ U with heap := s₂.heap, slotsUsed := s₂.slotsUsed } : State) L (bc st' - bc st) (bk st' - bk st) := by
      refine ⟨?_, q2, q3, q4, q5, q6⟩
      obtain ⟨t, ht, -⟩ := State.frames_cons hr
      show ({ U with heap := s₂.heap, slotsUsed := s₂.slotsUsed } : State) = { U.setFrames U.frames with heap := s₂.heap, slotsUsed := s₂.slotsUsed }
      rw [State.setFrames_self ht]
    subst hg
    refine Or.inr ⟨q, ⟨(({ U with heap := s₂.heap, slotsUsed := s₂.slotsUsed } : State).setVm s₂.vm), Ls ++ L, c0 + (bc st' - bc st), s0 + (bk st' - bk st)⟩,
      ⟨X.admits, X.cas, X.clock, X.frames, X.room, X.hears, X.method, X.code, (X.here.setHeapUsed s₂.heap s₂.slotsUsed).setVm hW'.alike, X.tail, State.WarmedH.trans X.warmed hW', X.limits, X.bytes, X.same.trans (hsame.setVm s.vm)⟩,
      ⟨g, mk, s₂, L, E, ce, j, st', rfl, rfl, hP0, hE, hce, hcv, hcl, hR0, hF0, hl0, rfl, hL, rfl, rfl⟩, ?_⟩
    show Steps p.tables e below _ (((({ U with heap := s₂.heap, slotsUsed := s₂.slotsUsed } : State).setVm s₂.vm).setTop g).pushFrame (.throwing q))
    rw [← hs₂]
    exact hsteps
end XB
/-- q thrown over the frame at pc, of class bex[j] -/
def bT (κ : bK) (st : bS) (pc : Nat) (L : List (Nat × bV)) (q j : Int) : Prop := match κ with
  | (p, l, e, R, s, m, args, below, meth, c, Q, Γ, s0, n) =>
    bLe s0 st → ∀ (H : Heap) (locs : List Loc) (ls : Array Slot) (rest : List Value) (qn jn : Nat) (E : String) (ce : Cell), bRep Γ st H → va_S (bA Γ) s.heap H locs → bLs n L ls → q = (qn : Int) → j = (jn : Int) → bex[jn]? = some E → H[qn]? = some ce → ce.vm = .none → s.vm.findClass E = some ce.cls →
      vx_W p l e R s m args below meth c H locs (bc st - bc s0) (bk st - bk s0) Q (F0 m pc ls rest) qn
def xMQ (below : List Frame) (Γ : bG) (rk : Option Nat) (a : Array Value) (s : State) (st : bS) (P : bP) : State → Prop := fun t => ∃ o, t.status = .running ∧ Ended t below o ∧ bXQ Γ rk st P a s o t
def xFin (κ : bK) (ret : Option FieldType) (rk : Option Nat) (P : bP) : Prop := match κ with
  | (p, l, e, R, s, m, args, below, meth, c, Q, Γ, s0, n) => meth.sig.returnType = ret ∧ Q = xMQ below Γ rk args s s0 P
def xTab (κ : bK) (hh : List (Nat × Nat × Nat × Nat)) : Prop := match κ with
  | (p, l, e, R, s, m, args, below, meth, c, Q, Γ, s0, n) => c.exceptionTable.toList = tableOf hh
section XF
variable {p : Program} {l : Launch} {e : Env} {R : Room} {s : State} {m : MethodId} {args : Array Value} {below : List Frame} {meth : Method} {c : Code} {Q : State → Prop} {Γ : bG} {s0 : bS} {n : Nat}
theorem xb_fin {st : bS} {P : bP} {rk : Option Nat} {pc ln : Nat} {L : List (Nat × bV)} {stk : List bV} {stk0 : List Value} {T : State} {H : Heap} {locs : List Loc} {ls : Array Slot}
    (k1 : ∀ st2 v, P st2 v (-1) → bJ (p, l, e, R, s, m, args, below, meth, c, Q, Γ, s0, n) st2 (pc + ln) L ((rk.map fun k => (k, v)).toList ++ stk))
    (k2 : ∀ st2 q (j : Nat), P st2 q (j : Int) → bT (p, l, e, R, s, m, args, below, meth, c, Q, Γ, s0, n) st2 pc L q (j : Int))
    (hle : bLe s0 st) (hS : va_S (bA Γ) s.heap H locs) (hL : bLs n L ls) (hTH : T.heap = H) {a : Array Value}
    (h : (∃ (v : Option Value) (vm₁ : Vm) (B : Pt), s.WarmedH vm₁ ∧ Stand p l e R s m args below meth c B.U B.locs B.cells B.slots ∧ xbPost Γ rk st P ⟨T.setVm vm₁, locs, bc st - bc s0, bk st - bk s0⟩ a v B ∧
        ∀ target, Steps p.tables e below (B.U.setTop { F0 m pc ls stk0 with pc := pc + ln, stack := v.toList ++ stk.map bd }) target → Steps p.tables e below (T.setTop (F0 m pc ls stk0)) target) ∨
      (∃ (q : Addr) (vm₁ : Vm) (B : Pt), s.WarmedH vm₁ ∧ Stand p l e R s m args below meth c B.U B.locs B.cells B.slots ∧ xbPostX Γ st P ⟨T.setVm vm₁, locs, bc st - bc s0, bk st - bk s0⟩ a q B ∧
        Steps p.tables e below (T.setTop (F0 m pc ls stk0)) ((B.U.setTop { F0 m pc ls stk0 with stack := stk.map bd }).pushFrame (.throwing q)))) :
    ∃ t, Steps p.tables e below (T.setTop (F0 m pc ls stk0)) t ∧ Q t := by
  obtain ⟨a1, a2, a3, a4⟩ := hle
  rcases h with ⟨v, vm₁, ⟨U', l2, c2, s2⟩, hW₁, X', ⟨g', mk, t, L', st2, v0, e1, e2, hP, hv, hR2, ⟨hz, hk⟩, hle2, h1, hL', h2, h3⟩, st'⟩ | ⟨q, vm₁, ⟨U', l2, c2, s2⟩, hW₁, X', ⟨g', mk, t, L', E, ce, j, st2, e1, e2, hP, hE, hce, hcv, hcl, hR2, ⟨hz, hk⟩, hle2, h1, hL', h2, h3⟩, st'⟩
  all_goals
    dsimp only [Pt.U, Pt.locs, Pt.cells, Pt.slots] at X' e1 e2 h1 h2 h3 st'
    subst h1; subst h2; subst h3
    obtain ⟨b1, b2, b3, b4⟩ := hle2
    have hz' : H.size ≤ t.heap.size := by rw [← hTH]; exact hz
    have hk' : ∀ q : Nat, q < H.size → ¬ bA Γ q → t.heap[q]? = H[q]? := fun q q1 q2 => by rw [← hTH]; exact hk q (by rw [← hTH] at q1; exact q1) q2
    have hS' : va_S (bA Γ) s.heap U'.heap (locs ++ L') := by
      rw [e1]
      refine ⟨Nat.le_trans hS.1 hz', fun q q1 q2 => ?_, fun q hq => ?_⟩
      · rw [hk' q (Nat.lt_of_lt_of_le q1 hS.1) q2]
        exact hS.2.1 q q1 q2
      · rcases List.mem_append.mp hq with h | h
        · exact hS.2.2 q h
        · exact hL' q h
    have X2 : Stand p l e R s m args below meth c U' (locs ++ L') (bc st2 - bc s0) (bk st2 - bk s0) := by
      rw [show bc st2 - bc s0 = bc st - bc s0 + (bc st2 - bc st) by omega, show bk st2 - bk s0 = bk st - bk s0 + (bk st2 - bk st) by omega]
      exact X'
  · have key := k1 st2 v0 hP ⟨by omega, b2, by omega, b4⟩ U'.heap (locs ++ L') ls (by rw [e1]; exact hR2) hS' hL U' rfl X2
    obtain ⟨t2, z1, z2⟩ := key
    refine ⟨t2, st' t2 ?_, z2⟩
    rw [hv]
    have ee : (rk.map fun k => bd (k, v0)).toList ++ stk.map bd = ((rk.map fun k => (k, v0)).toList ++ stk).map bd := by cases rk <;> rfl
    rw [ee]
    exact z1
  · have key := k2 st2 q j hP ⟨by omega, b2, by omega, b4⟩ U'.heap (locs ++ L') ls (stk.map bd) q j E ce (by rw [e1]; exact hR2) hS' hL rfl rfl hE (by rw [e1]; exact hce) hcv (vx_cls hW₁ hcl) U' rfl X2
    obtain ⟨t2, z1, z2⟩ := key
    exact ⟨t2, st'.trans z1, z2⟩
end XF
theorem xb_ent {Γ : bG} {l : Launch} {y : MethodName} {cc : ByteArray} {own : String} {nL : Nat} {ret : Option FieldType} {rk : Option Nat} {fr lo : Nat} {av : List bV} {st : bS} {P : bP} {L : List (Nat × bV)} (hy : plainName y.cls = true) (hown : y.cls = own) (hlen : bsz av ≤ nL) (hL : bargs 0 av = L)
    (body : ∀ κ : bK, bOk κ Γ l cc own nL fr lo → bIn κ y → xTab κ [] → xFin κ ret rk P → bJ κ st 0 L []) : bCx Γ l y (ws_ y cc nL ret) fr lo rk av st P := by
  subst hown; subst hL
  refine MetFree.of_bodyS (code := cc) (maxLocals := nL) (ret := ret) hy ?_ ?_
  · intro args s m h hn
    obtain ⟨meth, c, h1, h2, h3, h4, h5, h6, -, -⟩ := Cond.code_spec hn (atoms_spec (ws := ws_ y cc nL ret) h _ List.mem_cons_self)
    exact ⟨meth, c, h1, h2, h3, h4, h5, h6⟩
  · intro p e s m args below meth c s₁ B hml hv _
    have hh0 : s₁.heap = s.heap := by rw [B.state]; rfl
    have ht : c.exceptionTable.toList = tableOf [] := by
      obtain ⟨meth9, c9, h1, h2, -, -, -, -, h7, -⟩ := Cond.code_spec B.named (atoms_spec (ws := ws_ y cc nL ret) B.pre _ List.mem_cons_self)
      cases Option.some.inj (h1.symm.trans B.method)
      cases Option.some.inj (h2.symm.trans (Stand.of_body B).code)
      rw [Array.isEmpty_iff.mp h7]
      rfl
    obtain ⟨rfl, hR, hK, hc1, hk1⟩ := hv
    have hts := atoms_spec (ws := ws_ y cc nL ret) B.pre
    have hts : ∀ w ∈ lw_all, w.before _ s = true := fun w h => hts w (List.mem_cons_of_mem _ h)
    have hn : meth.name = y.name := (name_of_methodNamed B.named B.method).1
    have key := body (p, l, e, { frames := fr, cells := bCM - bc st, slots := bKM - bk st, locals := lo }, s, m, (av.map bd).toArray, below, meth, c, xMQ below Γ rk (av.map bd).toArray s st P, Γ, st, nL)
      ⟨B.exec, B.bytes, hml, findClass_of_methodNamed B.named, hts, hK, B.notSynchronized, rfl, rfl, rfl, rfl, rfl, rfl, rfl⟩ ⟨hn, B.named⟩ ht ⟨B.returns, rfl⟩ ⟨Nat.le_refl _, hc1, Nat.le_refl _, hk1⟩
    have he := lv_entry (av.map bd) (n := nL) (by rw [bsz_eq]; exact hlen)
    rw [bargs_eq] at he
    have h2 := key s.heap [] _ hR (va_S.rf) he
    rw [Nat.sub_self, Nat.sub_self] at h2
    have K : W p l e { frames := fr, cells := bCM - bc st, slots := bKM - bk st, locals := lo } s m (av.map bd).toArray below meth c s.heap [] 0 0 (xMQ below Γ rk (av.map bd).toArray s st P) (entryFrame m (av.map bd).toArray nL) := by
      rw [lg_entry_eq]
      exact h2
    obtain ⟨t, a1, o, b1, b2, b3⟩ := K s₁ hh0 (Stand.of_body B)
    exact ⟨t, o, a1, b1, b2, b3⟩
theorem xb_entW {Γ : bG} {l : Launch} {y : MethodName} {cc : ByteArray} {own : String} {nL : Nat} {ret : Option FieldType} {hh : List (Nat × Nat × Nat × Nat)} {rk : Option Nat} {fr lo : Nat} {av : List bV} {st : bS} {P : bP} {L : List (Nat × bV)} (hy : plainName y.cls = true) (hown : y.cls = own) (hlen : bsz av ≤ nL) (hL : bargs 0 av = L)
    (body : ∀ κ : bK, bOk κ Γ l cc own nL fr lo → bIn κ y → xTab κ hh → xFin κ ret rk P → bJ κ st 0 L []) : bCx Γ l y (wsW_ y cc nL ret hh) fr lo rk av st P := by
  subst hown; subst hL
  refine MetFree.of_bodyS (code := cc) (maxLocals := nL) (ret := ret) hy ?_ ?_
  · intro args s m h hn
    obtain ⟨m9, meth, c, hn9, h1, h2, h3, h4, -, h5, h6, -⟩ := Cond.codeWith_spec (atoms_spec (ws := wsW_ y cc nL ret hh) h _ List.mem_cons_self)
    cases hn.symm.trans hn9
    exact ⟨meth, c, h1, h2, h3, h4, h5, h6⟩
  · intro p e s m args below meth c s₁ B hml hv _
    have hh0 : s₁.heap = s.heap := by rw [B.state]; rfl
    have ht : c.exceptionTable.toList = tableOf hh := vx_table (x := y) B (atoms_spec (ws := wsW_ y cc nL ret hh) B.pre _ List.mem_cons_self)
    obtain ⟨rfl, hR, hK, hc1, hk1⟩ := hv
    have hts := atoms_spec (ws := wsW_ y cc nL ret hh) B.pre
    have hts : ∀ w ∈ lw_all, w.before _ s = true := fun w h => hts w (List.mem_cons_of_mem _ h)
    have hn : meth.name = y.name := (name_of_methodNamed B.named B.method).1
    have key := body (p, l, e, { frames := fr, cells := bCM - bc st, slots := bKM - bk st, locals := lo }, s, m, (av.map bd).toArray, below, meth, c, xMQ below Γ rk (av.map bd).toArray s st P, Γ, st, nL)
      ⟨B.exec, B.bytes, hml, findClass_of_methodNamed B.named, hts, hK, B.notSynchronized, rfl, rfl, rfl, rfl, rfl, rfl, rfl⟩ ⟨hn, B.named⟩ ht ⟨B.returns, rfl⟩ ⟨Nat.le_refl _, hc1, Nat.le_refl _, hk1⟩
    have he := lv_entry (av.map bd) (n := nL) (by rw [bsz_eq]; exact hlen)
    rw [bargs_eq] at he
    have h2 := key s.heap [] _ hR (va_S.rf) he
    rw [Nat.sub_self, Nat.sub_self] at h2
    have K : W p l e { frames := fr, cells := bCM - bc st, slots := bKM - bk st, locals := lo } s m (av.map bd).toArray below meth c s.heap [] 0 0 (xMQ below Γ rk (av.map bd).toArray s st P) (entryFrame m (av.map bd).toArray nL) := by
      rw [lg_entry_eq]
      exact h2
    obtain ⟨t, a1, o, b1, b2, b3⟩ := K s₁ hh0 (Stand.of_body B)
    exact ⟨t, o, a1, b1, b2, b3⟩
section BX
variable {κ : bK} {Γ0 : bG} {l0 : Launch} {cc : ByteArray} {own : String} {nL fr lo : Nat} {st st2 : bS} {pc : Nat} {L : List (Nat × bV)} {stk : List bV} {x y a i q : Int}
variable {b : ByteArray} {maxL frc loc n' index : Nat} {ret : Option FieldType} {rk : Option Nat} {P : bP} {av : List bV} {ov : Option bV} {stk0 : List bV}
/-- the ends: as a method that returns -/
theorem x_ret (hκ : bOk κ Γ0 l0 cc own nL fr lo) (hf : xFin κ ret rk P) {st' : bS} {v : Int} (hP : P st' v (-1)) (k : ∀ κ' : bK, bOk κ' Γ0 l0 cc own nL fr lo → bFin κ' ret st' (rk.map fun k => (k, v)) → bJ κ' st pc L stk) : bJ κ st pc L stk := by
  obtain ⟨p, l, e, R, s, m, args, below, meth, c, Q, Γ, s0, n⟩ := κ
  obtain ⟨hr, rfl⟩ := hf
  have k2 := k (p, l, e, R, s, m, args, below, meth, c, MQ below (bQc Γ s0 st' (rk.map fun k => (k, v))) args s (bc st' - bc s0) (bk st' - bk s0) (bA Γ), Γ, s0, n) hκ ⟨hr, rfl⟩
  intro hle H locs ls hR hS hL T hT X
  obtain ⟨t, a1, o, b1, b2, ⟨b3, b4, b5, b6⟩, b7, b8, b9⟩ := k2 hle H locs ls hR hS hL T hT X
  refine ⟨t, a1, o, b1, b2, st', v, -1, hP, b4, b5, b6, Or.inl ⟨rfl, ?_, b7, b8, b9⟩⟩
  rw [b3]
  cases rk <;> rfl
theorem covers_no {pc : Nat} {hh : List (Nat × Nat × Nat × Nat)} (h : ∀ z ∈ hh, ¬ (z.1 ≤ pc ∧ pc < z.2.1)) : ∀ x ∈ tableOf hh, covers x pc = false := by
  intro x hx
  unfold tableOf at hx
  obtain ⟨z, hz, rfl⟩ := List.mem_map.mp hx
  have := h z hz
  simp only [covers, Bool.and_eq_false_iff, decide_eq_false_iff_not]
  omega
theorem r_xout (hκ : bOk κ Γ0 l0 cc own nL fr lo) {hh : List (Nat × Nat × Nat × Nat)} (ht : xTab κ hh) (hf : xFin κ ret rk P) (hno : ∀ z ∈ hh, ¬ (z.1 ≤ pc ∧ pc < z.2.1)) {j : Int} (hP : P st q j) : bT κ st pc L q j := by
  obtain ⟨p, l, e, R, s, m, args, below, meth, c, Q, Γ, s0, n⟩ := κ
  obtain ⟨hx, hb, o3, hown, hts, hK, hlk, -⟩ := hκ
  obtain ⟨hr, rfl⟩ := hf
  intro hle H locs ls rest qn jn E ce hR hS hL hq hj hE hce hcv hcl T hT X
  subst hq; subst hj
  have hout : ∀ x ∈ c.exceptionTable.toList, covers x pc = false := by
    rw [show c.exceptionTable.toList = tableOf hh from ht]
    exact covers_no hno
  obtain ⟨st1, hrun, hend, hW, hsm⟩ := X.leaveThrown qn (g := F0 m pc ls rest) rfl rfl rfl hout hlk
  have hheap : (T.setFrames (.throwing qn :: below)).heap = H := hT
  refine ⟨_, st1, .threw qn, hrun, hend, st, qn, jn, hP, by rw [hheap]; exact hR, ⟨by rw [hheap]; exact hS.1, fun z z1 z2 => by rw [hheap]; exact hS.2.1 z z1 z2⟩, hle, Or.inr ⟨jn, E, qn, ce, locs, rfl, hE, rfl, rfl, by rw [hheap]; exact hce, hcv, hcl, hW, hsm, hS.2.2⟩⟩
theorem r_athrow (hκ : bOk κ Γ0 l0 cc own nL fr lo) {t jn : Nat} {r : vw_C} (ht : bg st 0 q 0 = ((t + 1 : Nat) : Int)) (hc : bcls[t]? = some r) (hj : bex[jn]? = some r.1) (hd : decode cc pc = .ok (.athrow, 1)) (k : bT κ st pc L q (jn : Int)) : bJ κ st pc L ((2, q) :: stk) := by
  obtain ⟨p, l, e, R, s, m, args, below, meth, c, Q, Γ, s0, n⟩ := κ
  obtain ⟨hx, hb, o3, hown, hts, hK, hlk, -⟩ := hκ
  intro hle H locs ls hR hS hL
  obtain ⟨bb, rfl, -, -⟩ := hR.nat (a := q) (by rw [ht]; omega)
  obtain ⟨cellB, g1, g2, g3, -⟩ := hR.obj ht hc
  have hcls := (hK.1.1 t _ hc).2
  have kk := k hle H locs ls (stk.map bd) bb jn r.1 cellB hR hS hL rfl rfl hj g1 g3 (by rw [g2]; exact hcls.1)
  rw [List.map_cons, show bd (2, (bb : Int)) = .ref bb from brv_nat bb]
  exact vx_athrow hx hb hd kk
/-- a handler: those before it don't cover pc or don't fit -/
theorem r_xcatch (hκ : bOk κ Γ0 l0 cc own nL fr lo) {hh : List (Nat × Nat × Nat × Nat)} (ht : xTab κ hh) {E name : String} {jn ih : Nat} {z0 : Nat × Nat × Nat × Nat} (hi : hh[ih]? = some z0) (hjE : bex[jn]? = some E)
    (hpass : ∀ z ∈ hh.take ih, ¬ (z.1 ≤ pc ∧ pc < z.2.1) ∨ (z.2.2.2 ≠ 0 ∧ ∃ nm : String, Cond.classLink own z.2.2.2 nm ∈ lw_all ∧ (E, nm) ∈ bncast))
    (hcov : z0.1 ≤ pc ∧ pc < z0.2.1) (h0 : z0.2.2.2 ≠ 0) (hlink : Cond.classLink own z0.2.2.2 name ∈ lw_all) (hcast : (E, name) ∈ bcast)
    (k : bJ κ st z0.2.2.1 L [(2, q)]) : bT κ st pc L q (jn : Int) := by
  obtain ⟨p, l, e, R, s, m, args, below, meth, c, Q, Γ, s0, n⟩ := κ
  obtain ⟨hx, hb, o3, hown, hts, hK, hlk, -⟩ := hκ
  intro hle H locs ls rest qn jn2 E2 ce hR hS hL hq hj hE hce hcv hcl
  subst hq
  have : jn = jn2 := by omega
  subst this
  cases hjE.symm.trans hE
  have hsplit : c.exceptionTable.toList = tableOf (hh.take ih) ++ { startPc := z0.1, endPc := z0.2.1, handlerPc := z0.2.2.1, catchType := z0.2.2.2 } :: tableOf (hh.drop (ih + 1)) := by
    rw [show c.exceptionTable.toList = tableOf hh from ht]
    obtain ⟨hlt, hz⟩ := List.getElem?_eq_some_iff.mp hi
    have e1 : hh = hh.take ih ++ z0 :: hh.drop (ih + 1) := by
      rw [← hz, List.getElem_cons_drop, List.take_append_drop]
    conv => lhs; rw [e1]
    unfold tableOf
    rw [List.map_append, List.map_cons]
  have kk := k hle H locs ls hR hS hL
  rw [List.map_cons, show bd (2, (qn : Int)) = .ref qn from brv_nat qn] at kk
  refine vx_catch hown (name := name) (E := E) _ _ _ hsplit ?_ ?_ h0 (hts _ hlink) (va_Nw.use rfl (hK.2.2.1 _ hcast)) hce hcv hcl kk
  · intro z hz
    unfold tableOf at hz
    obtain ⟨w, hw, rfl⟩ := List.mem_map.mp hz
    rcases hpass w hw with h | ⟨h1, nm, h2, h3⟩
    · refine Or.inl ?_
      simp only [covers, Bool.and_eq_false_iff, decide_eq_false_iff_not]
      omega
    · exact Or.inr ⟨h1, nm, hts _ h2, hK.2.2.2.2.2.1 _ h3⟩
  · simp only [covers, Bool.and_eq_true, decide_eq_true_eq]
    exact hcov
theorem r_xcallS (hκ : bOk κ Γ0 l0 cc own nL fr lo) {y : MethodName} (ct : bCx Γ0 l0 y (ws_ y b maxL ret) frc loc rk av st P) (hw : GoodIn lw_all (va_wsS own index y (ws_ y b maxL ret))) (hd1 : y.cls ≠ "java/lang/invoke/MethodHandle" ∧ y.cls ≠ "java/lang/invoke/VarHandle" ∧ (parseMethodDescriptor y.desc).map (fun d => d.parameters.length) = some n') (hlen : av.length = n') (hRR : frc + 1 ≤ fr ∧ 8 + (maxL + 11) + loc ≤ lo) (hstk : stk0 = av.reverse ++ stk) (hW : bsz stk ≤ 8) (hd : decode cc pc = .ok (.invokestatic index, 3)) (k1 : ∀ st2 v, P st2 v (-1) → bJ κ st2 (pc + 3) L ((rk.map fun k => (k, v)).toList ++ stk)) (k2 : ∀ st2 q (j : Nat), P st2 q (j : Int) → bT κ st2 pc L q (j : Int)) : bJ κ st pc L stk0 := by
  obtain ⟨p, l, e, R, s, m, args, below, meth, c, Q, Γ, s0, n⟩ := κ
  obtain ⟨hx, hb, o3, hown, hts, hK, o7, o8, o9, o10, o11, o12, rfl, rfl⟩ := hκ
  intro hle H locs ls hR hS hL
  have hRm : (bRm st frc loc).frames + 1 ≤ R.frames ∧ 8 + (maxL + 11) + (bRm st frc loc).locals ≤ R.locals := by rw [o11, o12]; exact hRR
  have hf1 : bc st - bc s0 + (bCM - bc st) ≤ R.cells := by rw [o9]; obtain ⟨q1, q2, -⟩ := hle; omega
  have hf2 : bk st - bk s0 + (bKM - bk st) ≤ R.slots := by rw [o10]; obtain ⟨-, -, q1, q2⟩ := hle; omega
  have hPc : ∀ U : State, U.heap = H → s.WarmedH U.vm → bPc Γ st av ((av.map bd).toArray) U := fun U hU hW => ⟨rfl, by rw [hU]; exact hR, bKK.moved hW hK, hle.2.1, hle.2.2.2⟩
  have cw := va_cwS (R := R) (mc := (bRm st frc loc).cells) (ms := (bRm st frc loc).slots) n' hts hw rfl rfl rfl hd1 hRm
  obtain ⟨⟨-, -, -, -, hws, hcw, hcode, hini, hy, hlen2, hl⟩, hstt⟩ := cw
  have hKb := xb_back (sargs := args) (p := p) (e := e) (below := below) (W9 := 8) (len := 3) (bytes := b) (maxL := maxL) (ret := ret) ct (bPc_blind Γ st av) hRm.1 hRm.2 hws hcw (fun a' U hW => word_at hW (Or.inl (by first | rfl | simp [Cond.onTables, Cond.keeps, Cond.steady])) hini)
  intro T hT X
  have hstk2 : stk0.map bd = (av.map bd).reverse ++ stk.map bd := by
    rw [hstk, List.map_append, List.map_reverse]
  rw [hstk2]
  exact xb_fin k1 k2 hle hS hL hT (vx_callS X hx (bytes := b) (maxL := maxL) (ret := ret) hown hl hstt hini hcode hy hKb (g := F0 m pc ls _) rfl (by show ls.size = c.maxLocals; rw [hL.1, o3]) (argsL := av.map bd) (rest := stk.map bd) (fun sig h => by rw [List.length_map]; exact hlen.trans (hlen2 sig h)) rfl (b_room hW) (by rw [hb]; exact hd) (fun vm₁ hW₁ => ⟨hf1, hf2, hPc (T.setVm vm₁) hT hW₁⟩))
theorem r_xcallV (hκ : bOk κ Γ0 l0 cc own nL fr lo) {y : MethodName} {C : String} {t N : Nat} {T9 : u_T} (ct : bCx Γ0 l0 y (ws_ y b maxL ret) frc loc rk ((2, a) :: av) st P) (hw : GoodIn lw_all (wsV own index C y (ws_ y b maxL ret))) (hd1 : y.cls = C ∧ y.cls ≠ "java/lang/invoke/MethodHandle" ∧ y.cls ≠ "java/lang/invoke/VarHandle" ∧ (parseMethodDescriptor y.desc).map (fun d => d.parameters.length) = some n') (ht : bg st 0 a 0 = ((t + 1 : Nat) : Int)) (hc : bcls[t]? = some (C, T9, N)) (hlen : av.length = n') (hRR : frc + 1 ≤ fr ∧ 8 + (maxL + 11) + loc ≤ lo) (hstk : stk0 = av.reverse ++ (2, a) :: stk) (hW : bsz stk ≤ 8) (hd : decode cc pc = .ok (.invokevirtual index, 3)) (k1 : ∀ st2 v, P st2 v (-1) → bJ κ st2 (pc + 3) L ((rk.map fun k => (k, v)).toList ++ stk)) (k2 : ∀ st2 q (j : Nat), P st2 q (j : Int) → bT κ st2 pc L q (j : Int)) : bJ κ st pc L stk0 := by
  obtain ⟨p, l, e, R, s, m, args, below, meth, c, Q, Γ, s0, n⟩ := κ
  obtain ⟨hx, hb, o3, hown, hts, hK, o7, o8, o9, o10, o11, o12, rfl, rfl⟩ := hκ
  intro hle H locs ls hR hS hL
  have hRm : (bRm st frc loc).frames + 1 ≤ R.frames ∧ 8 + (maxL + 11) + (bRm st frc loc).locals ≤ R.locals := by rw [o11, o12]; exact hRR
  have hf1 : bc st - bc s0 + (bCM - bc st) ≤ R.cells := by rw [o9]; obtain ⟨q1, q2, -⟩ := hle; omega
  have hf2 : bk st - bk s0 + (bKM - bk st) ≤ R.slots := by rw [o10]; obtain ⟨-, -, q1, q2⟩ := hle; omega
  obtain ⟨bb, rfl, -, -⟩ := hR.nat (a := a) (by rw [ht]; omega)
  have hOB := hR.obj ht hc
  obtain ⟨cellB, g1, g2, g3, -⟩ := hOB
  have hcls := (hK.1.1 t _ hc).2
  have hPc : ∀ U : State, U.heap = H → s.WarmedH U.vm → bPc Γ st ((2, (bb : Int)) :: av) ((Value.ref bb :: av.map bd).toArray) U := fun U hU hW => ⟨by show _ = ((bd (2, (bb : Int))) :: av.map bd).toArray; rw [show bd (2, (bb : Int)) = .ref bb from brv_nat bb], by rw [hU]; exact hR, bKK.moved hW hK, hle.2.1, hle.2.2.2⟩
  have cw := cwV (R := R) (mc := (bRm st frc loc).cells) (ms := (bRm st frc loc).slots) n' hts hw rfl rfl rfl hd1 hRm
  obtain ⟨⟨-, -, -, -, hws, hcw, hcode, hini, hy, hlen2, hl⟩, hin, hse⟩ := cw
  have hKb := xb_back (sargs := args) (p := p) (e := e) (below := below) (W9 := 8) (len := 3) (bytes := b) (maxL := maxL) (ret := ret) ct (bPc_blind Γ st _) hRm.1 hRm.2 hws hcw (fun a' U hW => word_at hW (Or.inl (by first | rfl | simp [Cond.onTables, Cond.keeps, Cond.steady])) hini)
  intro T hT X
  have hstk2 : stk0.map bd = (av.map bd).reverse ++ .ref bb :: stk.map bd := by
    rw [hstk, List.map_append, List.map_reverse]
    rw [List.map_cons, show bd (2, (bb : Int)) = .ref bb from brv_nat bb]
  rw [hstk2]
  exact xb_fin k1 k2 hle hS hL hT (vx_callV X hx (C := C) (bytes := b) (maxL := maxL) (ret := ret) hown hl hin hse hcode hy hKb (b := bb) (by rw [hT]; exact g1) (by rw [g3]; rfl) (by rw [g2]; exact hcls.1) (g := F0 m pc ls _) rfl (by show ls.size = c.maxLocals; rw [hL.1, o3]) (argsL := av.map bd) (rest := stk.map bd) (fun sig h => by rw [List.length_map]; exact hlen.trans (hlen2 sig h)) rfl (b_room hW) (by rw [hb]; exact hd) (fun vm₁ hW₁ => ⟨hf1, hf2, hPc (T.setVm vm₁) hT hW₁⟩))
theorem r_xcallSW (hκ : bOk κ Γ0 l0 cc own nL fr lo) {y : MethodName} {hh : List (Nat × Nat × Nat × Nat)} (ct : bCx Γ0 l0 y (wsW_ y b maxL ret hh) frc loc rk av st P) (hw : GoodIn lw_all (va_wsS own index y (wsW_ y b maxL ret hh))) (hd1 : y.cls ≠ "java/lang/invoke/MethodHandle" ∧ y.cls ≠ "java/lang/invoke/VarHandle" ∧ (parseMethodDescriptor y.desc).map (fun d => d.parameters.length) = some n') (hlen : av.length = n') (hRR : frc + 1 ≤ fr ∧ 8 + (maxL + 11) + loc ≤ lo) (hstk : stk0 = av.reverse ++ stk) (hW : bsz stk ≤ 8) (hd : decode cc pc = .ok (.invokestatic index, 3)) (k1 : ∀ st2 v, P st2 v (-1) → bJ κ st2 (pc + 3) L ((rk.map fun k => (k, v)).toList ++ stk)) (k2 : ∀ st2 q (j : Nat), P st2 q (j : Int) → bT κ st2 pc L q (j : Int)) : bJ κ st pc L stk0 := by
  obtain ⟨p, l, e, R, s, m, args, below, meth, c, Q, Γ, s0, n⟩ := κ
  obtain ⟨hx, hb, o3, hown, hts, hK, o7, o8, o9, o10, o11, o12, rfl, rfl⟩ := hκ
  intro hle H locs ls hR hS hL
  have hRm : (bRm st frc loc).frames + 1 ≤ R.frames ∧ 8 + (maxL + 11) + (bRm st frc loc).locals ≤ R.locals := by rw [o11, o12]; exact hRR
  have hf1 : bc st - bc s0 + (bCM - bc st) ≤ R.cells := by rw [o9]; obtain ⟨q1, q2, -⟩ := hle; omega
  have hf2 : bk st - bk s0 + (bKM - bk st) ≤ R.slots := by rw [o10]; obtain ⟨-, -, q1, q2⟩ := hle; omega
  have hPc : ∀ U : State, U.heap = H → s.WarmedH U.vm → bPc Γ st av ((av.map bd).toArray) U := fun U hU hW => ⟨rfl, by rw [hU]; exact hR, bKK.moved hW hK, hle.2.1, hle.2.2.2⟩
  have cw := vx_cwSW (R := R) (mc := (bRm st frc loc).cells) (ms := (bRm st frc loc).slots) n' hts hw rfl rfl rfl hd1 hRm
  obtain ⟨⟨-, -, -, -, hws, hcw⟩, hcode, hini, hy, hlen2, hl, hstt⟩ := cw
  have hKb := xb_backW (sargs := args) (p := p) (e := e) (below := below) (W9 := 8) (len := 3) (bytes := b) (maxL := maxL) (ret := ret) (hh := hh) ct (bPc_blind Γ st av) hRm.1 hRm.2 hws hcw (fun a' U hW => word_at hW (Or.inl (by first | rfl | simp [Cond.onTables, Cond.keeps, Cond.steady])) hini)
  intro T hT X
  have hstk2 : stk0.map bd = (av.map bd).reverse ++ stk.map bd := by
    rw [hstk, List.map_append, List.map_reverse]
  rw [hstk2]
  exact xb_fin k1 k2 hle hS hL hT (vx_callSX X hx (hh := hh) (bytes := b) (maxL := maxL) (ret := ret) hown hl hstt hini hcode hy hKb (g := F0 m pc ls _) rfl (by show ls.size = c.maxLocals; rw [hL.1, o3]) (argsL := av.map bd) (rest := stk.map bd) (fun sig h => by rw [List.length_map]; exact hlen.trans (hlen2 sig h)) rfl (b_room hW) (by rw [hb]; exact hd) (fun vm₁ hW₁ => ⟨hf1, hf2, hPc (T.setVm vm₁) hT hW₁⟩))
theorem r_xcallVW (hκ : bOk κ Γ0 l0 cc own nL fr lo) {y : MethodName} {C : String} {t N : Nat} {T9 : u_T} {hh : List (Nat × Nat × Nat × Nat)} (ct : bCx Γ0 l0 y (wsW_ y b maxL ret hh) frc loc rk ((2, a) :: av) st P) (hw : GoodIn lw_all (wsV own index C y (wsW_ y b maxL ret hh))) (hd1 : y.cls = C ∧ y.cls ≠ "java/lang/invoke/MethodHandle" ∧ y.cls ≠ "java/lang/invoke/VarHandle" ∧ (parseMethodDescriptor y.desc).map (fun d => d.parameters.length) = some n') (ht : bg st 0 a 0 = ((t + 1 : Nat) : Int)) (hc : bcls[t]? = some (C, T9, N)) (hlen : av.length = n') (hRR : frc + 1 ≤ fr ∧ 8 + (maxL + 11) + loc ≤ lo) (hstk : stk0 = av.reverse ++ (2, a) :: stk) (hW : bsz stk ≤ 8) (hd : decode cc pc = .ok (.invokevirtual index, 3)) (k1 : ∀ st2 v, P st2 v (-1) → bJ κ st2 (pc + 3) L ((rk.map fun k => (k, v)).toList ++ stk)) (k2 : ∀ st2 q (j : Nat), P st2 q (j : Int) → bT κ st2 pc L q (j : Int)) : bJ κ st pc L stk0 := by
  obtain ⟨p, l, e, R, s, m, args, below, meth, c, Q, Γ, s0, n⟩ := κ
  obtain ⟨hx, hb, o3, hown, hts, hK, o7, o8, o9, o10, o11, o12, rfl, rfl⟩ := hκ
  intro hle H locs ls hR hS hL
  have hRm : (bRm st frc loc).frames + 1 ≤ R.frames ∧ 8 + (maxL + 11) + (bRm st frc loc).locals ≤ R.locals := by rw [o11, o12]; exact hRR
  have hf1 : bc st - bc s0 + (bCM - bc st) ≤ R.cells := by rw [o9]; obtain ⟨q1, q2, -⟩ := hle; omega
  have hf2 : bk st - bk s0 + (bKM - bk st) ≤ R.slots := by rw [o10]; obtain ⟨-, -, q1, q2⟩ := hle; omega
  obtain ⟨bb, rfl, -, -⟩ := hR.nat (a := a) (by rw [ht]; omega)
  have hOB := hR.obj ht hc
  obtain ⟨cellB, g1, g2, g3, -⟩ := hOB
  have hcls := (hK.1.1 t _ hc).2
  have hPc : ∀ U : State, U.heap = H → s.WarmedH U.vm → bPc Γ st ((2, (bb : Int)) :: av) ((Value.ref bb :: av.map bd).toArray) U := fun U hU hW => ⟨by show _ = ((bd (2, (bb : Int))) :: av.map bd).toArray; rw [show bd (2, (bb : Int)) = .ref bb from brv_nat bb], by rw [hU]; exact hR, bKK.moved hW hK, hle.2.1, hle.2.2.2⟩
  have cw := vx_cwVW (R := R) (mc := (bRm st frc loc).cells) (ms := (bRm st frc loc).slots) n' hts hw rfl rfl rfl hd1 hRm
  obtain ⟨⟨-, -, -, -, hws, hcw⟩, hcode, hini, hy, hlen2, hl, hin, hse⟩ := cw
  have hKb := xb_backW (sargs := args) (p := p) (e := e) (below := below) (W9 := 8) (len := 3) (bytes := b) (maxL := maxL) (ret := ret) (hh := hh) ct (bPc_blind Γ st _) hRm.1 hRm.2 hws hcw (fun a' U hW => word_at hW (Or.inl (by first | rfl | simp [Cond.onTables, Cond.keeps, Cond.steady])) hini)
  intro T hT X
  have hstk2 : stk0.map bd = (av.map bd).reverse ++ .ref bb :: stk.map bd := by
    rw [hstk, List.map_append, List.map_reverse]
    rw [List.map_cons, show bd (2, (bb : Int)) = .ref bb from brv_nat bb]
  rw [hstk2]
  exact xb_fin k1 k2 hle hS hL hT (vx_callVX X hx (hh := hh) (C := C) (bytes := b) (maxL := maxL) (ret := ret) hown hl hin hse hcode hy hKb (b := bb) (by rw [hT]; exact g1) (by rw [g3]; rfl) (by rw [g2]; exact hcls.1) (g := F0 m pc ls _) rfl (by show ls.size = c.maxLocals; rw [hL.1, o3]) (argsL := av.map bd) (rest := stk.map bd) (fun sig h => by rw [List.length_map]; exact hlen.trans (hlen2 sig h)) rfl (b_room hW) (by rw [hb]; exact hd) (fun vm₁ hW₁ => ⟨hf1, hf2, hPc (T.setVm vm₁) hT hW₁⟩))
end BX
