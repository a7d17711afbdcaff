section R10
variable {G : GT} {mi mc : MI} {d lo d' lo' pc : Nat} {rest : List (Instr × Nat)} {ls lsC : List (Option Value)} {st stk : List Value} {M : PH} {α : Type} {q : α → Outcome → PH → Prop} {x : Option α} {i : Instr} {vs : List Value}
theorem B_recv {ops : List (Instr × Nat)} {c b : Nat} (k : hT M b = c → VB G mi d lo pc ops ls st M q x) : VB G mi d lo pc ops ls st M q (if hT M b = c then x else none) := by
  by_cases h : hT M b = c
  · rw [if_pos h]; exact k h
  · rw [if_neg h]; exact V_none
/-- a call that can be made: the instruction, the method, the values -/
def CI (G : GT) (mi : MI) (i : Instr) (mc : MI) (vs : List Value) (M : PH) : Prop := Inv G mi i mc vs M ∧ CodeOk mc ∧ plainName mc.1.cls = true
theorem ci_V {idx c n b : Nat} {As : List Value} (hl : LkV mi.1.cls idx mc c n) (hn : As.length = n) (hc : (decide (c < 12)) = true) (ht : hT M b = c) : CI G mi (.invokevirtual idx) mc (.ref b :: As) M :=
  ⟨inv_V hl hn (of_decide_eq_true hc) ht, Or.inl ⟨hl.2.2.2.1, hl.2.2.2.2.1⟩, hl.2.2.2.2.2.2⟩
theorem ci_I {idx n b : Nat} {As : List Value} (hl : LkI mi.1.cls idx mc n) (hn : As.length = n) : CI G mi (.invokespecial idx) mc (.ref b :: As) M :=
  ⟨inv_I hl hn, Or.inl ⟨hl.2.2.1, hl.2.2.2.1⟩, hl.2.2.2.2.2.1⟩
theorem ci_S {idx n : Nat} {As : List Value} (hl : LkS mi.1.cls idx mc n) (hn : As.length = n) : CI G mi (.invokestatic idx) mc As M :=
  ⟨inv_S hl hn, hl.2.2.2.1, hl.2.2.2.2.2⟩
/-- the sizes of a call: frames, words, values -/
def szs (d d' lo lo' : Nat) (mc : MI) (st vs : List Value) : Bool := decide (d' + 1 ≤ d) && decide ((st.map fun v => v.category).sum + (mc.2.2.1 + 11) + lo' ≤ lo) && vs.all (fun v => decide (v.category = 1)) && decide (vs.length ≤ mc.2.2.1)
theorem szs_ok {d d' lo lo' : Nat} {mc : MI} {st vs : List Value} (h : szs d d' lo lo' mc st vs = true) : d' + 1 ≤ d ∧ (st.map fun v => v.category).sum + (mc.2.2.1 + 11) + lo' ≤ lo ∧ (∀ v ∈ vs, v.category = 1) ∧ vs.length ≤ mc.2.2.1 := by
  simp only [szs, Bool.and_eq_true, decide_eq_true_eq, List.all_eq_true] at h
  exact ⟨h.1.1.1, h.1.1.2, h.1.2, h.2⟩
theorem B_cV {F : Option PH} {y : PH → Option α} (ci : CI G mi i mc vs M) (hst : stk = vs.reverse ++ st) (hls : lsC = vs.map some ++ List.replicate (mc.2.2.1 - vs.length) none) (hz : szs d d' lo lo' mc st vs = true) (hF : VX G mc d' lo' 0 lsC [] M qV F) (k : ∀ M1, VB G mi d lo (pc + 3) rest ls st M1 q (y M1)) : VB G mi d lo pc ((i, 3) :: rest) ls stk M q (F.bind y) := by
  subst hst; subst hls
  obtain ⟨h1, h2, h3, h4⟩ := szs_ok hz
  cases F with
  | none => exact V_none
  | some M1 =>
    refine B_callG (Qc := qV M1) ci.1 ci.2.1 ci.2.2 h1 h2 h3 h4 (fun _ => hF M1 rfl) (fun v M2 hq => ?_) (fun a M2 hq => ?_)
    · obtain ⟨e1, e2⟩ := hq
      cases e1; subst e2
      exact k M2
    · cases hq.1
theorem B_cI {F : Option (Int32 × PH)} {y : Int32 × PH → Option α} (ci : CI G mi i mc vs M) (hst : stk = vs.reverse ++ st) (hls : lsC = vs.map some ++ List.replicate (mc.2.2.1 - vs.length) none) (hz : szs d d' lo lo' mc st vs = true) (hF : VX G mc d' lo' 0 lsC [] M qI F) (k : ∀ v M1, VB G mi d lo (pc + 3) rest ls (.int v :: st) M1 q (y (v, M1))) : VB G mi d lo pc ((i, 3) :: rest) ls stk M q (F.bind y) := by
  subst hst; subst hls
  obtain ⟨h1, h2, h3, h4⟩ := szs_ok hz
  cases F with
  | none => exact V_none
  | some r =>
    refine B_callG (Qc := qI r) ci.1 ci.2.1 ci.2.2 h1 h2 h3 h4 (fun _ => hF r rfl) (fun v M2 hq => ?_) (fun a M2 hq => ?_)
    · obtain ⟨e1, e2⟩ := hq
      cases e1; subst e2
      exact k r.1 r.2
    · cases hq.1
theorem B_cR {F : Option (Nat × PH)} {y : Nat × PH → Option α} (ci : CI G mi i mc vs M) (hst : stk = vs.reverse ++ st) (hls : lsC = vs.map some ++ List.replicate (mc.2.2.1 - vs.length) none) (hz : szs d d' lo lo' mc st vs = true) (hF : VX G mc d' lo' 0 lsC [] M qR F) (k : ∀ b M1, VB G mi d lo (pc + 3) rest ls (.ref b :: st) M1 q (y (b, M1))) : VB G mi d lo pc ((i, 3) :: rest) ls stk M q (F.bind y) := by
  subst hst; subst hls
  obtain ⟨h1, h2, h3, h4⟩ := szs_ok hz
  cases F with
  | none => exact V_none
  | some r =>
    refine B_callG (Qc := qR r) ci.1 ci.2.1 ci.2.2 h1 h2 h3 h4 (fun _ => hF r rfl) (fun v M2 hq => ?_) (fun a M2 hq => ?_)
    · obtain ⟨e1, e2⟩ := hq
      cases e1; subst e2
      exact k r.1 r.2
    · cases hq.1
/-- what a throw of a callee is in the caller, an int's or a void's -/
def thT (y : PH → Option (Nat × Int32 × PH)) (r : Nat × PH) : Option (Nat × Int32 × PH) := if r.1 = 0 then y r.2 else some (r.1, 0, r.2)
def thU (y : PH → Option (Nat × PH)) (r : Nat × PH) : Option (Nat × PH) := if r.1 = 0 then y r.2 else some (r.1, r.2)
theorem B_cT {F : Option (Nat × PH)} {y : PH → Option (Nat × Int32 × PH)} (hh : mi.2.2.2.2 = []) (ci : CI G mi i mc vs M) (hst : stk = vs.reverse ++ st) (hls : lsC = vs.map some ++ List.replicate (mc.2.2.1 - vs.length) none) (hz : szs d d' lo lo' mc st vs = true) (hF : VX G mc d' lo' 0 lsC [] M qU F) (k : ∀ M1, VB G mi d lo (pc + 3) rest ls st M1 qT (y M1)) : VB G mi d lo pc ((i, 3) :: rest) ls stk M qT (F.bind (thT y)) := by
  subst hst; subst hls
  obtain ⟨h1, h2, h3, h4⟩ := szs_ok hz
  cases F with
  | none => exact V_none
  | some r =>
    refine B_callG (Qc := qU r) ci.1 ci.2.1 ci.2.2 h1 h2 h3 h4 (fun _ => hF r rfl) (fun v M2 hq => ?_) (fun a M2 hq => ?_)
    · obtain ⟨e2, ⟨e0, e1⟩ | ⟨e0, a, e1, -⟩⟩ := hq
      · cases e1; subst e2
        show VB G mi d lo (pc + 3) rest ls st r.2 qT (thT y r)
        unfold thT
        rw [if_pos e0]
        exact k r.2
      · cases e1
    · obtain ⟨e2, ⟨e0, e1⟩ | ⟨e0, b, e1, e3⟩⟩ := hq
      · cases e1
      · cases e1; subst e2
        intro r' hr p l e R s m args below meth c c0 u0 hA locs cells slots jls T X hRep hlo hc hu hL
        have hr' : some (r.1, (0 : Int32), r.2) = some r' := by
          have : thT y r = some r' := hr
          unfold thT at this
          rw [if_neg (by omega)] at this
          exact this
        cases hr'
        exact throw_out hh ⟨rfl, Or.inr ⟨e0, a, rfl, e3⟩⟩ hA X hRep hlo hc hu
theorem B_cU {F : Option (Nat × PH)} {y : PH → Option (Nat × PH)} (hh : mi.2.2.2.2 = []) (ci : CI G mi i mc vs M) (hst : stk = vs.reverse ++ st) (hls : lsC = vs.map some ++ List.replicate (mc.2.2.1 - vs.length) none) (hz : szs d d' lo lo' mc st vs = true) (hF : VX G mc d' lo' 0 lsC [] M qU F) (k : ∀ M1, VB G mi d lo (pc + 3) rest ls st M1 qU (y M1)) : VB G mi d lo pc ((i, 3) :: rest) ls stk M qU (F.bind (thU y)) := by
  subst hst; subst hls
  obtain ⟨h1, h2, h3, h4⟩ := szs_ok hz
  cases F with
  | none => exact V_none
  | some r =>
    refine B_callG (Qc := qU r) ci.1 ci.2.1 ci.2.2 h1 h2 h3 h4 (fun _ => hF r rfl) (fun v M2 hq => ?_) (fun a M2 hq => ?_)
    · obtain ⟨e2, ⟨e0, e1⟩ | ⟨e0, a, e1, -⟩⟩ := hq
      · cases e1; subst e2
        show VB G mi d lo (pc + 3) rest ls st r.2 qU (thU y r)
        unfold thU
        rw [if_pos e0]
        exact k r.2
      · cases e1
    · obtain ⟨e2, ⟨e0, e1⟩ | ⟨e0, b, e1, e3⟩⟩ := hq
      · cases e1
      · cases e1; subst e2
        intro r' hr p l e R s m args below meth c c0 u0 hA locs cells slots jls T X hRep hlo hc hu hL
        have hr' : some (r.1, r.2) = some r' := by
          have : thU y r = some r' := hr
          unfold thU at this
          rw [if_neg (by omega)] at this
          exact this
        cases hr'
        exact throw_out hh ⟨rfl, Or.inr ⟨e0, a, rfl, e3⟩⟩ hA X hRep hlo hc hu
/-- the handlers' words: the class entries of the two exceptions -/
def LkH (own : String) (idx t : Nat) : Prop := Cond.classLink own idx (xcl t) ∈ lw_tbl ∧ idx ≠ 0
/-- a throw of the kind t comes to its handler: the table's first entry that covers pc and has its class -/
theorem catch_one {t hp i1 ep : Nat} {r : α} {a : Nat} (hl : LkH mi.1.cls i1 t) (ht : 32 ≤ t ∧ t < 34) (hh : mi.2.2.2.2 = [(0, ep, hp, i1)] ∨ (∃ j1 hq, mi.2.2.2.2 = [(0, ep, hp, i1), (0, ep, hq, j1)]) ∨ ∃ j1 hq t', mi.2.2.2.2 = [(0, ep, hq, j1), (0, ep, hp, i1)] ∧ LkH mi.1.cls j1 t' ∧ t ≠ t' ∧ 32 ≤ t' ∧ t' < 34) (hta : hT M a = t) (hep : pc < ep)
    (k : VX G mi d lo hp ls [.ref a] M q (some r)) {p : Program} {l : Launch} {e : Env} {R : Room} {s : State} {m : MethodId} {args : Array Value} {below : List Frame} {meth : Method} {c : Code} {c0 u0 : Nat} (hA : Act G mi d lo p l R s m meth c c0 u0) {locs : List Loc} {cells slots : Nat} {jls : Array Slot} {T : State} (X : Stand p l e R s m args below meth c T locs cells slots) (hRep : Rep G M T.heap) (hlo : ∀ y ∈ locs, gB G ≤ y.base) (hc : c0 + cells = hZ M ∧ hZ M ≤ gC G) (hu : u0 + slots = hU M ∧ hU M ≤ gS G) (hL : LV jls mi.2.2.1 ls) :
    ∃ t, Steps p.tables e below ((T.setTop (F0 m pc jls st)).pushFrame (.throwing a)) t ∧ EndQ G s below c0 u0 (q r) t := by
  obtain ⟨hx, hb, -, hml, hlk, hown, -, hex, hfl, hKn, hdR, hloR, hRc, hRs⟩ := id hA
  obtain ⟨cell, hcell, hcls, hvm⟩ : ∃ cell : Cell, T.heap[a]? = some cell ∧ cell.cls = gA G t ∧ cell.vm = .none := by
    rcases hRep.pic (a := a) (by omega) with ⟨p1, _⟩ | ⟨p1, p2, _⟩ | ⟨-, -, cell, p3, p4, p5⟩
    · omega
    · omega
    · exact ⟨cell, p3, by rw [p4, hta], p5⟩
  have hpl : e.platform.magicAccessors = ({} : Platform).magicAccessors := by rw [X.admits.platform]
  have hobj : ∀ k, cell.vm ≠ .statics k := fun k h => by rw [hvm] at h; cases h
  -- one entry whose class is that of the exception t'
  have one : ∀ (t' j1 : Nat) (vmA : Vm), s.WarmedH vmA → LkH mi.1.cls j1 t' → 32 ≤ t' → t' < 34 → ∃ vmB : Vm, s.WarmedH vmB ∧ (Jvm.resolveClass m.cls j1).Gives e.toSetting vmA (.ok (gA G t')) vmB ∧ vmB.classes.size ≤ vmA.classes.size ∧ (∃ k1, vmB.classes[gA G t]? = some k1) ∧ (∃ k2, vmB.classes[gA G t']? = some k2) ∧ vmB.assignable (gA G t) (gA G t') = s.vm.assignable (gA G t) (gA G t') := by
    intro t' j1 vmA hWA hlk' h1 h2
    obtain ⟨cc, hfcc, hcl⟩ := Cond.classLink_spec hown (hKn.1 _ hlk'.1 args) e.platform hpl
    cases (hKn.2.2.2.1 t' h1 h2).symm.trans hfcc
    obtain ⟨hg₁, hwarm₁, hready₁⟩ := State.classEntry (e := e) hWA hcl
    have hf1 : s.vm.findClass (xcl t) = some (gA G t) := hKn.2.2.2.1 t ht.1 ht.2
    obtain ⟨k1, hk1⟩ := Vm.classAt_of_findClass hf1
    obtain ⟨k2, hk2⟩ := Vm.classAt_of_findClass hfcc
    obtain ⟨k1', hk1', -⟩ := hwarm₁.alike.2.2 _ _ hk1
    obtain ⟨k2', hk2', -⟩ := hwarm₁.alike.2.2 _ _ hk2
    exact ⟨_, hwarm₁, hg₁, by simp [Vm.noted], ⟨k1', hk1'⟩, ⟨k2', hk2'⟩, hwarm₁.alike.assignable _ _⟩
  have hself : s.vm.assignable (gA G t) (gA G t) = true := by
    have hc2 : (Cond.castable (xcl t) (xcl t)).before args s = true := hKn.1 _ (by rcases (show t = 32 ∨ t = 33 by omega) with rfl | rfl <;> decide +kernel) args
    obtain ⟨c3, c4, hc3, hc4, hasg⟩ := Cond.castable_spec hc2
    cases Option.some.inj (hc3.symm.trans (hKn.2.2.2.1 t ht.1 ht.2))
    cases Option.some.inj (hc4.symm.trans (hKn.2.2.2.1 t ht.1 ht.2))
    exact hasg
  have hapart : ∀ t', 32 ≤ t' → t' < 34 → t ≠ t' → s.vm.assignable (gA G t) (gA G t') = false := by
    intro t' h1 h2 hne
    have : va_Nc (xcl t) (xcl t') s := by
      rcases (show (t = 32 ∧ t' = 33) ∨ (t = 33 ∧ t' = 32) by omega) with ⟨rfl, rfl⟩ | ⟨rfl, rfl⟩
      · exact hKn.2.2.2.2.1.1
      · exact hKn.2.2.2.2.1.2
    obtain ⟨c1, c2, g1, g2, g3⟩ := this
    cases Option.some.inj (g1.symm.trans (hKn.2.2.2.1 t ht.1 ht.2))
    cases Option.some.inj (g2.symm.trans (hKn.2.2.2.1 t' h1 h2))
    exact g3
  have fin : ∀ vmB : Vm, s.WarmedH vmB → (∀ (Q : Handler → Pre) (E : CtlPost) (d : Bool) (acts : List Action), wp (findHandler.go (F0 m pc jls st) a c.exceptionTable.toList) Q E e d acts ((T.setTop (F0 m pc jls st)).pushFrame (.throwing a)) ↔ Q (.found hp) d acts (((T.setTop (F0 m pc jls st)).pushFrame (.throwing a)).setVm vmB)) → ∃ t, Steps p.tables e below ((T.setTop (F0 m pc jls st)).pushFrame (.throwing a)) t ∧ EndQ G s below c0 u0 (q r) t := by
    intro vmB hWB hgo
    obtain ⟨t2, s2, e2⟩ := k r rfl p l e R s m args below meth c c0 u0 hA T.heap locs cells slots jls hRep hlo hc hu hL (T.setVm vmB) rfl (X.noted hWB)
    refine ⟨t2, steps_to (g := F0 m pc jls st) X.here (pc := hp) (vm' := vmB) (fun Q E d acts => ?_) s2, e2⟩
    rw [W.findHandler_eq (s := (T.setTop (F0 m pc jls st)).pushFrame (.throwing a)) (f := F0 m pc jls st) X.method' X.code]
    exact hgo Q E d acts
  have hcov : ∀ y : ExceptionTableEntry, y.startPc = 0 → y.endPc = ep → covers y (F0 m pc jls st).pc = true := by
    intro y h1 h2
    simp [covers, h1, h2, hep]
  have split1 : ∀ (L : List ExceptionTableEntry) (z : Nat × Nat × Nat × Nat) (zs : List (Nat × Nat × Nat × Nat)), L.map (fun h => (h.startPc, h.endPc, h.handlerPc, h.catchType)) = z :: zs → ∃ y L', L = y :: L' ∧ y.startPc = z.1 ∧ y.endPc = z.2.1 ∧ y.handlerPc = z.2.2.1 ∧ y.catchType = z.2.2.2 ∧ L'.map (fun h => (h.startPc, h.endPc, h.handlerPc, h.catchType)) = zs := by
    intro L z zs h
    cases L with
    | nil => cases h
    | cons y L' =>
      simp only [List.map_cons, List.cons.injEq] at h
      obtain ⟨h1, h2⟩ := h
      subst h1
      exact ⟨y, L', rfl, rfl, rfl, rfl, rfl, h2⟩
  obtain ⟨vmB, w1, w2, w3, ⟨k1, w4⟩, ⟨k2, w5⟩, w6⟩ := one t i1 T.vm X.warmed hl ht.1 ht.2
  have first : ∀ (y : ExceptionTableEntry) (L' : List ExceptionTableEntry), y.startPc = 0 → y.endPc = ep → y.handlerPc = hp → y.catchType = i1 → ∀ (Q : Handler → Pre) (E : CtlPost) (d : Bool) (acts : List Action), wp (findHandler.go (F0 m pc jls st) a (y :: L')) Q E e d acts ((T.setTop (F0 m pc jls st)).pushFrame (.throwing a)) ↔ Q (.found hp) d acts (((T.setTop (F0 m pc jls st)).pushFrame (.throwing a)).setVm vmB) := by
    intro y L' h1 h2 h3 h4 Q E d acts
    rw [go_to (s := (T.setTop (F0 m pc jls st)).pushFrame (.throwing a)) (f := F0 m pc jls st) (a := a) (cell := cell) (c := gA G t) (vm' := vmB) (hcov y h1 h2) (by rw [h4]; exact hl.2) (by rw [h4]; exact w2) w3 hcell hobj (by rw [hcls]; exact w4) w5, hcls, w6, if_pos hself, h3]
  rcases hh with hh | ⟨j1, hq', hh⟩ | ⟨j1, hq', t', hh, hl', hne, h1', h2'⟩
  · rw [hh] at hex
    obtain ⟨y, L', e1, e2, e3, e4, e5, -⟩ := split1 _ _ _ hex
    exact fin vmB w1 (by rw [e1]; exact first y L' e2 e3 e4 e5)
  · rw [hh] at hex
    obtain ⟨y, L', e1, e2, e3, e4, e5, -⟩ := split1 _ _ _ hex
    exact fin vmB w1 (by rw [e1]; exact first y L' e2 e3 e4 e5)
  · rw [hh] at hex
    obtain ⟨y, L', e1, e2, e3, e4, e5, hex2⟩ := split1 _ _ _ hex
    obtain ⟨y2, L2, f1, f2, f3, f4, f5, -⟩ := split1 _ _ _ hex2
    obtain ⟨vmA, v1, v2, v3, ⟨k3, v4⟩, ⟨k4, v5⟩, v6⟩ := one t' j1 T.vm X.warmed hl' h1' h2'
    obtain ⟨vmC, u1, u2, u3, ⟨k5, u4⟩, ⟨k6, u5⟩, u6⟩ := one t i1 vmA v1 hl ht.1 ht.2
    refine fin vmC u1 (fun Q E d acts => ?_)
    rw [e1, f1]
    rw [go_to (s := (T.setTop (F0 m pc jls st)).pushFrame (.throwing a)) (f := F0 m pc jls st) (a := a) (cell := cell) (c := gA G t') (vm' := vmA) (hcov y e2 e3) (by rw [e5]; exact hl'.2) (by rw [e5]; exact v2) v3 hcell hobj (by rw [hcls]; exact v4) v5, hcls, v6, hapart t' h1' h2' hne, if_neg (by decide)]
    rw [go_to (s := ((T.setTop (F0 m pc jls st)).pushFrame (.throwing a)).setVm vmA) (f := F0 m pc jls st) (a := a) (cell := cell) (c := gA G t) (vm' := vmC) (hcov y2 f2 f3) (by rw [f5]; exact hl.2) (by rw [f5]; exact u2) u3 hcell hobj (by rw [hcls]; exact u4) u5, hcls, u6, if_pos hself, f4]
    exact Iff.rfl
/-- a call of a method that may throw, within a try with one handler (of the second exception) or two -/
def thH1 {β : Type} (y h2 : β → Option α) (r : Nat × β) : Option α := if r.1 = 0 then y r.2 else if r.1 = 2 then h2 r.2 else none
def thH2 {β : Type} (y h1 h2 : β → Option α) (r : Nat × β) : Option α := if r.1 = 0 then y r.2 else if r.1 = 1 then h1 r.2 else h2 r.2
theorem B_hT {F : Option (Nat × Int32 × PH)} {y h1 h2 : Int32 × PH → Option α} (ep p1 i1 p2 i2 : Nat) (hep : pc < ep) (hh : mi.2.2.2.2 = [(0, ep, p1, i1), (0, ep, p2, i2)]) (l1 : LkH mi.1.cls i1 32) (l2 : LkH mi.1.cls i2 33) (ci : CI G mi i mc vs M) (hst : stk = vs.reverse ++ st) (hls : lsC = vs.map some ++ List.replicate (mc.2.2.1 - vs.length) none) (hz : szs d d' lo lo' mc st vs = true) (hF : VX G mc d' lo' 0 lsC [] M qT F) (k : ∀ v M1, VB G mi d lo (pc + 3) rest ls (.int v :: st) M1 q (y (v, M1))) (k1 : ∀ (a : Nat) v M1, VX G mi d lo p1 ls [.ref a] M1 q (h1 (v, M1))) (k2 : ∀ (a : Nat) v M1, VX G mi d lo p2 ls [.ref a] M1 q (h2 (v, M1))) : VB G mi d lo pc ((i, 3) :: rest) ls stk M q (F.bind (thH2 y h1 h2)) := by
  subst hst; subst hls
  obtain ⟨z1, z2, z3, z4⟩ := szs_ok hz
  cases F with
  | none => exact V_none
  | some r =>
    refine B_callG (Qc := qT r) ci.1 ci.2.1 ci.2.2 z1 z2 z3 z4 (fun _ => hF r rfl) (fun v M2 hq => ?_) (fun a M2 hq => ?_)
    · obtain ⟨e2, ⟨e0, e1⟩ | ⟨e0, a, e1, -⟩⟩ := hq
      · cases e1; subst e2
        show VB G mi d lo (pc + 3) rest ls (.int r.2.1 :: st) r.2.2 q (thH2 y h1 h2 r)
        unfold thH2
        rw [if_pos e0]
        exact k r.2.1 r.2.2
      · cases e1
    · obtain ⟨e2, ⟨e0, e1⟩ | ⟨e0, b, e1, e3⟩⟩ := hq
      · cases e1
      · cases e1; subst e2
        intro r' hr p l e R s m args below meth c c0 u0 hA locs cells slots jls T X hRep hlo hc hu hL
        have hr' : thH2 y h1 h2 r = some r' := hr
        unfold thH2 at hr'
        rw [if_neg (by omega)] at hr'
        rcases e0 with e0 | e0
        · rw [if_pos e0] at hr'
          rw [e0] at e3
          exact catch_one (t := 32) (hp := p1) (i1 := i1) (ep := ep) l1 ⟨by decide, by decide⟩ (Or.inr (Or.inl ⟨i2, p2, hh⟩)) e3 hep (by have := k1 a r.2.1 r.2.2; rw [hr'] at this; exact this) hA X hRep hlo hc hu hL
        · rw [if_neg (by omega)] at hr'
          rw [e0] at e3
          exact catch_one (t := 33) (hp := p2) (i1 := i2) (ep := ep) l2 ⟨by decide, by decide⟩ (Or.inr (Or.inr ⟨i1, p1, 32, hh, l1, by decide, by decide, by decide⟩)) e3 hep (by have := k2 a r.2.1 r.2.2; rw [hr'] at this; exact this) hA X hRep hlo hc hu hL
theorem B_hU {F : Option (Nat × PH)} {y h1 h2 : PH → Option α} (ep p1 i1 p2 i2 : Nat) (hep : pc < ep) (hh : mi.2.2.2.2 = [(0, ep, p1, i1), (0, ep, p2, i2)]) (l1 : LkH mi.1.cls i1 32) (l2 : LkH mi.1.cls i2 33) (ci : CI G mi i mc vs M) (hst : stk = vs.reverse ++ st) (hls : lsC = vs.map some ++ List.replicate (mc.2.2.1 - vs.length) none) (hz : szs d d' lo lo' mc st vs = true) (hF : VX G mc d' lo' 0 lsC [] M qU F) (k : ∀ M1, VB G mi d lo (pc + 3) rest ls st M1 q (y M1)) (k1 : ∀ (a : Nat) M1, VX G mi d lo p1 ls [.ref a] M1 q (h1 M1)) (k2 : ∀ (a : Nat) M1, VX G mi d lo p2 ls [.ref a] M1 q (h2 M1)) : VB G mi d lo pc ((i, 3) :: rest) ls stk M q (F.bind (thH2 y h1 h2)) := by
  subst hst; subst hls
  obtain ⟨z1, z2, z3, z4⟩ := szs_ok hz
  cases F with
  | none => exact V_none
  | some r =>
    refine B_callG (Qc := qU r) ci.1 ci.2.1 ci.2.2 z1 z2 z3 z4 (fun _ => hF r rfl) (fun v M2 hq => ?_) (fun a M2 hq => ?_)
    · obtain ⟨e2, ⟨e0, e1⟩ | ⟨e0, a, e1, -⟩⟩ := hq
      · cases e1; subst e2
        show VB G mi d lo (pc + 3) rest ls st r.2 q (thH2 y h1 h2 r)
        unfold thH2
        rw [if_pos e0]
        exact k r.2
      · cases e1
    · obtain ⟨e2, ⟨e0, e1⟩ | ⟨e0, b, e1, e3⟩⟩ := hq
      · cases e1
      · cases e1; subst e2
        intro r' hr p l e R s m args below meth c c0 u0 hA locs cells slots jls T X hRep hlo hc hu hL
        have hr' : thH2 y h1 h2 r = some r' := hr
        unfold thH2 at hr'
        rw [if_neg (by omega)] at hr'
        rcases e0 with e0 | e0
        · rw [if_pos e0] at hr'
          rw [e0] at e3
          exact catch_one (t := 32) (hp := p1) (i1 := i1) (ep := ep) l1 ⟨by decide, by decide⟩ (Or.inr (Or.inl ⟨i2, p2, hh⟩)) e3 hep (by have := k1 a r.2; rw [hr'] at this; exact this) hA X hRep hlo hc hu hL
        · rw [if_neg (by omega)] at hr'
          rw [e0] at e3
          exact catch_one (t := 33) (hp := p2) (i1 := i2) (ep := ep) l2 ⟨by decide, by decide⟩ (Or.inr (Or.inr ⟨i1, p1, 32, hh, l1, by decide, by decide, by decide⟩)) e3 hep (by have := k2 a r.2; rw [hr'] at this; exact this) hA X hRep hlo hc hu hL
theorem B_hT1 {F : Option (Nat × Int32 × PH)} {y h2 : Int32 × PH → Option α} (ep p2 i2 : Nat) (hep : pc < ep) (hh : mi.2.2.2.2 = [(0, ep, p2, i2)]) (l2 : LkH mi.1.cls i2 33) (ci : CI G mi i mc vs M) (hst : stk = vs.reverse ++ st) (hls : lsC = vs.map some ++ List.replicate (mc.2.2.1 - vs.length) none) (hz : szs d d' lo lo' mc st vs = true) (hF : VX G mc d' lo' 0 lsC [] M qT F) (k : ∀ v M1, VB G mi d lo (pc + 3) rest ls (.int v :: st) M1 q (y (v, M1))) (k2 : ∀ (a : Nat) v M1, VX G mi d lo p2 ls [.ref a] M1 q (h2 (v, M1))) : VB G mi d lo pc ((i, 3) :: rest) ls stk M q (F.bind (thH1 y h2)) := by
  subst hst; subst hls
  obtain ⟨z1, z2, z3, z4⟩ := szs_ok hz
  cases F with
  | none => exact V_none
  | some r =>
    refine B_callG (Qc := qT r) ci.1 ci.2.1 ci.2.2 z1 z2 z3 z4 (fun _ => hF r rfl) (fun v M2 hq => ?_) (fun a M2 hq => ?_)
    · obtain ⟨e2, ⟨e0, e1⟩ | ⟨e0, a, e1, -⟩⟩ := hq
      · cases e1; subst e2
        show VB G mi d lo (pc + 3) rest ls (.int r.2.1 :: st) r.2.2 q (thH1 y h2 r)
        unfold thH1
        rw [if_pos e0]
        exact k r.2.1 r.2.2
      · cases e1
    · obtain ⟨e2, ⟨e0, e1⟩ | ⟨e0, b, e1, e3⟩⟩ := hq
      · cases e1
      · cases e1; subst e2
        intro r' hr p l e R s m args below meth c c0 u0 hA locs cells slots jls T X hRep hlo hc hu hL
        have hr' : thH1 y h2 r = some r' := hr
        unfold thH1 at hr'
        rw [if_neg (by omega)] at hr'
        by_cases e0 : r.1 = 2
        · rw [if_pos e0] at hr'
          rw [e0] at e3
          exact catch_one (t := 33) (hp := p2) (i1 := i2) (ep := ep) l2 ⟨by decide, by decide⟩ (Or.inl hh) e3 hep (by have := k2 a r.2.1 r.2.2; rw [hr'] at this; exact this) hA X hRep hlo hc hu hL
        · rw [if_neg e0] at hr'; cases hr'
theorem B_hU1 {F : Option (Nat × PH)} {y h2 : PH → Option α} (ep p2 i2 : Nat) (hep : pc < ep) (hh : mi.2.2.2.2 = [(0, ep, p2, i2)]) (l2 : LkH mi.1.cls i2 33) (ci : CI G mi i mc vs M) (hst : stk = vs.reverse ++ st) (hls : lsC = vs.map some ++ List.replicate (mc.2.2.1 - vs.length) none) (hz : szs d d' lo lo' mc st vs = true) (hF : VX G mc d' lo' 0 lsC [] M qU F) (k : ∀ M1, VB G mi d lo (pc + 3) rest ls st M1 q (y M1)) (k2 : ∀ (a : Nat) M1, VX G mi d lo p2 ls [.ref a] M1 q (h2 M1)) : VB G mi d lo pc ((i, 3) :: rest) ls stk M q (F.bind (thH1 y h2)) := by
  subst hst; subst hls
  obtain ⟨z1, z2, z3, z4⟩ := szs_ok hz
  cases F with
  | none => exact V_none
  | some r =>
    refine B_callG (Qc := qU r) ci.1 ci.2.1 ci.2.2 z1 z2 z3 z4 (fun _ => hF r rfl) (fun v M2 hq => ?_) (fun a M2 hq => ?_)
    · obtain ⟨e2, ⟨e0, e1⟩ | ⟨e0, a, e1, -⟩⟩ := hq
      · cases e1; subst e2
        show VB G mi d lo (pc + 3) rest ls st r.2 q (thH1 y h2 r)
        unfold thH1
        rw [if_pos e0]
        exact k r.2
      · cases e1
    · obtain ⟨e2, ⟨e0, e1⟩ | ⟨e0, b, e1, e3⟩⟩ := hq
      · cases e1
      · cases e1; subst e2
        intro r' hr p l e R s m args below meth c c0 u0 hA locs cells slots jls T X hRep hlo hc hu hL
        have hr' : thH1 y h2 r = some r' := hr
        unfold thH1 at hr'
        rw [if_neg (by omega)] at hr'
        by_cases e0 : r.1 = 2
        · rw [if_pos e0] at hr'
          rw [e0] at e3
          exact catch_one (t := 33) (hp := p2) (i1 := i2) (ep := ep) l2 ⟨by decide, by decide⟩ (Or.inl hh) e3 hep (by have := k2 a r.2; rw [hr'] at this; exact this) hA X hRep hlo hc hu hL
        · rw [if_neg e0] at hr'; cases hr'
end R10
