section R7
def CodeOk (mc : MI) : Prop := (Cond.code mc.1 mc.2.1 mc.2.2.1 mc.2.2.2.1 ∈ lw_tbl ∧ mc.2.2.2.2 = []) ∨ Cond.codeWith mc.1 mc.2.1 mc.2.2.1 mc.2.2.2.1 mc.2.2.2.2 ∈ lw_tbl
theorem Rep.nostat {G : GT} {M : PH} {H : Heap} (h : Rep G M H) : ∀ (a : Nat) (cell : Cell), gB G ≤ a → H[a]? = some cell → cell.vm.isStatics = false := by
  intro a cell ha hc
  have hlt : a < H.size := (Array.getElem?_eq_some_iff.mp hc).1
  have hv : cell.vm = .none := by
    rcases h.2.2.2.1 a ha (by rw [← h.1]; exact hlt) with ⟨-, c2, p1, -, p3, -⟩ | ⟨-, -, p⟩ | ⟨-, -, c2, p1, -, p3⟩
    · cases hc.symm.trans p1; exact p3
    · cases hc.symm.trans p; rfl
    · cases hc.symm.trans p1; exact p3
  rw [hv]; rfl
theorem lv_args1 : ∀ (vs : List Value) (n : Nat), (∀ v ∈ vs, v.category = 1) → ∀ (i : Nat) (v : Value), vs[i]? = some v → (n + i, v) ∈ lv_args n vs
  | [], n, _, i, v, h => by simp at h
  | w :: ws, n, hc, i, v, h => by
    have hw : w.category = 1 := hc w List.mem_cons_self
    unfold lv_args
    rw [if_neg (by omega)]
    cases i with
    | zero => simp at h; subst h; exact List.mem_cons_self
    | succ i =>
      have := lv_args1 ws (n + 1) (fun v hv => hc v (List.mem_cons_of_mem _ hv)) i v (by simpa using h)
      rw [show n + (i + 1) = n + 1 + i by omega]
      exact List.mem_cons_of_mem _ this
theorem lg_len : ∀ (vs : List Value), (∀ v ∈ vs, v.category = 1) → (lg_sl vs).length = vs.length
  | [], _ => rfl
  | w :: ws, hc => by
    have hw : w.category = 1 := hc w List.mem_cons_self
    have := lg_len ws (fun v hv => hc v (List.mem_cons_of_mem _ hv))
    unfold lg_sl at this ⊢
    simp [hw, this]
theorem LV_entry {vs : List Value} {n : Nat} (hc : ∀ v ∈ vs, v.category = 1) (hn : vs.length ≤ n) : LV ((lg_sl vs ++ List.replicate (n - (lg_sl vs).length) Slot.unset).toArray) n (vs.map some ++ List.replicate (n - vs.length) none) := by
  obtain ⟨h1, h2, h3⟩ := lv_entry vs (n := n) (by rw [lg_len vs hc]; exact hn)
  refine ⟨h1, by simp; omega, h2, fun i v hi => ?_⟩
  by_cases hlt : i < vs.length
  · rw [List.getElem?_append_left (by simpa using hlt), List.getElem?_map] at hi
    have hv : vs[i]? = some v := by
      cases hq : vs[i]? with
      | none => simp [hq] at hi
      | some w => simp [hq] at hi; rw [hi]
    exact ⟨h3 (i, v) (by simpa using lv_args1 vs 0 hc i v hv), hc v (List.mem_of_getElem? hv)⟩
  · rw [List.getElem?_append_right (by simpa using hlt)] at hi
    have := List.eq_of_mem_replicate (List.mem_of_getElem? hi)
    cases this
theorem run_in {G : GT} {p : Program} {l : Launch} {e : Env} {R : Room} {s : State} {m : MethodId} {args : Array Value} {below : List Frame} {meth : Method} {c : Code} {T : State} {locs : List Loc} {cells slots : Nat} (X : Stand p l e R s m args below meth c T locs cells slots) (hexec : p.tables.exec = Jvm.exec)
    {g : JFrame} (hg : g.method = m) (hsize : g.locals.size = c.maxLocals) (hmon : g.monitorRoom = 0) {ig : Instr} {len : Nat} (hdg : decode c.code g.pc = .ok (ig, len)) {mc : MI} {mk : MethodId} (hKn : Kn G s) (hfl : l.flags = flags0) (hnm : s.methodNamed? mc.1 = some mk) (hcode : CodeOk mc) (hpn : plainName mc.1.cls = true)
    {M : PH} (hRep : Rep G M T.heap) {c0 u0 : Nat} (hc : c0 + cells = hZ M ∧ hZ M ≤ gC G) (hu : u0 + slots = hU M ∧ hU M ≤ gS G) (hRc : c0 + R.cells = gC G) (hRs : u0 + R.slots = gS G) {d' lo' : Nat} (hd : d' + 1 ≤ R.frames) (hlo : (g.stack.map fun v => v.category).sum + (mc.2.2.1 + 11) + lo' ≤ R.locals)
    {vs : List Value} (hvs : ∀ v ∈ vs, v.category = 1) (hvl : vs.length ≤ mc.2.2.1) {Qc : Outcome → PH → Prop} (hV : VV G mc d' lo' 0 (vs.map some ++ List.replicate (mc.2.2.1 - vs.length) none) [] M Qc) :
    ∃ (o : Outcome) (M1 : PH) (L : List Loc) (k n : Nat) (t : State), Qc o M1 ∧ Rep G M1 t.heap ∧ (∀ x ∈ L, gB G ≤ x.base) ∧ (hZ M + k = hZ M1 ∧ hZ M1 ≤ gC G) ∧ (hU M + n = hU M1 ∧ hU M1 ≤ gS G) ∧ Ended t (.java g :: below) o ∧ (T.calling g mk vs.toArray).WarmedH t.vm ∧ (T.calling g mk vs.toArray).sameButNew ({ t with vm := (T.calling g mk vs.toArray).vm } : State) L k n ∧
      ∀ acts, Steps p.tables e below (doInvoke e (T.setTop g) acts mk vs.toArray).1 t := by
  have hcd : ∃ methk ck, s.vm.method? mk = some methk ∧ methk.code = some ck ∧ ck.code = mc.2.1 ∧ ck.maxLocals = mc.2.2.1 ∧ methk.sig.returnType = mc.2.2.2.1 ∧ methk.locks = false ∧ ck.exceptionTable.toList.map (fun h => (h.startPc, h.endPc, h.handlerPc, h.catchType)) = mc.2.2.2.2 := by
    rcases hcode with ⟨h1, h2⟩ | h1
    · obtain ⟨methk, ck, q1, q2, q3, q4, q5, q6, q7, -⟩ := Cond.code_spec hnm (hKn.1 _ h1 #[])
      refine ⟨methk, ck, q1, q2, q3, q4, q5, q6, ?_⟩
      rw [h2]
      have : ck.exceptionTable = #[] := by simpa using q7
      rw [this]; rfl
    · obtain ⟨mk', methk, ck, q0, q1, q2, q3, q4, q5, q6, q7, -⟩ := Cond.codeWith_spec (hKn.1 _ h1 #[])
      cases hnm.symm.trans q0
      exact ⟨methk, ck, q1, q2, q3, q4, q6, q7, q5⟩
  obtain ⟨methk, ck, q1, q2, q3, q4, q5, q6, q7⟩ := hcd
  have hmk : T.vm.method? mk = some methk := by rw [X.warmed.alike.method?]; exact q1
  have hpk : T.plainMethod mk := by
    refine X.warmed.plainAt fun k hk => ?_
    obtain ⟨k', hk', hn'⟩ := className_of_methodNamed hnm
    cases hk.symm.trans hk'
    rw [hn']; exact hpn
  obtain ⟨Y, hin⟩ := X.into hg hsize hdg vs.toArray (R' := { frames := R.frames - 1, cells := R.cells - cells, slots := R.slots - slots, locals := R.locals - ((g.stack.map fun v => v.category).sum + (mc.2.2.1 + 11)) }) hmk q2 q6 hpk (by show R.frames - 1 + 1 ≤ R.frames; omega) (by rw [hmon, q4]; show _ + (R.locals - _) ≤ R.locals; omega) (by show cells + (R.cells - cells) ≤ R.cells; omega) (by show slots + (R.slots - slots) ≤ R.slots; omega)
  have hvm' : (T.calling g mk vs.toArray).vm = T.vm := rfl
  have hhp' : (T.calling g mk vs.toArray).heap = T.heap := rfl
  have hKn' : Kn G (T.calling g mk vs.toArray) := hKn.moved (by rw [hvm']; exact X.warmed) (fun a ha => by rw [hhp']; exact hRep.2.2.1 a ha) (fun a cell ha hcl => hRep.nostat a cell ha (by rw [← hhp']; exact hcl))
  have hnm' : (T.calling g mk vs.toArray).methodNamed? mc.1 = some mk := by
    have := X.named hnm
    exact this
  have hA' : Act G mc d' lo' p l { frames := R.frames - 1, cells := R.cells - cells, slots := R.slots - slots, locals := R.locals - ((g.stack.map fun v => v.category).sum + (mc.2.2.1 + 11)) } (T.calling g mk vs.toArray) mk methk ck (hZ M) (hU M) :=
    ⟨hexec, q3, q5, q4, q6, findClass_of_methodNamed hnm', (name_of_methodNamed hnm' (by rw [hvm']; exact hmk)).1, q7, hfl, hKn', by show d' ≤ R.frames - 1; omega, by show lo' ≤ R.locals - _; omega, by show hZ M + (R.cells - cells) = gC G; omega, by show hU M + (R.slots - slots) = gS G; omega⟩
  have hW := hV p l e _ _ mk vs.toArray (.java g :: below) methk ck (hZ M) (hU M) hA' T.heap [] 0 0 _ hRep (fun x hx => by cases hx) ⟨Nat.add_zero _, hc.2⟩ ⟨Nat.add_zero _, hu.2⟩ (LV_entry hvs hvl)
  rw [← lg_entry_eq] at hW
  obtain ⟨t, hs, o, M1, L, k, n, b1, b2, b3, b4, b5, b6, b7, b8, b9⟩ := hW ((T.setTop g).pushFrame (.java (entryFrame mk vs.toArray ck.maxLocals))) rfl Y
  refine ⟨o, M1, L, k, n, t, b3, b4, b7, b8, b9, b2, b5, b6, fun acts => ?_⟩
  rw [q4] at hs
  rw [hin acts, q4]
  exact Steps.weaken (mid := [.java g]) hs
/-- an instruction that calls mc with the values vs -/
def Inv (G : GT) (mi : MI) (i : Instr) (mc : MI) (vs : List Value) (M : PH) : Prop :=
  ∀ (p : Program) (l : Launch) (e : Env) (R : Room) (s : State) (m : MethodId) (args : Array Value) (below : List Frame) (meth : Method) (c : Code) (T : State) (locs : List Loc) (cells slots : Nat) (g : JFrame) (rest : List Value), Stand p l e R s m args below meth c T locs cells slots → p.tables.exec = Jvm.exec → c.code = mi.2.1 → s.vm.findClass mi.1.cls = some m.cls → Kn G s → Rep G M T.heap → g.method = m → g.stack = vs.reverse ++ rest → decode c.code g.pc = .ok (i, 3) →
  ∃ (vm₁ : Vm) (mk : MethodId), s.methodNamed? mc.1 = some mk ∧ Stand p l e R s m args below meth c (T.setVm vm₁) locs cells slots ∧ ∀ target, (∀ acts, Steps p.tables e below (doInvoke e ((T.setVm vm₁).setTop { g with stack := rest }) acts mk vs.toArray).1 target) → Steps p.tables e below (T.setTop g) target
def hyOk (y : MethodName) (n : Nat) : Prop := y.cls ≠ "java/lang/invoke/MethodHandle" ∧ y.cls ≠ "java/lang/invoke/VarHandle" ∧ (parseMethodDescriptor y.desc).map (fun d => d.parameters.length) = some n
theorem hy_len {y : MethodName} {n : Nat} (h : hyOk y n) {As : List Value} (hn : As.length = n) : ∀ sig, parseMethodDescriptor y.desc = some sig → As.length = sig.parameters.length := by
  intro sig hs
  have := h.2.2
  rw [hs] at this
  exact hn.trans (Option.some.inj this).symm
/-- the entry's words for a call of a method of an object of class c -/
def LkV (own : String) (idx : Nat) (mc : MI) (c n : Nat) : Prop := (Cond.methodLink own idx mc.1 ∈ lw_tbl ∨ ∃ host : String, Cond.methodLinkNest own idx mc.1 host ∈ lw_tbl) ∧ Cond.instanceMethod mc.1 ∈ lw_tbl ∧ Cond.selects (cR c) mc.1 mc.1 ∈ lw_tbl ∧ Cond.code mc.1 mc.2.1 mc.2.2.1 mc.2.2.2.1 ∈ lw_tbl ∧ mc.2.2.2.2 = [] ∧ hyOk mc.1 n ∧ plainName mc.1.cls = true
def LkI (own : String) (idx : Nat) (mc : MI) (n : Nat) : Prop := (Cond.methodLink own idx mc.1 ∈ lw_tbl ∨ ∃ host : String, Cond.methodLinkNest own idx mc.1 host ∈ lw_tbl) ∧ Cond.instanceMethod mc.1 ∈ lw_tbl ∧ Cond.code mc.1 mc.2.1 mc.2.2.1 mc.2.2.2.1 ∈ lw_tbl ∧ mc.2.2.2.2 = [] ∧ hyOk mc.1 n ∧ plainName mc.1.cls = true ∧ mc.1.name = "<init>" ∧ mc.2.2.2.1 = none
def LkS (own : String) (idx : Nat) (mc : MI) (n : Nat) : Prop := (Cond.methodLink own idx mc.1 ∈ lw_tbl) ∧ Cond.static mc.1 ∈ lw_tbl ∧ Cond.initialized mc.1.cls ∈ lw_tbl ∧ CodeOk mc ∧ hyOk mc.1 n ∧ plainName mc.1.cls = true
theorem inv_V {G : GT} {mi mc : MI} {idx c n b : Nat} {As : List Value} {M : PH} (hl : LkV mi.1.cls idx mc c n) (hn : As.length = n) (hc : c < 12) (ht : hT M b = c) : Inv G mi (.invokevirtual idx) mc (.ref b :: As) M := by
  intro p l e R s m args below meth cd T locs cells slots g rest X hx hb hown hKn hRep hg hst hdg
  obtain ⟨hl, hin, hsel, hcode, -, hy, -⟩ := hl
  have hst' : g.stack = As.reverse ++ .ref b :: rest := by rw [hst]; simp
  obtain ⟨mk, methM, hnamed, hmethM, hstM, habM⟩ := Cond.instanceMethod_spec (hKn.1 _ hin args)
  obtain ⟨methM', cM, hmethM', -, -, -, -, -, -, hsigM⟩ := Cond.code_spec hnamed (hKn.1 _ hcode args)
  cases hmethM.symm.trans hmethM'
  obtain ⟨c2, r2, m2, q1, q2, q3, q4, kP, hkP, hkPi⟩ := Cond.selects_spec (hKn.1 _ hsel args)
  obtain ⟨cellB, g1, g2, g3, -⟩ := hRep.obj hc ht
  have hcls : s.vm.findClass (cR c) = some cellB.cls := by rw [g2]; exact (hKn.2.1 c hc).2.1
  have hobj : cellB.vm.isStatics = false := by rw [g3]; rfl
  cases hcls.symm.trans q1
  cases (State.methodFound?_of_named hnamed ⟨hy.1, hy.2.1⟩).symm.trans q2
  cases hnamed.symm.trans q3
  have hselP : selectMethod e.platform s.vm cellB.cls mk = .method mk := by rw [Launch.admits_selectMethod X.admits]; exact q4
  rcases hl with hl | ⟨host, hl⟩
  · obtain ⟨vm₁, X₁, hstep₁⟩ := X.invokevirtual hx hown (hKn.1 _ hl args) hnamed hmethM hstM hkP hkPi ⟨hy.1, hy.2.1⟩ (a := b) (cell := cellB) g1 (fun z h => by rw [h] at hobj; cases hobj) hselP hmethM habM hkP hkPi (g := g) hg (argsL := As) (rest := rest) (hy_len hy hn _ hsigM) hst' hdg
    exact ⟨vm₁, mk, hnamed, X₁, hstep₁⟩
  · obtain ⟨vm₁, X₁, hstep₁⟩ := X.invokevirtualNest hx hown (hKn.1 _ hl args) hnamed hmethM hstM hkP hkPi ⟨hy.1, hy.2.1⟩ (a := b) (cell := cellB) g1 (fun z h => by rw [h] at hobj; cases hobj) hselP hmethM habM hkP hkPi (g := g) hg (argsL := As) (rest := rest) (hy_len hy hn _ hsigM) hst' hdg
    exact ⟨vm₁, mk, hnamed, X₁, hstep₁⟩
theorem inv_I {G : GT} {mi mc : MI} {idx n b : Nat} {As : List Value} {M : PH} (hl : LkI mi.1.cls idx mc n) (hn : As.length = n) : Inv G mi (.invokespecial idx) mc (.ref b :: As) M := by
  intro p l e R s m args below meth cd T locs cells slots g rest X hx hb hown hKn hRep hg hst hdg
  obtain ⟨hl, hin, hcode, -, hy, -, hnm, hret⟩ := hl
  have hst' : g.stack = As.reverse ++ .ref b :: rest := by rw [hst]; simp
  have hcode' := hKn.1 _ hcode args
  rw [hret] at hcode'
  subst hg
  have hpl : e.platform.magicAccessors = ({} : Platform).magicAccessors := by rw [X.admits.platform]
  rcases hl with hl | ⟨host, hl⟩
  · obtain ⟨mk, methM, cM, kP, vm₁, hnamed, hmethM, hcodeM, -, hlocalsM, -, hkP, -, hW₁, hstep₁⟩ := Steps.initColdArgs (e := e) X.here hx X.warmed hpl hown hnm ⟨hy.1, hy.2.1⟩ (hKn.1 _ hl args) (hKn.1 _ hin args) hcode' (f := g) rfl (hy_len hy hn) hst' hdg
    exact ⟨vm₁, mk, hnamed, X.noted hW₁, hstep₁⟩
  · obtain ⟨mk, methM, cM, kP, vm₁, hnamed, hmethM, hcodeM, -, hlocalsM, -, hkP, -, hW₁, hstep₁⟩ := Steps.initColdArgsNest (e := e) X.here hx X.warmed hpl hown hnm ⟨hy.1, hy.2.1⟩ (hKn.1 _ hl args) (hKn.1 _ hin args) hcode' (f := g) rfl (hy_len hy hn) hst' hdg
    exact ⟨vm₁, mk, hnamed, X.noted hW₁, hstep₁⟩
theorem inv_S {G : GT} {mi mc : MI} {idx n : Nat} {As : List Value} {M : PH} (hl : LkS mi.1.cls idx mc n) (hn : As.length = n) : Inv G mi (.invokestatic idx) mc As M := by
  intro p l e R s m args below meth cd T locs cells slots g rest X hx hb hown hKn hRep hg hst hdg
  obtain ⟨hl, hstat, hini, hcode, hy, -⟩ := hl
  have hsig : ∃ mk methM, s.methodNamed? mc.1 = some mk ∧ s.vm.method? mk = some methM ∧ parseMethodDescriptor mc.1.desc = some methM.sig := by
    rcases hcode with ⟨h1, -⟩ | h1
    · obtain ⟨mk, hnamed⟩ := Cond.code_named (hKn.1 _ h1 args)
      obtain ⟨methM, cM, hmethM, -, -, -, -, -, -, hsigM⟩ := Cond.code_spec hnamed (hKn.1 _ h1 args)
      exact ⟨mk, methM, hnamed, hmethM, hsigM⟩
    · obtain ⟨mk', methk, ck, q0, q1, q2, q3, q4, q5, q6, q7, q8⟩ := Cond.codeWith_spec (hKn.1 _ h1 args)
      exact ⟨mk', methk, q0, q1, q8⟩
  obtain ⟨mk, methM, hnamed, hmethM, hsigM⟩ := hsig
  have hstatic : methM.isStatic = true := Cond.static_spec hnamed hmethM (hKn.1 _ hstat args)
  obtain ⟨kP, hkP, -⟩ := className_of_methodNamed hnamed
  have hinitP : kP.init = .initialized := Cond.initialized_spec (findClass_of_methodNamed hnamed) hkP (hKn.1 _ hini args)
  obtain ⟨vm₁, X₁, hstep₁⟩ := X.invokestatic hx hown (hKn.1 _ hl args) hnamed hmethM hstatic hkP hinitP ⟨hy.1, hy.2.1⟩ (g := g) hg (argsL := As) (rest := rest) (hy_len hy hn _ hsigM) hst hdg
  exact ⟨vm₁, mk, hnamed, X₁, hstep₁⟩
theorem heap_top (T : State) (g : JFrame) : (T.setTop g).heap = T.heap := rfl
theorem heap_throw (T : State) (g : JFrame) (a : Addr) : ((T.setTop g).pushFrame (.throwing a)).heap = T.heap := rfl
/-- a call: what comes behind it, returned or thrown -/
theorem B_callG {G : GT} {mi mc : MI} {d lo d' lo' pc : Nat} {rest : List (Instr × Nat)} {ls : List (Option Value)} {st : List Value} {M : PH} {α : Type} {q : α → Outcome → PH → Prop} {x : Option α} {i : Instr} {vs : List Value} {Qc : Outcome → PH → Prop}
    (hinv : Inv G mi i mc vs M) (hcode : CodeOk mc) (hpn : plainName mc.1.cls = true) (hd : d' + 1 ≤ d) (hlo : (st.map fun v => v.category).sum + (mc.2.2.1 + 11) + lo' ≤ lo) (hvs : ∀ v ∈ vs, v.category = 1) (hvl : vs.length ≤ mc.2.2.1)
    (hV : x ≠ none → VV G mc d' lo' 0 (vs.map some ++ List.replicate (mc.2.2.1 - vs.length) none) [] M Qc)
    (kr : ∀ (v : Option Value) (M1 : PH), Qc (.returned v) M1 → VB G mi d lo (pc + 3) rest ls (v.toList ++ st) M1 q x)
    (kt : ∀ (a : Nat) (M1 : PH), Qc (.threw a) M1 → ∀ r, x = some r → ∀ (p : Program) (l : Launch) (e : Env) (R : Room) (s : State) (m : MethodId) (args : Array Value) (below : List Frame) (meth : Method) (c : Code) (c0 u0 : Nat), Act G mi d lo p l R s m meth c c0 u0 → ∀ (locs : List Loc) (cells slots : Nat) (jls : Array Slot) (T : State), Stand p l e R s m args below meth c T locs cells slots → Rep G M1 T.heap → (∀ y ∈ locs, gB G ≤ y.base) → (c0 + cells = hZ M1 ∧ hZ M1 ≤ gC G) → (u0 + slots = hU M1 ∧ hU M1 ≤ gS G) → LV jls mi.2.2.1 ls → ∃ t, Steps p.tables e below ((T.setTop (F0 m pc jls st)).pushFrame (.throwing a)) t ∧ EndQ G s below c0 u0 (q r) t) :
    VB G mi d lo pc ((i, 3) :: rest) ls (vs.reverse ++ st) M q x := by
  intro hok r hr p l e R s m args below meth c c0 u0 hA H locs cells slots jls hRep hlo' hc hu hL
  obtain ⟨h1, h2⟩ := okb_cons hok
  obtain ⟨hx, hb, hret, hml, hlk, hown, hnm, hex, hfl, hKn, hdR, hloR, hRc, hRs⟩ := id hA
  intro T hT' X
  subst hT'
  obtain ⟨vm₁, mk, hnamed, X₁, hstep⟩ := hinv p l e R s m args below meth c T locs cells slots (F0 m pc jls (vs.reverse ++ st)) st X hx hb hown hKn hRep rfl rfl (by rw [hb]; exact h1)
  obtain ⟨o, M1, L, k, n, t, b1, b2, b3, b4, b5, b6, b7, b8, b9⟩ := run_in X₁ hx (g := F0 m pc jls st) rfl (hL.1.trans hml.symm) rfl (by rw [hb]; exact h1) hKn hfl hnamed hcode hpn hRep hc hu hRc hRs (Nat.le_trans hd hdR) (Nat.le_trans hlo hloR) hvs hvl (hV (by rw [hr]; exact fun h => by cases h))
  have hlo2 : ∀ y ∈ locs ++ L, gB G ≤ y.base := fun y hy => by
    rcases List.mem_append.mp hy with hy | hy
    · exact hlo' y hy
    · exact b3 y hy
  cases o with
  | returned v =>
    obtain ⟨T', X', hW', -, ht⟩ := X₁.outOf (g := F0 m pc jls st) rfl (by rw [hb]; exact h1) b6 b7 b8
    have hh : t.heap = T'.heap := by rw [ht]; rfl
    have K := kr v M1 b1 h2 r hr p l e R s m args below meth c c0 u0 hA T'.heap (locs ++ L) (cells + k) (slots + n) jls (by rw [← hh]; exact b2) hlo2 (by omega) (by omega) hL
    obtain ⟨t2, s2, e2⟩ := K T' rfl X'
    refine ⟨t2, hstep _ (fun acts => (b9 acts).trans ?_), e2⟩
    rw [ht]
    exact s2
  | threw a =>
    obtain ⟨T', X', hW', -, ht⟩ := X₁.outOfThrown (g := F0 m pc jls st) rfl b6 b7 b8
    have hh : t.heap = T'.heap := by rw [ht]; rfl
    obtain ⟨t2, s2, e2⟩ := kt a M1 b1 r hr p l e R s m args below meth c c0 u0 hA (locs ++ L) (cells + k) (slots + n) jls T' X' (by rw [← hh]; exact b2) hlo2 (by omega) (by omega) hL
    refine ⟨t2, hstep _ (fun acts => (b9 acts).trans ?_), e2⟩
    rw [ht]
    exact s2
end R7
