section R8
variable {e : Env} {s : State} {f : JFrame} {a : Addr}
/-- one entry of a handler table whose class may be resolved now -/
theorem go_to {Q : Handler → Pre} {E : CtlPost} {d : Bool} {acts : List Action} {y : ExceptionTableEntry} {t : List ExceptionTableEntry} {c : ClassId} {cell : Cell} {vm' : Vm} {k1 k2 : Class} (hx : covers y f.pc = true) (h0 : y.catchType ≠ 0)
    (hg : (Jvm.resolveClass f.method.cls y.catchType).Gives e.toSetting s.vm (.ok c) vm') (hsz : vm'.classes.size ≤ s.vm.classes.size) (hcell : s.heap[a]? = some cell) (hobj : ∀ k, cell.vm ≠ .statics k) (hk1 : vm'.classes[cell.cls]? = some k1) (hk2 : vm'.classes[c]? = some k2) :
    wp (findHandler.go f a (y :: t)) Q E e d acts s ↔ if vm'.assignable cell.cls c = true then Q (.found y.handlerPc) d acts (s.setVm vm') else wp (findHandler.go f a t) Q E e d acts (s.setVm vm') := by
  simp only [covers] at hx
  obtain ⟨ha, ht⟩ := hg.op (op := VmOp.resolveClass f.method.cls y.catchType) rfl
  cases hfit : vm'.assignable cell.cls c <;> simp [findHandler.go, hx, h0, ha, ht, hsz, hcell, hobj, hk1, hk2, hfit, VmOp.dirties, VmOp.acts]
theorem step_to {r : List Frame} {pc : Nat} {vm' : Vm} (hfind : ∀ (Q : Handler → Pre) (E : CtlPost) (d : Bool) (acts : List Action), wp (findHandler f a) Q E e d acts s ↔ Q (.found pc) d acts (s.setVm vm')) :
    (stepThrowing e s a (.java f :: r)).1 = (s.setVm vm').setFrames (.java { f with pc := pc, stack := [.ref a] } :: r) := by
  simp only [stepThrowing, searchFrame, vmDo]
  generalize hr : Sem.go _ e false [] s = res
  obtain ⟨as, rfl, ha⟩ := Sem.eq_ok_of hr (a := Handler.found pc) (s' := s.setVm vm') (acts' := []) (by simp [hfind _ _ _ _])
  rfl
theorem steps_to {tb : Tables} {T target : State} {g : JFrame} {c : Code} {below : List Frame} (h : At T g.method c below) {pc : Nat} {vm' : Vm} (hfind : ∀ (Q : Handler → Pre) (E : CtlPost) (d : Bool) (acts : List Action), wp (findHandler g a) Q E e d acts ((T.setTop g).pushFrame (.throwing a)) ↔ Q (.found pc) d acts (((T.setTop g).pushFrame (.throwing a)).setVm vm'))
    (hrest : Steps tb e below ((T.setVm vm').setTop { g with pc := pc, stack := [.ref a] }) target) : Steps tb e below ((T.setTop g).pushFrame (.throwing a)) target := by
  obtain ⟨hgo, hw⟩ := h.throwing a
  refine Steps.head hgo hw ?_
  rw [stepThread_throwing (frames_entered h.top _), step_to (s := (T.setTop g).pushFrame (.throwing a)) hfind]
  obtain ⟨g₀, hg⟩ := Option.isSome_iff_exists.mp h.top
  obtain ⟨r, hr⟩ := State.topJava?_eq_some.mp hg
  have hr' : (T.setVm vm').frames = .java g₀ :: r := hr
  rw [State.setTop_of_frames _ hr'] at hrest
  rw [State.pushFrame, State.setTop_of_frames _ hr]
  have e1 : ((T.setFrames (.java g :: r)).setFrames (.throwing a :: (T.setFrames (.java g :: r)).frames)).setVm vm' = (T.setVm vm').setFrames (.throwing a :: (T.setFrames (.java g :: r)).frames) := by
    rw [State.setFrames_setFrames]; rfl
  rw [e1, State.setFrames_setFrames, hr]
  exact hrest
end R8
section R9
variable {G : GT} {mi : MI} {d lo pc : Nat} {rest : List (Instr × Nat)} {ls : List (Option Value)} {st : List Value} {M : PH}
/-- a method without handlers passes a throw on -/
theorem throw_out {Q : Outcome → PH → Prop} {a : Nat} (hh : mi.2.2.2.2 = []) (hq : Q (.threw a) M) {p : Program} {l : Launch} {e : Env} {R : Room} {s : State} {m : MethodId} {args : Array Value} {below : List Frame} {meth : Method} {c : Code} {c0 u0 : Nat} (hA : Act G mi d lo p l R s m meth c c0 u0) {locs : List Loc} {cells slots : Nat} {jls : Array Slot} {T : State} (X : Stand p l e R s m args below meth c T locs cells slots) (hRep : Rep G M T.heap) (hlo : ∀ y ∈ locs, gB G ≤ y.base) (hc : c0 + cells = hZ M ∧ hZ M ≤ gC G) (hu : u0 + slots = hU M ∧ hU M ≤ gS G) :
    ∃ t, Steps p.tables e below ((T.setTop (F0 m pc jls st)).pushFrame (.throwing a)) t ∧ EndQ G s below c0 u0 Q t := by
  have hex : c.exceptionTable.toList = [] := by
    have := hA.2.2.2.2.2.2.2.1
    rw [hh] at this
    exact List.map_eq_nil_iff.mp this
  obtain ⟨h1, h2, h3, h4, h5⟩ := X.leaveThrown a (g := F0 m pc jls st) rfl rfl rfl (by rw [hex]; exact fun x hx => by cases hx) hA.2.2.2.2.1
  exact ⟨_, h1, .threw a, M, locs, cells, slots, h2, h3, hq, hRep, h4, h5, hlo, hc, hu⟩
/-- the walk seen as one that begins here -/
theorem rebase {p : Program} {l : Launch} {e : Env} {R : Room} {s : State} {m : MethodId} {args : Array Value} {below : List Frame} {meth : Method} {c : Code} {T : State} {locs : List Loc} {cells slots : Nat} (X : Stand p l e R s m args below meth c T locs cells slots) (hc : cells ≤ R.cells) (hs : slots ≤ R.slots) :
    Stand p l e { frames := R.frames, cells := R.cells - cells, slots := R.slots - slots, locals := R.locals } (T.setFrames (.invoking m args :: below)) m args below meth c T [] 0 0 := by
  obtain ⟨g₀, hfr⟩ := X.frames_eq
  have hcur : T.cur < T.threads.size := State.cur_lt_of_frames hfr
  have hf2 : (T.setFrames (.invoking m args :: below)).frames = .invoking m args :: below := State.frames_setFrames _ hcur
  obtain ⟨t2, ht2, -⟩ := State.frames_cons hf2
  obtain ⟨th, hth, -⟩ := State.frames_cons hfr
  refine ⟨X.admits, X.cas, X.clock, hf2, ?_, ?_, X.method', X.code, X.here, X.tail, State.WarmedH.refl (T.setFrames (.invoking m args :: below)), by rw [State.stackLimits_setFrames], by rw [State.stackBytes_setFrames], ?_⟩
  · have h := X.room
    have l1 := State.localsInUse_invoking X.frames X.method X.code
    have l2 := State.localsInUse_invoking hf2 (show (T.setFrames (.invoking m args :: below)).vm.method? m = some meth from X.method') X.code
    have hz := X.heapSize
    have hu := X.used
    have hbk : (T.setFrames (.invoking m args :: below)).slotsTrue = true := X.book
    have hlim : e.platform.stackLimits (T.setFrames (.invoking m args :: below)).me = e.platform.stackLimits s.me := by rw [State.stackLimits_setFrames]; exact X.limits
    have hby : (T.setFrames (.invoking m args :: below)).me.stackBytes = s.me.stackBytes := by rw [State.stackBytes_setFrames]; exact X.bytes
    simp only [State.hasRoom, Bool.and_eq_true, decide_eq_true_eq] at h ⊢
    rw [l2, hf2, hlim, hby, ← l1]
    rw [X.frames] at h
    refine ⟨⟨⟨⟨h.1.1.1.1, h.1.1.1.2⟩, ?_⟩, ?_⟩, hbk⟩
    · show T.heap.size + (R.cells - cells) ≤ _
      have := h.1.1.2
      omega
    · show T.slotsUsed + (R.slots - slots) ≤ _
      have := h.1.2
      omega
  · have h := X.hears
    have hm : ∀ m', T.vm.method? m' = s.vm.method? m' := fun m' => X.warmed.alike.method? m'
    cases below with
    | nil => simpa [State.hears, hm] using h
    | cons f r =>
      cases f <;> simpa [State.hears, hm, State.code?_eq] using h
  · have h := (State.sameButNew.refl (T.setFrames (.invoking m args :: below)) ht2).setFrames T.frames (State.cur_lt_of_frames hf2)
    rw [State.setFrames_setFrames, State.setFrames_self hth] at h
    exact h
theorem rebase_same {T U : State} {fs : List Frame} {L : List Loc} {k n : Nat} (h : (T.setFrames fs).sameButNew U L k n) : T.sameButNew U L k n := by
  obtain ⟨h1, h2⟩ := h
  rw [State.setFrames_setFrames] at h1
  exact ⟨h1, h2⟩
/-- what the tables say for 'new X(); throw' of the exception t -/
def LkX (own : String) (ic iv t : Nat) : Prop := Cond.classLink own iv (xcl t) ∈ lw_tbl ∧ ∀ w ∈ Bundle.ownAtoms0 own ic (xcl t) ["java/lang/RuntimeException", "java/lang/Exception"], w ∈ lw_tbl ∨ w ∈ lw_nar
theorem x_init : ∀ t, 32 ≤ t → t < 34 → Cond.initialized (xcl t) ∈ lw_tbl ∧ Cond.instantiable (xcl t) 6 ∈ lw_tbl := by
  intro t h1 h2
  rcases (show t = 32 ∨ t = 33 by omega) with rfl | rfl <;> exact ⟨by decide +kernel, by decide +kernel⟩
theorem x_fit : ∀ t, 32 ≤ t → t < 34 → Bundle.fit (xcl t) = true := by
  intro t h1 h2
  rcases (show t = 32 ∨ t = 33 by omega) with rfl | rfl <;> decide +kernel
theorem Cell.same {c c' : Cell} (h1 : c' = { c with slots := c'.slots }) (h2 : c'.slots.size = c.slots.size) (h3 : ∀ i : Nat, c'.slots[i]? = c.slots[i]?) : c' = c := by
  have : c'.slots = c.slots := Array.ext_getElem? h3
  rw [this] at h1
  exact h1
theorem B_throw {α : Type} {q : α → Outcome → PH → Prop} {r0 : α} {ic iv : Nat} (t : Nat) (ht : (decide (32 ≤ t) && decide (t < 34)) = true) (hl : LkX mi.1.cls ic iv t) (hh : mi.2.2.2.2 = []) (hfr : 6 ≤ d) (hlo' : (st.map fun v => v.category).sum + 81 ≤ lo) (hq : q r0 (.threw (hZ M)) (nO M t 6)) : VB G mi d lo pc ((.new iv, 3) :: (.dup, 1) :: (.invokespecial ic, 3) :: (.athrow, 1) :: rest) ls st M q (if hZ M < gC G ∧ hU M + 6 ≤ gS G then some r0 else none) := by
  simp only [Bool.and_eq_true, decide_eq_true_eq] at ht
  by_cases h : hZ M < gC G ∧ hU M + 6 ≤ gS G
  · rw [if_pos h]
    intro hok r hr p l e R s m args below meth cd c0 u0 hA H locs cells slots jls hRep hlo hc' hu hL
    cases hr
    obtain ⟨h1, hok⟩ := okb_cons hok
    obtain ⟨h2, hok⟩ := okb_cons hok
    obtain ⟨h3, hok⟩ := okb_cons hok
    obtain ⟨h4, -⟩ := okb_cons hok
    obtain ⟨hx, hb, -, hml, hlk, hown0, -, hex, hfl, hKn0, hdR, hloR, hRc, hRs⟩ := id hA
    intro T hT' X
    subst hT'
    have Y := rebase X (by omega) (by omega)
    have hKn : Kn G (T.setFrames (.invoking m args :: below)) := hKn0.moved X.warmed (fun a ha => hRep.2.2.1 a ha) (fun a cell ha hcl => hRep.nostat a cell ha hcl)
    have hown : (T.setFrames (.invoking m args :: below)).vm.findClass mi.1.cls = some m.cls := by
      show T.vm.findClass mi.1.cls = _
      rw [X.warmed.alike.findClass]; exact hown0
    have hfc := hKn.2.2.2.1 t ht.1 ht.2
    have hext : cd.exceptionTable.toList = [] := by
      rw [hh] at hex
      exact List.map_eq_nil_iff.mp hex
    have K : W p l e { frames := R.frames, cells := R.cells - cells, slots := R.slots - slots, locals := R.locals } (T.setFrames (.invoking m args :: below)) m args below meth cd T.heap [] 0 0 (fun U => U.status = .running ∧ Ended U below (.threw (hZ M)) ∧ (T.setFrames (.invoking m args :: below)).WarmedH U.vm ∧ (T.setFrames (.invoking m args :: below)).sameButNew ({ U with vm := (T.setFrames (.invoking m args :: below)).vm } : State) [] 1 6 ∧ ∃ ce : Cell, U.heap[hZ M]? = some ce ∧ ce.cls = gA G t ∧ ce.vm = .none) (F0 m pc jls st) := by
      refine W.newcK hx hb hown (hKn.1 _ hl.1 args) (hKn.1 _ (x_init t ht.1 ht.2).2 args) (hKn.1 _ (x_init t ht.1 ht.2).1 args) rfl h1 (by show 0 + 1 ≤ R.cells - cells; omega) (by show 0 + 6 ≤ R.slots - slots; omega) hfc hRep.1 (fun H' kC hkC e1 e2 e3 => ?_)
      refine lv_dup hx hb h2 rfl ?_
      intro T2 hT2 X2
      obtain ⟨U, b1, b2, b3, b4, b5, ce, b6, b7⟩ := X2.ctorThrow0 hx (Launch.traces_off hfl X.admits) (own := mi.1.cls) (cls := xcl t) (names := ["java/lang/RuntimeException", "java/lang/Exception"]) (ic := ic) hown (x_fit t ht.1 ht.2) (by decide +kernel)
        (fun w hw => by
          rcases hl.2 w hw with hw | hw
          · exact hKn.1 w hw args
          · exact hKn.2.2.2.2.2.1 w hw args)
        (fun y hy => by cases hy) hfc hkC (a := hZ M) (by rw [hT2]; exact e1) (by show T.heap.size ≤ hZ M; rw [hRep.1]; exact Nat.le_refl _) (g := F0 m (pc + 3 + 1) jls (.ref (hZ M) :: .ref (hZ M) :: st)) rfl (hL.1.trans hml.symm) rfl rfl rfl (by rw [hb]; exact h3) (by rw [hb]; exact h4) (by rw [hext]; exact fun x hx => by cases hx) (by show 2 + 3 < R.frames; omega) (by
          show 2 * 0 + (1 + (st.map fun v => v.category).sum) + (13 * (2 + 1) + 41) ≤ R.locals
          omega) hlk
      exact ⟨U, b1, b2, b3, b4, b5, ce, b6, Option.some.inj (b7.cls.symm.trans hfc), b7.vm⟩
    obtain ⟨U, b1, b2, b3, b4, b5, ce, b6, b7, b8⟩ := K T rfl Y
    have hsame := rebase_same b5
    have hszU : U.heap.size = hZ M + 1 := by
      have q1 : (hZ M) < U.heap.size := (Array.getElem?_eq_some_iff.mp b6).1
      have q2 : U.heap.size ≤ T.heap.size + 1 := b5.2.2.1
      rw [hRep.1] at q2
      omega
    have hold : ∀ b : Nat, b < hZ M → U.heap[b]? = T.heap[b]? := by
      intro b hb'
      have hlt : b < T.heap.size := by rw [hRep.1]; exact hb'
      have hcb : T.heap[b]? = some T.heap[b] := Array.getElem?_eq_getElem hlt
      obtain ⟨c', q1, q2, q3, q4⟩ := b5.2.2.2.2.2 b T.heap[b] hcb
      have q1' : U.heap[b]? = some c' := q1
      rw [q1', hcb, Cell.same q2 q3 (fun i => q4 i (fun hm => by cases hm))]
    refine ⟨U, b1, .threw (hZ M), nO M t 6, locs ++ [], cells + 1, slots + 6, b2, b3, hq, ?_, State.WarmedH.trans X.warmed b4, X.same.trans (hsame.setVm s.vm), by simpa using hlo, ⟨by rw [nO_Z]; omega, by rw [nO_Z]; omega⟩, ⟨by rw [nO_U]; omega, by rw [nO_U]; omega⟩⟩
    exact hRep.grow hszU hold rfl (fun b hb => same_nO hb) (Or.inr (Or.inr ⟨by rw [nO_T]; exact ht.1, by rw [nO_T]; exact ht.2, ce, b6, by rw [nO_T]; exact b7, b8⟩))
  · rw [if_neg h]; exact V_none
end R9
