/-! ===== the pure heap: int fields (field, address), int arrays (address, place), references (field, address), arrays of references, longs, tags, lengths, size, slots used ===== -/
abbrev PH : Type := (Nat → Nat → Int32) × (Nat → Nat → Int32) × (Nat → Nat → Option Nat) × (Nat → Nat → Option Nat) × (Nat → Nat → Int64) × (Nat → Nat) × (Nat → Nat) × Nat × Nat
def hI (M : PH) (f a : Nat) : Int32 := M.1 f a
def hA (M : PH) (a i : Nat) : Int32 := M.2.1 a i
def hR (M : PH) (f a : Nat) : Option Nat := M.2.2.1 f a
def hX (M : PH) (a i : Nat) : Option Nat := M.2.2.2.1 a i
def hL (M : PH) (a i : Nat) : Int64 := M.2.2.2.2.1 a i
def hT (M : PH) (a : Nat) : Nat := M.2.2.2.2.2.1 a
def hN (M : PH) (a : Nat) : Nat := M.2.2.2.2.2.2.1 a
def hZ (M : PH) : Nat := M.2.2.2.2.2.2.2.1
def hU (M : PH) : Nat := M.2.2.2.2.2.2.2.2
def up2 {α : Type} (f : Nat → Nat → α) (a b : Nat) (v : α) : Nat → Nat → α := fun x y => if x = a ∧ y = b then v else f x y
def sI (M : PH) (f a : Nat) (v : Int32) : PH := (up2 M.1 f a v, M.2)
def sA (M : PH) (a i : Nat) (v : Int32) : PH := (M.1, up2 M.2.1 a i v, M.2.2)
def sR (M : PH) (f a : Nat) (r : Option Nat) : PH := (M.1, M.2.1, up2 M.2.2.1 f a r, M.2.2.2)
def sX (M : PH) (a i : Nat) (r : Option Nat) : PH := (M.1, M.2.1, M.2.2.1, up2 M.2.2.2.1 a i r, M.2.2.2.2)
def sL (M : PH) (a i : Nat) (v : Int64) : PH := (M.1, M.2.1, M.2.2.1, M.2.2.2.1, up2 M.2.2.2.2.1 a i v, M.2.2.2.2.2)
/-- a new object of class t, of n slots -/
def nO (M : PH) (t n : Nat) : PH := (fun f a => if a = hZ M then 0 else hI M f a, hA M, fun f a => if a = hZ M then none else hR M f a, hX M, hL M, fun a => if a = hZ M then t else hT M a, hN M, hZ M + 1, hU M + n)
/-- a new array of kind t, of n places -/
def nA (M : PH) (t n : Nat) : PH := (hI M, fun a i => if a = hZ M then 0 else hA M a i, hR M, fun a i => if a = hZ M then none else hX M a i, fun a i => if a = hZ M then 0 else hL M a i, fun a => if a = hZ M then t else hT M a, fun a => if a = hZ M then n else hN M a, hZ M + 1, hU M + n)
/-- n ints of the array a from sp on come into the array b from dp on -/
def cA (M : PH) (a sp b dp n : Nat) : PH := (M.1, fun y i => if y = b then va_cpy (M.2.1 a) (M.2.1 b) sp dp n i else M.2.1 y i, M.2.2)
/-! ===== what is fixed: the law's entry: heap's size, classes, array classes (and the two exceptions'), the room's ends, the heap, the script ===== -/
abbrev GT : Type := Nat × va_G × (Nat → ClassId) × Nat × Nat × Heap × Nat × Nat × (Nat → Int32)
abbrev gB (G : GT) : Nat := G.1
abbrev gD (G : GT) : va_G := G.2.1
abbrev gA (G : GT) : Nat → ClassId := G.2.2.1
abbrev gC (G : GT) : Nat := G.2.2.2.1
abbrev gS (G : GT) : Nat := G.2.2.2.2.1
abbrev gH (G : GT) : Heap := G.2.2.2.2.2.1
abbrev gb (G : GT) : Nat := G.2.2.2.2.2.2.1
abbrev gL (G : GT) : Nat := G.2.2.2.2.2.2.2.1
abbrev gx (G : GT) : Nat → Int32 := G.2.2.2.2.2.2.2.2
def aty : Nat → FieldType := fun t => match t with
  | 16 => .int
  | 17 => .boolean
  | 18 => .byte
  | 19 => .long
  | 20 => .object R_Panel
  | 21 => .object R_Level
  | 22 => .object R_Scroll
  | _ => .object R_Rect
def xcl : Nat → String := fun t => match t with
  | 32 => "java/lang/IllegalArgumentException"
  | _ => "java/lang/IllegalStateException"
def wok : Cond → Bool
  | .arrayClass _ => true
  | .fieldLinkNest .. => true
  | .methodLinkNest .. => true
  | .arrayOver (.object _) => true
  | c => c.onTables && (c.keeps || c.faceAtom)
theorem wok_warm {s U : State} (hW : s.WarmedH U.vm) {c : Cond} (h : wok c = true) {a a' : Array Value} (hb : c.before a s = true) : c.before a' U = true := by
  unfold wok at h
  split at h
  · exact word_at hW (Or.inr ⟨_, rfl⟩) hb
  · exact va_Nw.use rfl (va_Nw.warmF hW (va_Nw.of rfl hb))
  · exact va_Nw.use rfl (va_Nw.warmM hW (va_Nw.of rfl hb))
  · rename_i C
    have h1 : va_AO C s := hb
    exact va_AO.moved hW.alike h1
  · simp only [Bool.and_eq_true, Bool.or_eq_true] at h
    have h1 : c.before a (s.setVm U.vm) = true := Cond.before_shiftedFace (State.Shifted.of_warmed hW) c (by unfold Cond.keepsFace; split <;> simp_all [Cond.onTables]) hb
    rw [Cond.onTables_vm (A' := a') (U' := U) U.vm c h.1] at h1
    exact h1
theorem laid_heap {V U : State} {o n d : String} {x y : Array Value} (hvm : V.vm = U.vm) (hh : ∀ (a : Nat) (cell : Cell), V.heap[a]? = some cell → cell.vm.isStatics = true → U.heap[a]? = some cell) (h : (Cond.laysStatic o n d).before x V = true) : (Cond.laysStatic o n d).before y U = true := by
  have e : V.fieldFound? o n d = U.fieldFound? o n d := by simp only [State.fieldFound?, hvm]
  simp only [Cond.before, Cond.holds, Cond.value, hvm, e] at h ⊢
  cases h1 : U.vm.findClass o with
  | none => simp [h1] at h
  | some c =>
    cases h2 : U.fieldFound? o n d with
    | none => simp [h1, h2] at h
    | some f =>
      obtain ⟨c', k, i, f⟩ := f
      simp only [h1, h2] at h ⊢
      cases h3 : k.statics with
      | none => simp [h3] at h
      | some a =>
        cases h4 : V.heap[a]? with
        | none => simp [h3, h4] at h
        | some cell =>
          have hs : cell.vm.isStatics = true := by
            simp [h3, h4] at h
            exact h.1.1.1.2
          rw [h3] at h
          simp only [Option.bind_some, h4] at h
          simp only [Option.bind_some, hh a cell h4 hs]
          exact h
theorem isref_heap {V U : State} {o n d : String} {x y : Array Value} (hvm : V.vm = U.vm) (hh : ∀ (a : Nat) (cell : Cell), V.heap[a]? = some cell → cell.vm.isStatics = true → U.heap[a]? = some cell) (h : (Cond.isRef (.static o n d)).before x V = true) : (Cond.isRef (.static o n d)).before y U = true := by
  have e : V.fieldNamed? o n d true = U.fieldNamed? o n d true := by simp only [State.fieldNamed?, State.fieldFound?, hvm]
  simp only [Cond.before, Cond.holds, Cond.value, Term.eval, e] at h ⊢
  cases h2 : U.fieldNamed? o n d true with
  | none => simp [h2] at h
  | some f =>
    obtain ⟨c', k, i⟩ := f
    simp only [h2] at h ⊢
    cases h3 : k.statics with
    | none => simp [h3] at h
    | some a =>
      cases h4 : V.heap[a]? with
      | none => simp [h3, h4] at h
      | some cell =>
        have hs : cell.vm.isStatics = true := by
          cases hq : cell.vm.isStatics with
          | true => rfl
          | false => simp [h3, h4, hq] at h
        have h5 := hh a cell h4 hs
        simp [h3, h4] at h
        simp [h3, h5]
        exact h
def wst : Cond → Bool
  | .laysStatic .. => true
  | _ => false
theorem lw_wok : lw_tbl.all (fun w => wok w || wst w) = true := by decide +kernel
/-- the statics of Throwable, the two exceptions apart: what the Statement gives beside the tables -/
def lw_nar : List Cond := [.isRef (.static "java/lang/Throwable" "UNASSIGNED_STACK" "[Ljava/lang/StackTraceElement;"), .isRef (.static "java/lang/Throwable" "SUPPRESSED_SENTINEL" "Ljava/util/List;")]
def Kn (G : GT) (s : State) : Prop :=
  (∀ w ∈ lw_tbl, ∀ a : Array Value, w.before a s = true) ∧
  (∀ c, c < 12 → u_Kn s (cR c) (cF c) (cN c) ((gD G).1 c) ((gD G).2 c)) ∧
  (∀ t, 16 ≤ t → t < 24 → ArrOfT s (gA G t) (aty t) ∧ va_RA s (gA G t) (aty t)) ∧
  (∀ t, 32 ≤ t → t < 34 → s.vm.findClass (xcl t) = some (gA G t)) ∧
  (va_Nc (xcl 32) (xcl 33) s ∧ va_Nc (xcl 33) (xcl 32) s) ∧
  (∀ w ∈ lw_nar, ∀ a : Array Value, w.before a s = true) ∧
  ((∀ (a : Nat) (cell : Cell), gB G ≤ a → s.heap[a]? = some cell → cell.vm.isStatics = false) ∧ ∀ a : Nat, a < gB G → s.heap[a]? = (gH G)[a]?) ∧
  (∃ scr : Cell, (gH G)[gb G]? = some scr ∧ gb G < gB G ∧ s.isArrayOf scr .int ∧ scr.vm ≠ .unknown ∧ scr.slots.size = gL G ∧ ∀ j : Nat, j < gL G → scr.slots[j]? = some (.int (gx G j)))
theorem Kn.moved {G : GT} {s U : State} (h : Kn G s) (hW : s.WarmedH U.vm) (hh : ∀ a : Nat, a < gB G → U.heap[a]? = (gH G)[a]?) (hst : ∀ (a : Nat) (cell : Cell), gB G ≤ a → U.heap[a]? = some cell → cell.vm.isStatics = false) : Kn G U := by
  obtain ⟨h1, h2, h3, h4, h5, h6, h7, h8⟩ := h
  have hk : ∀ (a : Nat) (cell : Cell), s.heap[a]? = some cell → cell.vm.isStatics = true → U.heap[a]? = some cell := by
    intro a cell ha hs
    rcases Nat.lt_or_ge a (gB G) with q | q
    · rw [hh a q, ← h7.2 a q]; exact ha
    · have := h7.1 a cell q ha
      rw [hs] at this
      cases this
  refine ⟨fun w hw a => ?_, fun c hc => u_Kn_moved hW.alike (h2 c hc), fun t ht ht' => ⟨arrOfT_moved hW.alike (h3 t ht ht').1, (h3 t ht ht').2.moved hW.alike⟩, fun t ht ht' => by rw [hW.alike.findClass]; exact h4 t ht ht', ⟨h5.1.moved hW.alike, h5.2.moved hW.alike⟩, fun w hw a => ?_, ⟨hst, hh⟩, ?_⟩
  · have hq := List.all_eq_true.mp lw_wok w hw
    simp only [Bool.or_eq_true] at hq
    rcases hq with hq | hq
    · exact wok_warm hW hq (h1 w hw #[])
    · unfold wst at hq
      split at hq
      · rename_i o n d
        have hb := h1 _ hw a
        have hb2 : (Cond.laysStatic o n d).before a (s.setVm U.vm) = true := by
          simp only [Cond.before, Cond.holds] at hb ⊢
          rw [Cond.value_setVm hW.alike _ _ rfl]
          exact hb
        exact laid_heap (V := s.setVm U.vm) rfl hk hb2
      · cases hq
  · have hb := h6 w hw a
    have hb2 : w.before a (s.setVm U.vm) = true := by
      simp only [Cond.before, Cond.holds] at hb ⊢
      rw [Cond.value_setVm hW.alike]
      · exact hb
      · simp only [lw_nar, List.mem_cons, List.not_mem_nil, or_false] at hw
        rcases hw with rfl | rfl <;> rfl
    simp only [lw_nar, List.mem_cons, List.not_mem_nil, or_false] at hw
    rcases hw with rfl | rfl
    · exact isref_heap (V := s.setVm U.vm) rfl hk hb2
    · exact isref_heap (V := s.setVm U.vm) rfl hk hb2
  · obtain ⟨scr, q1, q2, q3, q4⟩ := h8
    exact ⟨scr, q1, q2, State.isArrayOf_alike hW.alike q3, q4⟩
def fv (M : PH) (c k a : Nat) : Value := match cT c k with
  | .int => .int (hI M (200 * c + k) a)
  | .boolean => .int (hI M (200 * c + k) a)
  | _ => va_rf (hR M (200 * c + k) a)
def av (M : PH) (t a j : Nat) : Value := if t < 19 then .int (hA M a j) else if t = 19 then .long (hL M a j) else va_rf (hX M a j)
def Pic (G : GT) (M : PH) (a : Nat) (H : Heap) : Prop :=
  (hT M a < 12 ∧ t_OB a ((gD G).1 (hT M a)) (cN (hT M a)) ((gD G).2 (hT M a)) H (fun k => fv M (hT M a) k a)) ∨
  (16 ≤ hT M a ∧ hT M a < 24 ∧ H[a]? = some (arrV (gA G (hT M a)) (hN M a) (fun j => av M (hT M a) a j))) ∨
  (32 ≤ hT M a ∧ hT M a < 34 ∧ ∃ cell : Cell, H[a]? = some cell ∧ cell.cls = gA G (hT M a) ∧ cell.vm = .none)
def Rep (G : GT) (M : PH) (H : Heap) : Prop :=
  H.size = hZ M ∧ gB G ≤ hZ M ∧ (∀ a : Nat, a < gB G → H[a]? = (gH G)[a]?) ∧ (∀ a : Nat, gB G ≤ a → a < hZ M → Pic G M a H) ∧ ∀ a : Nat, (a < gB G ∨ hZ M ≤ a) → hT M a = 99
/-- a method: its name, code, locals, what it returns, its handlers -/
abbrev MI : Type := MethodName × ByteArray × Nat × Option FieldType × List (Nat × Nat × Nat × Nat)
def Act (G : GT) (mi : MI) (d lo : Nat) (p : Program) (l : Launch) (R : Room) (s : State) (m : MethodId) (meth : Method) (c : Code) (c0 u0 : Nat) : Prop :=
  p.tables.exec = Jvm.exec ∧ c.code = mi.2.1 ∧ meth.sig.returnType = mi.2.2.2.1 ∧ c.maxLocals = mi.2.2.1 ∧ meth.locks = false ∧ s.vm.findClass mi.1.cls = some m.cls ∧ meth.name = mi.1.name ∧
  c.exceptionTable.toList.map (fun h => (h.startPc, h.endPc, h.handlerPc, h.catchType)) = mi.2.2.2.2 ∧ l.flags = flags0 ∧
  Kn G s ∧ d ≤ R.frames ∧ lo ≤ R.locals ∧ c0 + R.cells = gC G ∧ u0 + R.slots = gS G
/-- the locals: what is known of them -/
def LV (jls : Array Slot) (n : Nat) (ls : List (Option Value)) : Prop := jls.size = n ∧ ls.length = n ∧ lv_wf jls ∧ ∀ (i : Nat) (v : Value), ls[i]? = some (some v) → jls[i]? = some (.val v) ∧ v.category = 1
def EndQ (G : GT) (s : State) (below : List Frame) (c0 u0 : Nat) (Q : Outcome → PH → Prop) : State → Prop := fun t =>
  ∃ (o : Outcome) (M' : PH) (L : List Loc) (k n : Nat), t.status = .running ∧ Ended t below o ∧ Q o M' ∧ Rep G M' t.heap ∧ s.WarmedH t.vm ∧ s.sameButNew ({ t with vm := s.vm } : State) L k n ∧ (∀ x ∈ L, gB G ≤ x.base) ∧ (c0 + k = hZ M' ∧ hZ M' ≤ gC G) ∧ (u0 + n = hU M' ∧ hU M' ≤ gS G)
/-- the machine at pc of the method, with the locals, the stack and the heap: the method ends in Q -/
def VV (G : GT) (mi : MI) (d lo pc : Nat) (ls : List (Option Value)) (st : List Value) (M : PH) (Q : Outcome → PH → Prop) : Prop :=
  ∀ (p : Program) (l : Launch) (e : Env) (R : Room) (s : State) (m : MethodId) (args : Array Value) (below : List Frame) (meth : Method) (c : Code) (c0 u0 : Nat), Act G mi d lo p l R s m meth c c0 u0 →
  ∀ (H : Heap) (locs : List Loc) (cells slots : Nat) (jls : Array Slot), Rep G M H → (∀ x ∈ locs, gB G ≤ x.base) → (c0 + cells = hZ M ∧ hZ M ≤ gC G) → (u0 + slots = hU M ∧ hU M ≤ gS G) → LV jls mi.2.2.1 ls →
  W p l e R s m args below meth c H locs cells slots (EndQ G s below c0 u0 Q) (F0 m pc jls st)
def VX (G : GT) (mi : MI) (d lo pc : Nat) (ls : List (Option Value)) (st : List Value) (M : PH) {α : Type} (q : α → Outcome → PH → Prop) (x : Option α) : Prop := ∀ r, x = some r → VV G mi d lo pc ls st M (q r)
def okb (b : ByteArray) : Nat → List (Instr × Nat) → Bool
  | _, [] => true
  | pc, i :: r => decide (decode b pc = .ok i) && okb b (pc + i.2) r
def VB (G : GT) (mi : MI) (d lo pc : Nat) (ops : List (Instr × Nat)) (ls : List (Option Value)) (st : List Value) (M : PH) {α : Type} (q : α → Outcome → PH → Prop) (x : Option α) : Prop := okb mi.2.1 pc ops = true → VX G mi d lo pc ls st M q x
theorem LV.store {jls : Array Slot} {n : Nat} {ls : List (Option Value)} (h : LV jls n ls) {i : Nat} (hi : i < n) {v : Value} (hv : v.category = 1) : lv_has jls n ((List.range n).filterMap fun j => (ls[j]?.getD none).map fun w => (j, w)) ∧ ∀ jls' : Array Slot, lv_has jls' n ((i, v) :: ((List.range n).filterMap fun j => (ls[j]?.getD none).map fun w => (j, w)).filter (fun q => !(q.1 == i) && !(q.1 + 1 == i && q.2.category == 2))) → LV jls' n (ls.set i (some v)) := by
  obtain ⟨h1, h2, h3, h4⟩ := h
  have key : ∀ (j : Nat) (w : Value), (j, w) ∈ ((List.range n).filterMap fun j => (ls[j]?.getD none).map fun w => (j, w)) ↔ ls[j]? = some (some w) := by
    intro j w
    simp only [List.mem_filterMap, List.mem_range, Option.map_eq_some_iff]
    constructor
    · rintro ⟨k, hk, w', hw, he⟩
      obtain ⟨rfl, rfl⟩ := Prod.mk.inj he
      have : k < ls.length := by omega
      rw [List.getElem?_eq_getElem this] at hw ⊢
      simpa using hw
    · intro hj
      have : j < ls.length := (List.getElem?_eq_some_iff.mp hj).1
      exact ⟨j, by omega, w, by rw [hj]; rfl, rfl⟩
  refine ⟨⟨h1, h3, fun q hq => (h4 q.1 q.2 ((key q.1 q.2).mp hq)).1⟩, fun jls' h' => ?_⟩
  obtain ⟨g1, g2, g3⟩ := h'
  refine ⟨g1, by simp [h2], g2, fun j w hj => ?_⟩
  by_cases hji : j = i
  · subst hji
    rw [List.getElem?_set_self (by omega)] at hj
    cases hj
    exact ⟨g3 (j, v) List.mem_cons_self, hv⟩
  · rw [List.getElem?_set_ne (fun q => hji q.symm)] at hj
    have hc := (h4 j w hj).2
    refine ⟨g3 (j, w) (List.mem_cons_of_mem _ (List.mem_filter.mpr ⟨(key j w).mpr hj, ?_⟩)), hc⟩
    simp [hji, hc]
section R1
variable {G : GT} {mi : MI} {d lo pc : Nat} {rest : List (Instr × Nat)} {ls : List (Option Value)} {st : List Value} {M : PH} {α : Type} {q : α → Outcome → PH → Prop} {x : Option α}
theorem okb_cons {b : ByteArray} {pc : Nat} {i : Instr × Nat} {r : List (Instr × Nat)} (h : okb b pc (i :: r) = true) : decode b pc = .ok i ∧ okb b (pc + i.2) r = true := by
  simp only [okb, Bool.and_eq_true, decide_eq_true_eq] at h
  exact h
theorem V_open {ops : List (Instr × Nat)} (h : okb mi.2.1 pc ops = true) (k : VB G mi d lo pc ops ls st M q x) : VX G mi d lo pc ls st M q x := k h
theorem V_close (k : VX G mi d lo pc ls st M q x) : VB G mi d lo pc [] ls st M q x := fun _ => k
theorem V_none {ops : List (Instr × Nat)} : VB G mi d lo pc ops ls st M q (none : Option α) := fun _ r h => by cases h
theorem X_none : VX G mi d lo pc ls st M q (none : Option α) := fun r h => by cases h
def subL : List (Option Value) → List (Option Value) → Prop
  | [], [] => True
  | none :: a, _ :: b => subL a b
  | some v :: a, w :: b => w = some v ∧ subL a b
  | _, _ => False
theorem subL_get : ∀ {a b : List (Option Value)}, subL a b → a.length = b.length ∧ ∀ (i : Nat) (v : Value), a[i]? = some (some v) → b[i]? = some (some v)
  | [], [], _ => ⟨rfl, fun i v h => h⟩
  | none :: a, w :: b, h => by
    obtain ⟨h1, h2⟩ := subL_get (a := a) (b := b) h
    refine ⟨by simp [h1], fun i v hi => ?_⟩
    cases i with
    | zero => simp at hi
    | succ i => simpa using h2 i v (by simpa using hi)
  | some v :: a, w :: b, h => by
    obtain ⟨h0, h⟩ := h
    obtain ⟨h1, h2⟩ := subL_get (a := a) (b := b) h
    refine ⟨by simp [h1], fun i u hi => ?_⟩
    cases i with
    | zero => simp at hi; subst hi; simp [h0]
    | succ i => simpa using h2 i u (by simpa using hi)
  | [], _ :: _, h => by cases h
  | none :: _, [], h => by cases h
  | some _ :: _, [], h => by cases h
/-- fewer locals are known -/
theorem V_weak {ls' : List (Option Value)} (h : subL ls' ls) (k : VX G mi d lo pc ls' st M q x) : VX G mi d lo pc ls st M q x := by
  intro r hr p l e R s m args below meth c c0 u0 hA H locs cells slots jls hRep hlo hc hu hL
  obtain ⟨g1, g2⟩ := subL_get h
  exact k r hr p l e R s m args below meth c c0 u0 hA H locs cells slots jls hRep hlo hc hu ⟨hL.1, g1.trans hL.2.1, hL.2.2.1, fun i v hi => hL.2.2.2 i v (g2 i v hi)⟩
theorem B_pure {i : Instr} {n : Nat} {st' : List Value} (step : ∀ (p : Program) (l : Launch) (e : Env) (R : Room) (s : State) (m : MethodId) (args : Array Value) (below : List Frame) (meth : Method) (c : Code) (H : Heap) (locs : List Loc) (cells slots : Nat) (jls : Array Slot) (Q : State → Prop), p.tables.exec = Jvm.exec → c.code = mi.2.1 → LV jls mi.2.2.1 ls → decode mi.2.1 pc = .ok (i, n) → W p l e R s m args below meth c H locs cells slots Q (F0 m (pc + n) jls st') → W p l e R s m args below meth c H locs cells slots Q (F0 m pc jls st))
    (k : VB G mi d lo (pc + n) rest ls st' M q x) : VB G mi d lo pc ((i, n) :: rest) ls st M q x := by
  intro hok r hr p l e R s m args below meth c c0 u0 hA H locs cells slots jls hRep hlo hc hu hL
  obtain ⟨h1, h2⟩ := okb_cons hok
  exact step p l e R s m args below meth c H locs cells slots jls _ hA.1 hA.2.1 hL h1 (k h2 r hr p l e R s m args below meth c c0 u0 hA H locs cells slots jls hRep hlo hc hu hL)
theorem B_iconst {z : Int} (v : Int32) (hv : Int32.ofInt z = v) (k : VB G mi d lo (pc + 1) rest ls (.int v :: st) M q x) : VB G mi d lo pc ((.iconst z, 1) :: rest) ls st M q x :=
  B_pure (fun _ _ _ _ _ _ _ _ _ _ _ _ _ _ _ _ hx hb hL hd kk => lv_iconst hx hb hd hv kk) k
theorem B_bipush {z : Int} (v : Int32) (hv : (Int8.ofInt z).toInt32 = v) (k : VB G mi d lo (pc + 2) rest ls (.int v :: st) M q x) : VB G mi d lo pc ((.bipush z, 2) :: rest) ls st M q x :=
  B_pure (fun _ _ _ _ _ _ _ _ _ _ _ _ _ _ _ _ hx hb hL hd kk => lv_bipush hx hb hd hv kk) k
theorem B_sipush {z : Int} (v : Int32) (hv : (Int16.ofInt z).toInt32 = v) (k : VB G mi d lo (pc + 3) rest ls (.int v :: st) M q x) : VB G mi d lo pc ((.sipush z, 3) :: rest) ls st M q x :=
  B_pure (fun _ _ _ _ _ _ _ _ _ _ _ _ _ _ _ _ hx hb hL hd kk => lv_sipush hx hb hd hv kk) k
theorem B_lconst {z : Fin 2} (v : Int64) (hv : Int64.ofNat (z : Nat) = v) (k : VB G mi d lo (pc + 1) rest ls (.long v :: st) M q x) : VB G mi d lo pc ((.lconst z, 1) :: rest) ls st M q x :=
  B_pure (fun _ _ _ _ _ _ _ _ _ _ _ _ _ _ _ _ hx hb hL hd kk => lv_lconst hx hb hd hv kk) k
theorem B_iload {i : Nat} {v : Int32} (hv : ls[i]? = some (some (.int v))) (k : VB G mi d lo (pc + 2) rest ls (.int v :: st) M q x) : VB G mi d lo pc ((.iload i, 2) :: rest) ls st M q x :=
  B_pure (fun _ _ _ _ _ _ _ _ _ _ _ _ _ _ _ _ hx hb hL hd kk => lv_iload hx hb hd (hL.2.2.2 _ _ hv).1 kk) k
theorem B_iload_n {i : Fin 4} {v : Int32} (hv : ls[(i : Nat)]? = some (some (.int v))) (k : VB G mi d lo (pc + 1) rest ls (.int v :: st) M q x) : VB G mi d lo pc ((.iload_n i, 1) :: rest) ls st M q x :=
  B_pure (fun _ _ _ _ _ _ _ _ _ _ _ _ _ _ _ _ hx hb hL hd kk => lv_iload_n hx hb hd rfl (hL.2.2.2 _ _ hv).1 kk) k
theorem B_aload {i : Nat} {v : Nat} (hv : ls[i]? = some (some (.ref v))) (k : VB G mi d lo (pc + 2) rest ls (.ref v :: st) M q x) : VB G mi d lo pc ((.aload i, 2) :: rest) ls st M q x :=
  B_pure (fun _ _ _ _ _ _ _ _ _ _ _ _ _ _ _ _ hx hb hL hd kk => lv_aload hx hb hd (hL.2.2.2 _ _ hv).1 kk) k
theorem B_aload_n {i : Fin 4} {v : Nat} (hv : ls[(i : Nat)]? = some (some (.ref v))) (k : VB G mi d lo (pc + 1) rest ls (.ref v :: st) M q x) : VB G mi d lo pc ((.aload_n i, 1) :: rest) ls st M q x :=
  B_pure (fun _ _ _ _ _ _ _ _ _ _ _ _ _ _ _ _ hx hb hL hd kk => lv_aload_n hx hb hd rfl (hL.2.2.2 _ _ hv).1 kk) k
theorem B_iadd {v w : Int32} (k : VB G mi d lo (pc + 1) rest ls (.int (v + w) :: st) M q x) : VB G mi d lo pc ((.iadd, 1) :: rest) ls (.int w :: .int v :: st) M q x :=
  B_pure (fun _ _ _ _ _ _ _ _ _ _ _ _ _ _ _ _ hx hb hL hd kk => lv_iadd hx hb hd kk) k
theorem B_isub {v w : Int32} (k : VB G mi d lo (pc + 1) rest ls (.int (v - w) :: st) M q x) : VB G mi d lo pc ((.isub, 1) :: rest) ls (.int w :: .int v :: st) M q x :=
  B_pure (fun _ _ _ _ _ _ _ _ _ _ _ _ _ _ _ _ hx hb hL hd kk => lv_isub hx hb hd kk) k
theorem B_imul {v w : Int32} (k : VB G mi d lo (pc + 1) rest ls (.int (v * w) :: st) M q x) : VB G mi d lo pc ((.imul, 1) :: rest) ls (.int w :: .int v :: st) M q x :=
  B_pure (fun _ _ _ _ _ _ _ _ _ _ _ _ _ _ _ _ hx hb hL hd kk => lv_imul hx hb hd kk) k
theorem B_iand {v w : Int32} (k : VB G mi d lo (pc + 1) rest ls (.int (v &&& w) :: st) M q x) : VB G mi d lo pc ((.iand, 1) :: rest) ls (.int w :: .int v :: st) M q x :=
  B_pure (fun _ _ _ _ _ _ _ _ _ _ _ _ _ _ _ _ hx hb hL hd kk => lv_iand hx hb hd kk) k
theorem B_ixor {v w : Int32} (k : VB G mi d lo (pc + 1) rest ls (.int (v ^^^ w) :: st) M q x) : VB G mi d lo pc ((.ixor, 1) :: rest) ls (.int w :: .int v :: st) M q x :=
  B_pure (fun _ _ _ _ _ _ _ _ _ _ _ _ _ _ _ _ hx hb hL hd kk => lv_ixor hx hb hd kk) k
theorem B_iushr {v w : Int32} (k : VB G mi d lo (pc + 1) rest ls (.int (v.toUInt32 >>> (w.toUInt32 &&& Int32.toUInt32 31)).toInt32 :: st) M q x) : VB G mi d lo pc ((.iushr, 1) :: rest) ls (.int w :: .int v :: st) M q x :=
  B_pure (fun _ _ _ _ _ _ _ _ _ _ _ _ _ _ _ _ hx hb hL hd kk => lv_iushr hx hb hd rfl kk) k
theorem B_i2b {v : Int32} (k : VB G mi d lo (pc + 1) rest ls (.int v.toInt8.toInt32 :: st) M q x) : VB G mi d lo pc ((.i2b, 1) :: rest) ls (.int v :: st) M q x :=
  B_pure (fun _ _ _ _ _ _ _ _ _ _ _ _ _ _ _ _ hx hb hL hd kk => lv_i2b hx hb hd rfl kk) k
theorem B_i2l {v : Int32} (k : VB G mi d lo (pc + 1) rest ls (.long v.toInt64 :: st) M q x) : VB G mi d lo pc ((.i2l, 1) :: rest) ls (.int v :: st) M q x :=
  B_pure (fun _ _ _ _ _ _ _ _ _ _ _ _ _ _ _ _ hx hb hL hd kk => lv_i2l hx hb hd rfl kk) k
theorem B_lcmp {v w : Int64} (k : VB G mi d lo (pc + 1) rest ls (.int (lg_cmp v w) :: st) M q x) : VB G mi d lo pc ((.lcmp, 1) :: rest) ls (.long w :: .long v :: st) M q x :=
  B_pure (fun _ _ _ _ _ _ _ _ _ _ _ _ _ _ _ _ hx hb hL hd kk => W.lcmp hx hb hd kk) k
theorem B_dup {v : Value} (hv : v.category = 1) (k : VB G mi d lo (pc + 1) rest ls (v :: v :: st) M q x) : VB G mi d lo pc ((.dup, 1) :: rest) ls (v :: st) M q x :=
  B_pure (fun _ _ _ _ _ _ _ _ _ _ _ _ _ _ _ _ hx hb hL hd kk => lv_dup hx hb hd hv kk) k
theorem B_dup2 {v w : Value} (hv : v.category = 1) (hw : w.category = 1) (k : VB G mi d lo (pc + 1) rest ls (v :: w :: v :: w :: st) M q x) : VB G mi d lo pc ((.dup2, 1) :: rest) ls (v :: w :: st) M q x :=
  B_pure (fun _ _ _ _ _ _ _ _ _ _ _ _ _ _ _ _ hx hb hL hd kk => lv_dup2_11 hx hb hd hv hw kk) k
theorem B_pop {v : Value} (hv : v.category = 1) (k : VB G mi d lo (pc + 1) rest ls st M q x) : VB G mi d lo pc ((.pop, 1) :: rest) ls (v :: st) M q x :=
  B_pure (fun _ _ _ _ _ _ _ _ _ _ _ _ _ _ _ _ hx hb hL hd kk => lv_pop hx hb hd hv kk) k
theorem B_idiv {v w : Int32} (k : VB G mi d lo (pc + 1) rest ls (.int (v / w) :: st) M q x) : VB G mi d lo pc ((.idiv, 1) :: rest) ls (.int w :: .int v :: st) M q (if w = 0 then none else x) := by
  by_cases h : w = 0
  · rw [if_pos h]; exact V_none
  · rw [if_neg h]
    exact B_pure (fun _ _ _ _ _ _ _ _ _ _ _ _ _ _ _ _ hx hb hL hd kk => lv_idiv hx hb hd h kk) k
theorem B_irem {v w : Int32} (k : VB G mi d lo (pc + 1) rest ls (.int (v - v / w * w) :: st) M q x) : VB G mi d lo pc ((.irem, 1) :: rest) ls (.int w :: .int v :: st) M q (if w = 0 then none else x) := by
  by_cases h : w = 0
  · rw [if_pos h]; exact V_none
  · rw [if_neg h]
    exact B_pure (fun _ _ _ _ _ _ _ _ _ _ _ _ _ _ _ _ hx hb hL hd kk => lv_irem hx hb hd h kk) k
theorem B_store {i : Instr} {n j : Nat} {v : Value} (hc : v.category = 1) (hj : j < mi.2.2.1) (step : ∀ (p : Program) (l : Launch) (e : Env) (R : Room) (s : State) (m : MethodId) (args : Array Value) (below : List Frame) (meth : Method) (c : Code) (H : Heap) (locs : List Loc) (cells slots : Nat) (jls : Array Slot) (Q : State → Prop) (lv : List (Nat × Value)), p.tables.exec = Jvm.exec → c.code = mi.2.1 → lv_has jls mi.2.2.1 lv → decode mi.2.1 pc = .ok (i, n) → (∀ jls' : Array Slot, lv_has jls' mi.2.2.1 ((j, v) :: lv.filter (fun q => !(q.1 == j) && !(q.1 + 1 == j && q.2.category == 2))) → W p l e R s m args below meth c H locs cells slots Q (F0 m (pc + n) jls' st)) → W p l e R s m args below meth c H locs cells slots Q (F0 m pc jls (v :: st)))
    (k : VB G mi d lo (pc + n) rest (ls.set j (some v)) st M q x) : VB G mi d lo pc ((i, n) :: rest) ls (v :: st) M q x := by
  intro hok r hr p l e R s m args below meth c c0 u0 hA H locs cells slots jls hRep hlo hc' hu hL
  obtain ⟨h1, h2⟩ := okb_cons hok
  obtain ⟨g1, g2⟩ := hL.store hj hc
  exact step p l e R s m args below meth c H locs cells slots jls _ _ hA.1 hA.2.1 g1 h1 (fun jls' hh => k h2 r hr p l e R s m args below meth c c0 u0 hA H locs cells slots jls' hRep hlo hc' hu (g2 jls' hh))
theorem B_istore {i : Nat} {v : Int32} (hj : i < mi.2.2.1) (k : VB G mi d lo (pc + 2) rest (ls.set i (some (.int v))) st M q x) : VB G mi d lo pc ((.istore i, 2) :: rest) ls (.int v :: st) M q x :=
  B_store rfl hj (fun _ _ _ _ _ _ _ _ _ _ _ _ _ _ _ _ _ hx hb hl hd kk => lv_istore hx hb hd hl hj rfl kk) k
theorem B_istore_n {i : Fin 4} {v : Int32} (hj : (i : Nat) < mi.2.2.1) (k : VB G mi d lo (pc + 1) rest (ls.set (i : Nat) (some (.int v))) st M q x) : VB G mi d lo pc ((.istore_n i, 1) :: rest) ls (.int v :: st) M q x :=
  B_store rfl hj (fun _ _ _ _ _ _ _ _ _ _ _ _ _ _ _ _ _ hx hb hl hd kk => lv_istore_n hx hb hd rfl hl hj rfl kk) k
theorem B_astore {i : Nat} {v : Nat} (hj : i < mi.2.2.1) (k : VB G mi d lo (pc + 2) rest (ls.set i (some (.ref v))) st M q x) : VB G mi d lo pc ((.astore i, 2) :: rest) ls (.ref v :: st) M q x :=
  B_store rfl hj (fun _ _ _ _ _ _ _ _ _ _ _ _ _ _ _ _ _ hx hb hl hd kk => lv_astore hx hb hd hl hj rfl kk) k
theorem B_astore_n {i : Fin 4} {v : Nat} (hj : (i : Nat) < mi.2.2.1) (k : VB G mi d lo (pc + 1) rest (ls.set (i : Nat) (some (.ref v))) st M q x) : VB G mi d lo pc ((.astore_n i, 1) :: rest) ls (.ref v :: st) M q x :=
  B_store rfl hj (fun _ _ _ _ _ _ _ _ _ _ _ _ _ _ _ _ _ hx hb hl hd kk => lv_astore_n hx hb hd rfl hl hj rfl kk) k
theorem B_iinc {i : Nat} {z : Int} {v : Int32} (w : Int32) (hw : Int32.ofInt z = w) (hv : ls[i]? = some (some (.int v))) (hj : i < mi.2.2.1) (k : VB G mi d lo (pc + 3) rest (ls.set i (some (.int (v + w)))) st M q x) : VB G mi d lo pc ((.iinc i z, 3) :: rest) ls st M q x := by
  intro hok r hr p l e R s m args below meth c c0 u0 hA H locs cells slots jls hRep hlo hc' hu hL
  obtain ⟨h1, h2⟩ := okb_cons hok
  obtain ⟨g1, g2⟩ := hL.store (v := .int (v + w)) hj rfl
  have hmem : (i, Value.int v) ∈ ((List.range mi.2.2.1).filterMap fun j => (ls[j]?.getD none).map fun w => (j, w)) := by
    simp only [List.mem_filterMap, List.mem_range, Option.map_eq_some_iff]
    exact ⟨i, hj, .int v, by rw [hv]; rfl, rfl⟩
  obtain ⟨kk, hkk⟩ := List.getElem?_of_mem hmem
  exact lv_iinc (v := v + w) hA.1 hA.2.1 h1 g1 hkk (by rw [hw]) hj rfl (fun jls' hh => k h2 r hr p l e R s m args below meth c c0 u0 hA H locs cells slots jls' hRep hlo hc' hu (g2 jls' hh))
end R1
