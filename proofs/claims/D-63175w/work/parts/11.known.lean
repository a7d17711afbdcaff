section R12
variable {G : GT} {mi : MI} {d lo pc : Nat} {rest : List (Instr × Nat)} {ls : List (Option Value)} {st : List Value} {M : PH} {α : Type} {q : α → Outcome → PH → Prop} {x : Option α}
/-- the heap gets a name; an int gets a name -/
def hb {α : Type} (M : PH) (y : PH → Option α) : Option α := y M
def vb {α : Type} (v : Int32) (y : Int32 → Option α) : Option α := y v
theorem B_vb {ops : List (Instr × Nat)} {v : Int32} {y : Int32 → Option α} (k : ∀ w, VB G mi d lo pc ops ls (.int w :: st) M q (y w)) : VB G mi d lo pc ops ls (.int v :: st) M q (vb v y) := k v
theorem B_hb {ops : List (Instr × Nat)} {y : PH → Option α} (k : ∀ M1, M1 = M → VB G mi d lo pc ops ls st M1 q (y M1)) : VB G mi d lo pc ops ls st M q (hb M y) := k M rfl
theorem K_getI {idx a : Nat} (c k fid : Nat) (hl : LkF mi.1.cls idx c k) (hk : (decide (c < 12) && decide (k < cN c) && isI c k) = true) (hf : 200 * c + k = fid) (ht : hT M a = c) (kk : VB G mi d lo (pc + 3) rest ls (.int (hI M fid a) :: st) M q x) : VB G mi d lo pc ((.getfield idx, 3) :: rest) ls (.ref a :: st) M q x := by
  have := B_getI (idx := idx) (a := a) c k fid hl hk hf kk
  rw [if_pos ht] at this; exact this
theorem K_getR {idx a : Nat} (c k fid : Nat) {y : Nat → Option α} (hl : LkF mi.1.cls idx c k) (hk : (decide (c < 12) && decide (k < cN c) && isRf c k) = true) (hf : 200 * c + k = fid) (ht : hT M a = c) (kk : ∀ b : Nat, hR M fid a = some b → VB G mi d lo (pc + 3) rest ls (.ref b :: st) M q (y b)) : VB G mi d lo pc ((.getfield idx, 3) :: rest) ls (.ref a :: st) M q ((hR M fid a).bind y) := by
  cases hb : hR M fid a with
  | none => exact V_none
  | some b =>
    have := B_getR (idx := idx) (a := a) (G := G) (d := d) (lo := lo) (pc := pc) (rest := rest) (ls := ls) (st := st) (M := M) (q := q) c k fid (y := fun b' => if b' = b then y b else none) hl hk hf (fun b' => by
      by_cases e : b' = b
      · subst e; rw [if_pos rfl]; exact kk b' hb
      · rw [if_neg e]; exact V_none)
    rw [if_pos ht, hb] at this
    simpa using this
theorem K_getRk {idx a b : Nat} (c k fid : Nat) (hl : LkF mi.1.cls idx c k) (hk : (decide (c < 12) && decide (k < cN c) && isRf c k) = true) (hf : 200 * c + k = fid) (ht : hT M a = c) (hb : hR M fid a = some b) (kk : VB G mi d lo (pc + 3) rest ls (.ref b :: st) M q x) : VB G mi d lo pc ((.getfield idx, 3) :: rest) ls (.ref a :: st) M q x := by
  have := K_getR (idx := idx) (a := a) (G := G) (d := d) (lo := lo) (pc := pc) (rest := rest) (ls := ls) (st := st) (M := M) (q := q) c k fid (y := fun b' => if b' = b then x else none) hl hk hf ht (fun b' _ => by
      by_cases e : b' = b
      · subst e; rw [if_pos rfl]; exact kk
      · rw [if_neg e]; exact V_none)
  rw [hb] at this
  simpa using this
theorem K_putI {idx a : Nat} {v : Int32} {y : PH → Option α} (c k fid : Nat) (hl : LkF mi.1.cls idx c k) (hk : (decide (c < 12) && decide (k < cN c) && decide (cT c k = .int)) = true) (hfin : (cF c k).2.2.2 = false ∨ (mi.1.name = "<init>" ∧ mi.1.cls = cR c)) (hf : 200 * c + k = fid) (ht : hT M a = c) (kk : ∀ M1, M1 = sI M fid a v → VB G mi d lo (pc + 3) rest ls st M1 q (y M1)) : VB G mi d lo pc ((.putfield idx, 3) :: rest) ls (.int v :: .ref a :: st) M q (hb (sI M fid a v) y) := by
  have := B_putI (idx := idx) (a := a) (v := v) c k fid hl hk hfin hf (kk _ rfl)
  rw [if_pos ht] at this; exact this
theorem K_putZ {idx a : Nat} {v : Int32} {y : PH → Option α} (c k fid : Nat) (hl : LkF mi.1.cls idx c k) (hk : (decide (c < 12) && decide (k < cN c) && decide (cT c k = .boolean)) = true) (hfin : (cF c k).2.2.2 = false ∨ (mi.1.name = "<init>" ∧ mi.1.cls = cR c)) (hf : 200 * c + k = fid) (ht : hT M a = c) (hv : v = 0 ∨ v = 1) (kk : ∀ M1, M1 = sI M fid a v → VB G mi d lo (pc + 3) rest ls st M1 q (y M1)) : VB G mi d lo pc ((.putfield idx, 3) :: rest) ls (.int v :: .ref a :: st) M q (hb (sI M fid a v) y) := by
  have := B_putZ (idx := idx) (a := a) (v := v) c k fid hl hk hfin hf (kk _ rfl)
  rw [if_pos ⟨ht, hv⟩] at this; exact this
theorem B_chk {ops : List (Instr × Nat)} {P : Prop} [Decidable P] (k : P → VB G mi d lo pc ops ls st M q x) : VB G mi d lo pc ops ls st M q (if P then x else none) := by
  by_cases h : P
  · rw [if_pos h]; exact k h
  · rw [if_neg h]; exact V_none
theorem K_putR {idx a b : Nat} {y : PH → Option α} (c k fid : Nat) (hl : LkF mi.1.cls idx c k) (hk : (decide (c < 12) && decide (k < cN c) && isRf c k) = true) (hfin : (cF c k).2.2.2 = false ∨ (mi.1.name = "<init>" ∧ mi.1.cls = cR c)) (hf : 200 * c + k = fid) (ht : hT M a = c) (kk : ∀ M1, M1 = sR M fid a (some b) → VB G mi d lo (pc + 3) rest ls st M1 q (y M1)) : VB G mi d lo pc ((.putfield idx, 3) :: rest) ls (.ref b :: .ref a :: st) M q (hb (sR M fid a (some b)) y) := by
  have := B_putR (idx := idx) (a := a) (b := b) c k fid hl hk hfin hf (kk _ rfl)
  rw [if_pos ht] at this; exact this
theorem K_alen {a : Nat} (ht : hT M a = 16) (kk : VB G mi d lo (pc + 1) rest ls (.int (nI (hN M a)) :: st) M q x) : VB G mi d lo pc ((.arraylength, 1) :: rest) ls (.ref a :: st) M q x := by
  have := B_alen (a := a) kk
  rw [if_pos ht] at this; exact this
theorem K_new {idx : Nat} {y : PH → Option α} (c n : Nat) (hn : cN c = n) (hc : (decide (c < 12)) = true) (hl : LkC mi.1.cls idx c) (kk : ∀ M1, M1 = nO M c n → VB G mi d lo (pc + 3) rest ls (.ref (hZ M) :: st) M1 q (y M1)) : VB G mi d lo pc ((.new idx, 3) :: rest) ls st M q (if hZ M < gC G ∧ hU M + n ≤ gS G then hb (nO M c n) y else none) := by
  subst hn
  exact B_new c hc hl (kk _ rfl)
theorem K_newa {at' : ArrayType} {n : Int32} {y : PH → Option α} (t : Nat) (hat : (decide (atp at' = t) && decide (t < 20) && decide (newarray.typeOf at' = aty t) && decide (componentBytes (aty t) ≤ 8)) = true) (hcl : Cond.arrayClass (newarray.typeOf at') ∈ lw_tbl) (kk : ∀ M1, M1 = nA M t n.toNatClampNeg → VB G mi d lo (pc + 2) rest ls (.ref (hZ M) :: st) M1 q (y M1)) : VB G mi d lo pc ((.newarray at', 2) :: rest) ls (.int n :: st) M q (if 0 ≤ n ∧ n.toNatClampNeg ≤ 1000000 ∧ hZ M < gC G ∧ hU M + n.toNatClampNeg ≤ gS G then hb (nA M t n.toNatClampNeg) y else none) := B_newa t hat hcl (kk _ rfl)
theorem K_newac {at' : ArrayType} {n : Int32} {y : PH → Option α} (t k : Nat) (hk : (decide (0 ≤ n) && decide (n.toNatClampNeg = k) && decide (k ≤ 1000000)) = true) (hat : (decide (atp at' = t) && decide (t < 20) && decide (newarray.typeOf at' = aty t) && decide (componentBytes (aty t) ≤ 8)) = true) (hcl : Cond.arrayClass (newarray.typeOf at') ∈ lw_tbl) (kk : ∀ M1, M1 = nA M t k → VB G mi d lo (pc + 2) rest ls (.ref (hZ M) :: st) M1 q (y M1)) : VB G mi d lo pc ((.newarray at', 2) :: rest) ls (.int n :: st) M q (if hZ M < gC G ∧ hU M + k ≤ gS G then hb (nA M t k) y else none) := by
  simp only [Bool.and_eq_true, decide_eq_true_eq] at hk
  obtain ⟨⟨h1, h2⟩, h3⟩ := hk
  subst h2
  have := B_newa (n := n) t hat hcl (kk _ rfl)
  by_cases h : hZ M < gC G ∧ hU M + n.toNatClampNeg ≤ gS G
  · rw [if_pos h]; rw [if_pos ⟨h1, h3, h⟩] at this; exact this
  · rw [if_neg h]; exact V_none
theorem K_anewc {idx : Nat} {n : Int32} {y : PH → Option α} (t k : Nat) (hk : (decide (0 ≤ n) && decide (n.toNatClampNeg = k) && decide (k ≤ 1000000)) = true) (htt : (decide (20 ≤ t) && decide (t < 24)) = true) (hl : LkC mi.1.cls idx (acl t)) (hov : Cond.arrayOver (.object (cR (acl t))) ∈ lw_tbl) (kk : ∀ M1, M1 = nA M t k → VB G mi d lo (pc + 3) rest ls (.ref (hZ M) :: st) M1 q (y M1)) : VB G mi d lo pc ((.anewarray idx, 3) :: rest) ls (.int n :: st) M q (if hZ M < gC G ∧ hU M + k ≤ gS G then hb (nA M t k) y else none) := by
  simp only [Bool.and_eq_true, decide_eq_true_eq] at hk
  obtain ⟨⟨h1, h2⟩, h3⟩ := hk
  subst h2
  have := B_anew (n := n) t htt hl hov (kk _ rfl)
  by_cases h : hZ M < gC G ∧ hU M + n.toNatClampNeg ≤ gS G
  · rw [if_pos h]; rw [if_pos ⟨h1, h3, h⟩] at this; exact this
  · rw [if_neg h]; exact V_none
theorem K_aald {a : Nat} {j : Int32} (t : Nat) (htt : (decide (20 ≤ t) && decide (t < 24)) = true) {y : Nat → Option α} (ht : hT M a = t) (kk : ∀ b : Nat, VB G mi d lo (pc + 1) rest ls (.ref b :: st) M q (y b)) : VB G mi d lo pc ((.aaload, 1) :: rest) ls (.int j :: .ref a :: st) M q (if ib j (hN M a) = true then (hX M a j.toNatClampNeg).bind y else none) := by
  have := B_aald (a := a) (j := j) t htt kk
  by_cases h : ib j (hN M a) = true
  · rw [if_pos h]; rw [if_pos ⟨ht, h⟩] at this; exact this
  · rw [if_neg h]; exact V_none
theorem K_aaldc {a : Nat} {j : Int32} (t k : Nat) (hj : (decide (0 ≤ j) && decide (j.toNatClampNeg = k)) = true) (htt : (decide (20 ≤ t) && decide (t < 24)) = true) {y : Nat → Option α} (ht : hT M a = t) (kk : ∀ b : Nat, VB G mi d lo (pc + 1) rest ls (.ref b :: st) M q (y b)) : VB G mi d lo pc ((.aaload, 1) :: rest) ls (.int j :: .ref a :: st) M q (if k < hN M a then (hX M a k).bind y else none) := by
  have := B_aald (a := a) (j := j) t htt kk
  by_cases h : k < hN M a
  · rw [if_pos h]; rw [if_pos ⟨ht, ib_c hj h⟩, ib_k hj] at this; exact this
  · rw [if_neg h]; exact V_none
theorem K_aast {a b : Nat} {j : Int32} {y : PH → Option α} (t c : Nat) (hac : acl t = c) (htt : (decide (20 ≤ t) && decide (t < 24)) = true) (ht : hT M a = t) (hb' : hT M b = c) (kk : ∀ M1, M1 = sX M a j.toNatClampNeg (some b) → VB G mi d lo (pc + 1) rest ls st M1 q (y M1)) : VB G mi d lo pc ((.aastore, 1) :: rest) ls (.ref b :: .int j :: .ref a :: st) M q (if ib j (hN M a) = true then hb (sX M a j.toNatClampNeg (some b)) y else none) := by
  subst hac
  have := B_aast (a := a) (b := b) (j := j) t htt (kk _ rfl)
  by_cases h : ib j (hN M a) = true
  · rw [if_pos h]; rw [if_pos ⟨ht, h, hb'⟩] at this; exact this
  · rw [if_neg h]; exact V_none
theorem K_iald {a : Nat} {j : Int32} (ht : hT M a = 16) (kk : VB G mi d lo (pc + 1) rest ls (.int (hA M a (j.toNatClampNeg)) :: st) M q x) : VB G mi d lo pc ((.iaload, 1) :: rest) ls (.int j :: .ref a :: st) M q (if ib j (hN M a) = true then x else none) := by
  have := B_iald (a := a) (j := j) kk
  by_cases h : ib j (hN M a) = true
  · rw [if_pos h]; rw [if_pos ⟨ht, h⟩] at this; exact this
  · rw [if_neg h]; exact V_none
theorem K_ialdc {a : Nat} {j : Int32} (k : Nat) (hj : (decide (0 ≤ j) && decide (j.toNatClampNeg = k)) = true) (ht : hT M a = 16) (kk : VB G mi d lo (pc + 1) rest ls (.int (hA M a (k)) :: st) M q x) : VB G mi d lo pc ((.iaload, 1) :: rest) ls (.int j :: .ref a :: st) M q (if k < hN M a then x else none) := by
  have := B_ialdc (a := a) (j := j) k hj kk
  by_cases h : k < hN M a
  · rw [if_pos h]; rw [if_pos ⟨ht, h⟩] at this; exact this
  · rw [if_neg h]; exact V_none
theorem K_zald {a : Nat} {j : Int32} (ht : hT M a = 17) (kk : VB G mi d lo (pc + 1) rest ls (.int (hA M a (j.toNatClampNeg)) :: st) M q x) : VB G mi d lo pc ((.baload, 1) :: rest) ls (.int j :: .ref a :: st) M q (if ib j (hN M a) = true then x else none) := by
  have := B_zald (a := a) (j := j) kk
  by_cases h : ib j (hN M a) = true
  · rw [if_pos h]; rw [if_pos ⟨ht, h⟩] at this; exact this
  · rw [if_neg h]; exact V_none
theorem K_zaldc {a : Nat} {j : Int32} (k : Nat) (hj : (decide (0 ≤ j) && decide (j.toNatClampNeg = k)) = true) (ht : hT M a = 17) (kk : VB G mi d lo (pc + 1) rest ls (.int (hA M a (k)) :: st) M q x) : VB G mi d lo pc ((.baload, 1) :: rest) ls (.int j :: .ref a :: st) M q (if k < hN M a then x else none) := by
  have := B_zaldc (a := a) (j := j) k hj kk
  by_cases h : k < hN M a
  · rw [if_pos h]; rw [if_pos ⟨ht, h⟩] at this; exact this
  · rw [if_neg h]; exact V_none
theorem K_bald {a : Nat} {j : Int32} (ht : hT M a = 18) (kk : VB G mi d lo (pc + 1) rest ls (.int (hA M a (j.toNatClampNeg)) :: st) M q x) : VB G mi d lo pc ((.baload, 1) :: rest) ls (.int j :: .ref a :: st) M q (if ib j (hN M a) = true then x else none) := by
  have := B_bald (a := a) (j := j) kk
  by_cases h : ib j (hN M a) = true
  · rw [if_pos h]; rw [if_pos ⟨ht, h⟩] at this; exact this
  · rw [if_neg h]; exact V_none
theorem K_baldc {a : Nat} {j : Int32} (k : Nat) (hj : (decide (0 ≤ j) && decide (j.toNatClampNeg = k)) = true) (ht : hT M a = 18) (kk : VB G mi d lo (pc + 1) rest ls (.int (hA M a (k)) :: st) M q x) : VB G mi d lo pc ((.baload, 1) :: rest) ls (.int j :: .ref a :: st) M q (if k < hN M a then x else none) := by
  have := B_baldc (a := a) (j := j) k hj kk
  by_cases h : k < hN M a
  · rw [if_pos h]; rw [if_pos ⟨ht, h⟩] at this; exact this
  · rw [if_neg h]; exact V_none
theorem K_lald {a : Nat} {j : Int32} (ht : hT M a = 19) (kk : VB G mi d lo (pc + 1) rest ls (.long (hL M a (j.toNatClampNeg)) :: st) M q x) : VB G mi d lo pc ((.laload, 1) :: rest) ls (.int j :: .ref a :: st) M q (if ib j (hN M a) = true then x else none) := by
  have := B_lald (a := a) (j := j) kk
  by_cases h : ib j (hN M a) = true
  · rw [if_pos h]; rw [if_pos ⟨ht, h⟩] at this; exact this
  · rw [if_neg h]; exact V_none
theorem K_laldc {a : Nat} {j : Int32} (k : Nat) (hj : (decide (0 ≤ j) && decide (j.toNatClampNeg = k)) = true) (ht : hT M a = 19) (kk : VB G mi d lo (pc + 1) rest ls (.long (hL M a (k)) :: st) M q x) : VB G mi d lo pc ((.laload, 1) :: rest) ls (.int j :: .ref a :: st) M q (if k < hN M a then x else none) := by
  have := B_laldc (a := a) (j := j) k hj kk
  by_cases h : k < hN M a
  · rw [if_pos h]; rw [if_pos ⟨ht, h⟩] at this; exact this
  · rw [if_neg h]; exact V_none
theorem K_iast {a : Nat} {j : Int32} {v : Int32} {y : PH → Option α} (ht : hT M a = 16) (kk : ∀ M1, M1 = sA M a (j.toNatClampNeg) v → VB G mi d lo (pc + 1) rest ls st M1 q (y M1)) : VB G mi d lo pc ((.iastore, 1) :: rest) ls (.int v :: .int j :: .ref a :: st) M q (if ib j (hN M a) = true then hb (sA M a (j.toNatClampNeg) v) y else none) := by
  have := B_iast (a := a) (j := j) (v := v) (kk _ rfl)
  by_cases h : ib j (hN M a) = true
  · rw [if_pos h]; rw [if_pos ⟨ht, h⟩] at this; exact this
  · rw [if_neg h]; exact V_none
theorem K_iastc {a : Nat} {j : Int32} {v : Int32} {y : PH → Option α} (k : Nat) (hj : (decide (0 ≤ j) && decide (j.toNatClampNeg = k)) = true) (ht : hT M a = 16) (kk : ∀ M1, M1 = sA M a (k) v → VB G mi d lo (pc + 1) rest ls st M1 q (y M1)) : VB G mi d lo pc ((.iastore, 1) :: rest) ls (.int v :: .int j :: .ref a :: st) M q (if k < hN M a then hb (sA M a (k) v) y else none) := by
  have := B_iastc (a := a) (j := j) (v := v) k hj (kk _ rfl)
  by_cases h : k < hN M a
  · rw [if_pos h]; rw [if_pos ⟨ht, h⟩] at this; exact this
  · rw [if_neg h]; exact V_none
theorem K_zast {a : Nat} {j : Int32} {v : Int32} {y : PH → Option α} (ht : hT M a = 17) (hv : v = 0 ∨ v = 1) (kk : ∀ M1, M1 = sA M a (j.toNatClampNeg) v → VB G mi d lo (pc + 1) rest ls st M1 q (y M1)) : VB G mi d lo pc ((.bastore, 1) :: rest) ls (.int v :: .int j :: .ref a :: st) M q (if ib j (hN M a) = true then hb (sA M a (j.toNatClampNeg) v) y else none) := by
  have := B_zast (a := a) (j := j) (v := v) (kk _ rfl)
  by_cases h : ib j (hN M a) = true
  · rw [if_pos h]; rw [if_pos ⟨ht, h, hv⟩] at this; exact this
  · rw [if_neg h]; exact V_none
theorem K_zastc {a : Nat} {j : Int32} {v : Int32} {y : PH → Option α} (k : Nat) (hj : (decide (0 ≤ j) && decide (j.toNatClampNeg = k)) = true) (ht : hT M a = 17) (hv : v = 0 ∨ v = 1) (kk : ∀ M1, M1 = sA M a (k) v → VB G mi d lo (pc + 1) rest ls st M1 q (y M1)) : VB G mi d lo pc ((.bastore, 1) :: rest) ls (.int v :: .int j :: .ref a :: st) M q (if k < hN M a then hb (sA M a (k) v) y else none) := by
  have := B_zastc (a := a) (j := j) (v := v) k hj (kk _ rfl)
  by_cases h : k < hN M a
  · rw [if_pos h]; rw [if_pos ⟨ht, h, hv⟩] at this; exact this
  · rw [if_neg h]; exact V_none
theorem K_bast {a : Nat} {j : Int32} {v : Int32} {y : PH → Option α} (ht : hT M a = 18) (kk : ∀ M1, M1 = sA M a (j.toNatClampNeg) v.toInt8.toInt32 → VB G mi d lo (pc + 1) rest ls st M1 q (y M1)) : VB G mi d lo pc ((.bastore, 1) :: rest) ls (.int v :: .int j :: .ref a :: st) M q (if ib j (hN M a) = true then hb (sA M a (j.toNatClampNeg) v.toInt8.toInt32) y else none) := by
  have := B_bast (a := a) (j := j) (v := v) (kk _ rfl)
  by_cases h : ib j (hN M a) = true
  · rw [if_pos h]; rw [if_pos ⟨ht, h⟩] at this; exact this
  · rw [if_neg h]; exact V_none
theorem K_bastc {a : Nat} {j : Int32} {v : Int32} {y : PH → Option α} (k : Nat) (hj : (decide (0 ≤ j) && decide (j.toNatClampNeg = k)) = true) (ht : hT M a = 18) (kk : ∀ M1, M1 = sA M a (k) v.toInt8.toInt32 → VB G mi d lo (pc + 1) rest ls st M1 q (y M1)) : VB G mi d lo pc ((.bastore, 1) :: rest) ls (.int v :: .int j :: .ref a :: st) M q (if k < hN M a then hb (sA M a (k) v.toInt8.toInt32) y else none) := by
  have := B_bastc (a := a) (j := j) (v := v) k hj (kk _ rfl)
  by_cases h : k < hN M a
  · rw [if_pos h]; rw [if_pos ⟨ht, h⟩] at this; exact this
  · rw [if_neg h]; exact V_none
theorem K_last {a : Nat} {j : Int32} {v : Int64} {y : PH → Option α} (ht : hT M a = 19) (kk : ∀ M1, M1 = sL M a (j.toNatClampNeg) v → VB G mi d lo (pc + 1) rest ls st M1 q (y M1)) : VB G mi d lo pc ((.lastore, 1) :: rest) ls (.long v :: .int j :: .ref a :: st) M q (if ib j (hN M a) = true then hb (sL M a (j.toNatClampNeg) v) y else none) := by
  have := B_last (a := a) (j := j) (v := v) (kk _ rfl)
  by_cases h : ib j (hN M a) = true
  · rw [if_pos h]; rw [if_pos ⟨ht, h⟩] at this; exact this
  · rw [if_neg h]; exact V_none
theorem K_lastc {a : Nat} {j : Int32} {v : Int64} {y : PH → Option α} (k : Nat) (hj : (decide (0 ≤ j) && decide (j.toNatClampNeg = k)) = true) (ht : hT M a = 19) (kk : ∀ M1, M1 = sL M a (k) v → VB G mi d lo (pc + 1) rest ls st M1 q (y M1)) : VB G mi d lo pc ((.lastore, 1) :: rest) ls (.long v :: .int j :: .ref a :: st) M q (if k < hN M a then hb (sL M a (k) v) y else none) := by
  have := B_lastc (a := a) (j := j) (v := v) k hj (kk _ rfl)
  by_cases h : k < hN M a
  · rw [if_pos h]; rw [if_pos ⟨ht, h⟩] at this; exact this
  · rw [if_neg h]; exact V_none
end R12
