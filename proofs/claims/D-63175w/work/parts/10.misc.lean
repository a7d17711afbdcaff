section R11
variable {G : GT} {mi : MI} {d lo pc : Nat} {rest : List (Instr × Nat)} {ls : List (Option Value)} {st : List Value} {M : PH} {α : Type} {q : α → Outcome → PH → Prop} {x : Option α}
theorem lk_obj : Cond.instanceMethod Lib.objectInit ∈ lw_tbl ∧ Cond.code Lib.objectInit ⟨#[0xb1]⟩ 1 none ∈ lw_tbl := by decide +kernel
theorem B_obj {idx a : Nat} (hl : Cond.methodLink mi.1.cls idx Lib.objectInit ∈ lw_tbl) (hz : (decide (1 ≤ d) && decide ((st.map fun v => v.category).sum + 12 ≤ lo)) = true) (k : VB G mi d lo (pc + 3) rest ls st M q x) : VB G mi d lo pc ((.invokespecial idx, 3) :: rest) ls (.ref a :: st) M q x := by
  simp only [Bool.and_eq_true, decide_eq_true_eq] at hz
  intro hok r hr p l e R s m args below meth c c0 u0 hA H locs cells slots jls hRep hlo hc hu hL
  obtain ⟨h1, h2⟩ := okb_cons hok
  obtain ⟨hx, hb, -, hml, hlk, hown, -, hex, hfl, hKn, hdR, hloR, hRc, hRs⟩ := id hA
  exact W.objInit hx hb hown (hKn.1 _ hl args) (hKn.1 _ lk_obj.1 args) (hKn.1 _ lk_obj.2 args) rfl (hL.1.trans hml.symm) rfl h1 (by omega) (by show 2 * 0 + _ + 12 ≤ _; omega) (k h2 r hr p l e R s m args below meth c c0 u0 hA H locs cells slots jls hRep hlo hc hu hL)
theorem lk_math : (Cond.static Lib.Math.max.name ∈ lw_tbl ∧ Cond.code Lib.Math.max.name Lib.Math.max.code 2 (some .int) ∈ lw_tbl) ∧ (Cond.static Lib.Math.min.name ∈ lw_tbl ∧ Cond.code Lib.Math.min.name Lib.Math.min.code 2 (some .int) ∈ lw_tbl) ∧ Cond.initialized "java/lang/Math" ∈ lw_tbl := by decide +kernel
def jmax (v w : Int32) : Int32 := if v < w then w else v
def jmin (v w : Int32) : Int32 := if w < v then w else v
theorem B_max {idx : Nat} {v w : Int32} (hl : Cond.methodLink mi.1.cls idx Lib.Math.max.name ∈ lw_tbl) (hz : (decide (1 ≤ d) && decide ((st.map fun v => v.category).sum + 13 ≤ lo)) = true) (k : VB G mi d lo (pc + 3) rest ls (.int (jmax v w) :: st) M q x) : VB G mi d lo pc ((.invokestatic idx, 3) :: rest) ls (.int w :: .int v :: st) M q x := by
  simp only [Bool.and_eq_true, decide_eq_true_eq] at hz
  intro hok r hr p l e R s m args below meth c c0 u0 hA H locs cells slots jls hRep hlo hc hu hL
  obtain ⟨h1, h2⟩ := okb_cons hok
  obtain ⟨hx, hb, -, hml, hlk, hown, -, hex, hfl, hKn, hdR, hloR, hRc, hRs⟩ := id hA
  exact va_mmax hx hb (hml.trans hL.1.symm) hown (hKn.1 _ hl args) (hKn.1 _ lk_math.1.1 args) (hKn.1 _ lk_math.2.2 args) (hKn.1 _ lk_math.1.2 args) (by omega) (by omega) (by omega) (by omega) h1 (k h2 r hr p l e R s m args below meth c c0 u0 hA H locs cells slots jls hRep hlo hc hu hL)
theorem B_min {idx : Nat} {v w : Int32} (hl : Cond.methodLink mi.1.cls idx Lib.Math.min.name ∈ lw_tbl) (hz : (decide (1 ≤ d) && decide ((st.map fun v => v.category).sum + 13 ≤ lo)) = true) (k : VB G mi d lo (pc + 3) rest ls (.int (jmin v w) :: st) M q x) : VB G mi d lo pc ((.invokestatic idx, 3) :: rest) ls (.int w :: .int v :: st) M q x := by
  simp only [Bool.and_eq_true, decide_eq_true_eq] at hz
  intro hok r hr p l e R s m args below meth c c0 u0 hA H locs cells slots jls hRep hlo hc hu hL
  obtain ⟨h1, h2⟩ := okb_cons hok
  obtain ⟨hx, hb, -, hml, hlk, hown, -, hex, hfl, hKn, hdR, hloR, hRc, hRs⟩ := id hA
  exact va_mmin hx hb (hml.trans hL.1.symm) hown (hKn.1 _ hl args) (hKn.1 _ lk_math.2.1.1 args) (hKn.1 _ lk_math.2.2 args) (hKn.1 _ lk_math.2.1.2 args) (by omega) (by omega) (by omega) (by omega) h1 (k h2 r hr p l e R s m args below meth c c0 u0 hA H locs cells slots jls hRep hlo hc hu hL)
theorem B_ldc {idx : Nat} {v : Int32} (hl : Cond.constant mi.1.cls idx v ∈ lw_tbl) (k : VB G mi d lo (pc + 2) rest ls (.int v :: st) M q x) : VB G mi d lo pc ((.ldc idx, 2) :: rest) ls st M q x := by
  intro hok r hr p l e R s m args below meth c c0 u0 hA H locs cells slots jls hRep hlo hc hu hL
  obtain ⟨h1, h2⟩ := okb_cons hok
  obtain ⟨hx, hb, -, hml, hlk, hown, -, hex, hfl, hKn, hdR, hloR, hRc, hRs⟩ := id hA
  exact lv_ldc hx hb hown (hKn.1 _ hl args) h1 (k h2 r hr p l e R s m args below meth c c0 u0 hA H locs cells slots jls hRep hlo hc hu hL)
theorem lk_copy : Cond.native arraycopyName ∈ lw_tbl ∧ Cond.static arraycopyName ∈ lw_tbl ∧ Cond.initialized "java/lang/System" ∈ lw_tbl := by decide +kernel
theorem same_cA {a sp b dp n y : Nat} (h : y ≠ b) : SameAt M (cA M a sp b dp n) y := ⟨rfl, rfl, fun _ => rfl, fun i => by simp [hA, cA, h], fun _ => rfl, fun _ => rfl, fun _ => rfl⟩
theorem B_copy {idx a b : Nat} {sp dp n : Int32} (hl : Cond.methodLink mi.1.cls idx arraycopyName ∈ lw_tbl) (hz : (decide (1 ≤ d) && decide ((st.map fun v => v.category).sum + (nativeFrameWords "java/lang/System" "arraycopy" 5 + 11) ≤ lo)) = true) (k : VB G mi d lo (pc + 3) rest ls st (cA M a sp.toNatClampNeg b dp.toNatClampNeg n.toNatClampNeg) q x) :
    VB G mi d lo pc ((.invokestatic idx, 3) :: rest) ls (.int n :: .int dp :: .ref b :: .int sp :: .ref a :: st) M q (if (hT M a = 16 ∧ hT M b = 16) ∧ (0 ≤ sp ∧ 0 ≤ dp ∧ 0 ≤ n) ∧ sp.toNatClampNeg + n.toNatClampNeg ≤ hN M a ∧ dp.toNatClampNeg + n.toNatClampNeg ≤ hN M b then x else none) := by
  simp only [Bool.and_eq_true, decide_eq_true_eq] at hz
  by_cases h : (hT M a = 16 ∧ hT M b = 16) ∧ (0 ≤ sp ∧ 0 ≤ dp ∧ 0 ≤ n) ∧ sp.toNatClampNeg + n.toNatClampNeg ≤ hN M a ∧ dp.toNatClampNeg + n.toNatClampNeg ≤ hN M b
  · rw [if_pos h]
    intro hok r hr p l e R s m args below meth c c0 u0 hA' H locs cells slots jls hRep hlo hc hu hL'
    obtain ⟨h1, h2⟩ := okb_cons hok
    obtain ⟨hx, hb, -, hml, hlk, hown, -, hex, hfl, hKn, hdR, hloR, hRc, hRs⟩ := id hA'
    obtain ⟨⟨ha, hb'⟩, ⟨z1, z2, z3⟩, l1, l2⟩ := h
    have nz : ∀ z : Int32, 0 ≤ z → ¬ z < 0 := fun z hz q => absurd hz (Int32.not_le.mpr q)
    have nn : ∀ z : Int32, 0 ≤ z → z.toInt = (z.toNatClampNeg : Int) := by
      intro z hz
      have hz0 : (0 : Int) ≤ z.toInt := by simpa using Int32.le_iff_toInt_le.mp hz
      show z.toInt = ((z.toInt.toNat : Nat) : Int)
      omega
    intro T hT' X
    subst hT'
    have g1 := hRep.arr (by decide) (by decide) ha
    have g2 := hRep.arr (by decide) (by decide) hb'
    have v1 : ∀ y : Nat, (fun j => av M 16 y j) = (fun j => Value.int (hA M y j)) := fun y => by funext j; simp [av]
    rw [v1] at g1 g2
    obtain ⟨-, k0, hk0, cm0, hkk0⟩ := (hKn.2.2.1 16 (by decide) (by decide)).1 (hN M a) (fun j => .int (hA M a j))
    obtain ⟨vm', X', step⟩ := X.arraycopy hx hown (hKn.1 _ hl args) (hKn.1 _ lk_copy.1 args) (hKn.1 _ lk_copy.2.1 args) (hKn.1 _ lk_copy.2.2 args) (src := a) (dst := b) (cs := arrV (gA G 16) (hN M a) (fun j => .int (hA M a j))) (cd := arrV (gA G 16) (hN M b) (fun j => .int (hA M b j))) (srcPos := sp) (destPos := dp) (n := n) g1 g2
      (fun _ h => by cases h) (fun _ h => by cases h) (fun h => by cases h) (fun h => by cases h) hk0 hk0 hkk0 hkk0 (by simp [refKind, aty]) (nz _ z1) (nz _ z2) (nz _ z3)
      (by rw [nn sp z1, nn n z3, arrV_size]; omega) (by rw [nn dp z2, nn n z3, arrV_size]; omega)
      (fun vm₁ _ i hi => by
        have e : (arrV (gA G 16) (hN M a) (fun j => Value.int (hA M a j))).slots.getD (sp.toNatClampNeg + i) .null = .int (hA M a (sp.toNatClampNeg + i)) := by
          rw [Array.getD_eq_getD_getElem?, arrV_read _ _ (by omega)]
          rfl
        refine ⟨?_, ?_⟩
        · rw [e]; rfl
        · rw [e]; exact trivial)
      (g := F0 m pc jls (.int n :: .int dp :: .ref b :: .int sp :: .ref a :: st)) rfl (hL'.1.trans hml.symm) (rest := st) rfl (by rw [hb]; exact h1) (by omega) (by show 2 * 0 + _ + _ ≤ _; omega)
    have e1 : copied (arrV (gA G 16) (hN M a) (fun j => Value.int (hA M a j))) (arrV (gA G 16) (hN M b) (fun j => Value.int (hA M b j))) sp dp n = arrV (gA G 16) (hN M b) (fun j => .int (va_cpy (hA M a) (hA M b) sp.toNatClampNeg dp.toNatClampNeg n.toNatClampNeg j)) := va_copied (fun z => .int z) (gA G 16) (gA G 16) (hA M a) (hA M b) l1
    rw [e1] at X' step
    have hlt : b < T.heap.size := (Array.getElem?_eq_some_iff.mp g2).1
    have hR' : Rep G (cA M a sp.toNatClampNeg b dp.toNatClampNeg n.toNatClampNeg) ((T.setVm vm').setCell b (arrV (gA G 16) (hN M b) (fun j => .int (va_cpy (hA M a) (hA M b) sp.toNatClampNeg dp.toNatClampNeg n.toNatClampNeg j)))).heap := by
      refine hRep.upd (a := b) (by omega) (by rw [size_setCell]; rfl) (fun y hy => heapAt_setCell_ne (s := T.setVm vm') _ (Ne.symm hy)) rfl (fun y hy => same_cA hy) rfl (Or.inr (Or.inl ⟨?_, ?_, ?_⟩))
      · show 16 ≤ hT M b; omega
      · show hT M b < 24; omega
      · rw [heapAt_setCell_self (s := T.setVm vm') _ hlt]
        show _ = some (arrV (gA G (hT M b)) (hN M b) (fun j => av (cA M a sp.toNatClampNeg b dp.toNatClampNeg n.toNatClampNeg) (hT M b) b j))
        rw [hb']
        congr 2
        funext j
        simp [av, hA, cA]; rfl
    obtain ⟨t, a1, b1⟩ := k h2 r hr p l e R s m args below meth c c0 u0 hA' _ _ cells slots jls hR' (fun y hy => by
      rcases List.mem_append.mp hy with hy | hy
      · exact hlo y hy
      · obtain ⟨z, -, hz⟩ := List.mem_map.mp hy
        rw [← hz]
        exact (hRep.at (a := b) (by omega)).1) hc hu hL' _ rfl X'
    exact ⟨t, step t a1, b1⟩
  · rw [if_neg h]; exact V_none
end R11
