section R5
variable {G : GT} {mi : MI} {d lo pc : Nat} {rest : List (Instr × Nat)} {ls : List (Option Value)} {st : List Value} {M : PH} {α : Type} {q : α → Outcome → PH → Prop} {x : Option α}
/-- a place within -/
def ib (j : Int32) (n : Nat) : Bool := decide (0 ≤ j) && decide (j.toNatClampNeg < n)
theorem ib_in {j : Int32} {n : Nat} (h : ib j n = true) : ¬ (j < 0 ∨ n ≤ j.toNatClampNeg) := by
  simp only [ib, Bool.and_eq_true, decide_eq_true_eq] at h
  rintro (h1 | h1)
  · exact absurd h.1 (Int32.not_le.mpr h1)
  · omega
theorem ib_lt {j : Int32} {n : Nat} (h : ib j n = true) : j.toNatClampNeg < n := by
  simp only [ib, Bool.and_eq_true, decide_eq_true_eq] at h
  exact h.2
theorem ib_c {j : Int32} {n k : Nat} (hk : (decide (0 ≤ j) && decide (j.toNatClampNeg = k)) = true) (h : k < n) : ib j n = true := by
  simp only [ib, Bool.and_eq_true, decide_eq_true_eq] at hk ⊢
  exact ⟨hk.1, by omega⟩
theorem ib_k {j : Int32} {k : Nat} (hk : (decide (0 ≤ j) && decide (j.toNatClampNeg = k)) = true) : j.toNatClampNeg = k := by
  simp only [Bool.and_eq_true, decide_eq_true_eq] at hk
  exact hk.2
theorem B_putI {idx a : Nat} {v : Int32} (c k fid : Nat) (hl : LkF mi.1.cls idx c k) (hk : (decide (c < 12) && decide (k < cN c) && decide (cT c k = .int)) = true) (hfin : (cF c k).2.2.2 = false ∨ (mi.1.name = "<init>" ∧ mi.1.cls = cR c)) (hf : 200 * c + k = fid) (kk : VB G mi d lo (pc + 3) rest ls st (sI M fid a v) q x) : VB G mi d lo pc ((.putfield idx, 3) :: rest) ls (.int v :: .ref a :: st) M q (if hT M a = c then x else none) := by
  simp only [Bool.and_eq_true, decide_eq_true_eq] at hk
  by_cases ht : hT M a = c
  · rw [if_pos ht]
    refine B_put (M' := sI M fid a v) hl hk.1.1 hk.1.2 hfin ht (by rw [hk.2]; rfl) (by rw [hk.2]; rfl) rfl rfl (fun b hb => same_sI hb) rfl (fun j hj => ?_) kk
    subst hf
    unfold updV
    by_cases e : j = k
    · subst e; rw [if_pos rfl]; unfold fv; rw [hk.2]; simp [hI, sI, up2]
    · rw [if_neg e]
      have e1 : hI (sI M (200 * c + k) a v) (200 * c + j) a = hI M (200 * c + j) a := by simp [hI, sI, up2, e]
      have e2 : hR (sI M (200 * c + k) a v) (200 * c + j) a = hR M (200 * c + j) a := rfl
      unfold fv
      rw [e1, e2]
  · rw [if_neg ht]; exact V_none
theorem nar_b {v : Int32} (h : v = 0 ∨ v = 1) : narrow .boolean (.int v) = .int v := by rcases h with rfl | rfl <;> decide
theorem fit_b {v : Int32} (h : v = 0 ∨ v = 1) : fits .boolean (.int v) = true := by rcases h with rfl | rfl <;> decide
theorem B_putZ {idx a : Nat} {v : Int32} (c k fid : Nat) (hl : LkF mi.1.cls idx c k) (hk : (decide (c < 12) && decide (k < cN c) && decide (cT c k = .boolean)) = true) (hfin : (cF c k).2.2.2 = false ∨ (mi.1.name = "<init>" ∧ mi.1.cls = cR c)) (hf : 200 * c + k = fid) (kk : VB G mi d lo (pc + 3) rest ls st (sI M fid a v) q x) : VB G mi d lo pc ((.putfield idx, 3) :: rest) ls (.int v :: .ref a :: st) M q (if hT M a = c ∧ (v = 0 ∨ v = 1) then x else none) := by
  simp only [Bool.and_eq_true, decide_eq_true_eq] at hk
  by_cases ht : hT M a = c ∧ (v = 0 ∨ v = 1)
  · rw [if_pos ht]
    refine B_put (M' := sI M fid a v) hl hk.1.1 hk.1.2 hfin ht.1 (by rw [hk.2]; exact nar_b ht.2) (by rw [hk.2]; exact fit_b ht.2) rfl rfl (fun b hb => same_sI hb) rfl (fun j hj => ?_) kk
    subst hf
    unfold updV
    by_cases e : j = k
    · subst e; rw [if_pos rfl]; unfold fv; rw [hk.2]; simp [hI, sI, up2]
    · rw [if_neg e]
      have e1 : hI (sI M (200 * c + k) a v) (200 * c + j) a = hI M (200 * c + j) a := by simp [hI, sI, up2, e]
      have e2 : hR (sI M (200 * c + k) a v) (200 * c + j) a = hR M (200 * c + j) a := rfl
      unfold fv
      rw [e1, e2]
  · rw [if_neg ht]; exact V_none
theorem B_putR {idx a b : Nat} (c k fid : Nat) (hl : LkF mi.1.cls idx c k) (hk : (decide (c < 12) && decide (k < cN c) && isRf c k) = true) (hfin : (cF c k).2.2.2 = false ∨ (mi.1.name = "<init>" ∧ mi.1.cls = cR c)) (hf : 200 * c + k = fid) (kk : VB G mi d lo (pc + 3) rest ls st (sR M fid a (some b)) q x) : VB G mi d lo pc ((.putfield idx, 3) :: rest) ls (.ref b :: .ref a :: st) M q (if hT M a = c then x else none) := by
  simp only [Bool.and_eq_true, decide_eq_true_eq] at hk
  by_cases ht : hT M a = c
  · rw [if_pos ht]
    have h3 := hk.2
    unfold isRf at h3
    refine B_put (M' := sR M fid a (some b)) hl hk.1.1 hk.1.2 hfin ht (by split at h3 <;> first | (rename_i e; rw [e]; rfl) | cases h3) (by split at h3 <;> first | (rename_i e; rw [e]; rfl) | cases h3) rfl rfl (fun b hb => same_sR hb) rfl (fun j hj => ?_) kk
    subst hf
    unfold updV
    by_cases e : j = k
    · subst e; rw [if_pos rfl]; unfold fv; split at h3 <;> first | (rename_i e; rw [e]; simp [hR, sR, up2, va_rf]) | cases h3
    · rw [if_neg e]
      have e1 : hR (sR M (200 * c + k) a (some b)) (200 * c + j) a = hR M (200 * c + j) a := by simp [hR, sR, up2, e]
      have e2 : hI (sR M (200 * c + k) a (some b)) (200 * c + j) a = hI M (200 * c + j) a := rfl
      unfold fv
      rw [e1, e2]
  · rw [if_neg ht]; exact V_none
/-- the array at a, of kind t -/
theorem arr_at {G : GT} {M : PH} {H : Heap} {s : State} {a t : Nat} (hKn : Kn G s) (hR : Rep G M H) (h1 : 16 ≤ t) (h2 : t < 24) (ht : hT M a = t) : H[a]? = some (arrV (gA G t) (hN M a) (fun j => av M t a j)) ∧ s.isArrayOf (arrV (gA G t) (hN M a) (fun j => av M t a j)) (aty t) :=
  ⟨hR.arr h1 h2 ht, (hKn.2.2.1 t h1 h2).1 _ _⟩
theorem arr_pic {G : GT} {M M' : PH} {H H' : Heap} {a t j : Nat} {v : Value} (hR : Rep G M H) (h1 : 16 ≤ t) (h2 : t < 24) (ht : hT M a = t) (e1 : H'[a]? = some ((arrV (gA G t) (hN M a) (fun j => av M t a j)).setSlot j v)) (e2 : H'.size = H.size) (e3 : ∀ b : Nat, b ≠ a → H'[b]? = H[b]?) (hz : hZ M' = hZ M) (hS : ∀ b : Nat, b ≠ a → SameAt M M' b) (ht' : hT M' a = hT M a) (hn : hN M' a = hN M a) (hv : ∀ i, av M' t a i = updV (fun j => av M t a j) j v i) : Rep G M' H' := by
  refine hR.upd (a := a) (by omega) e2 e3 hz hS ht' (Or.inr (Or.inl ⟨by omega, by omega, ?_⟩))
  rw [e1, arrV_store, ht', hn, ht]
  congr 2
  funext i
  exact (hv i).symm

theorem B_ialdc {a : Nat} {j : Int32} (k : Nat) (hj : (decide (0 ≤ j) && decide (j.toNatClampNeg = k)) = true) (kk : VB G mi d lo (pc + 1) rest ls (.int (hA M a (k)) :: st) M q x) : VB G mi d lo pc ((.iaload, 1) :: rest) ls (.int j :: .ref a :: st) M q (if hT M a = 16 ∧ k < hN M a then x else none) := by
  by_cases h : hT M a = 16 ∧ k < hN M a
  · rw [if_pos h]
    intro hok r hr p l e R s m args below meth c c0 u0 hA H locs cells slots jls hRep hlo hc hu hL
    obtain ⟨h1, h2⟩ := okb_cons hok
    obtain ⟨g1, g2⟩ := arr_at hA.2.2.2.2.2.2.2.2.2.1 hRep (by decide) (by decide) h.1
    exact W.iald hA.1 hA.2.1 g1 g2 (fun h => by cases h) (by rw [arrV_size, ib_k hj]; exact ib_k hj ▸ ib_in (ib_c hj h.2)) (by rw [ib_k hj]; exact arrV_read _ _ h.2) rfl rfl h1 (kk h2 r hr p l e R s m args below meth c c0 u0 hA H locs cells slots jls hRep hlo hc hu hL)
  · rw [if_neg h]; exact V_none
theorem B_iald {a : Nat} {j : Int32} (kk : VB G mi d lo (pc + 1) rest ls (.int (hA M a (j.toNatClampNeg)) :: st) M q x) : VB G mi d lo pc ((.iaload, 1) :: rest) ls (.int j :: .ref a :: st) M q (if hT M a = 16 ∧ ib j (hN M a) = true then x else none) := by
  by_cases h : hT M a = 16 ∧ ib j (hN M a) = true
  · rw [if_pos h]
    intro hok r hr p l e R s m args below meth c c0 u0 hA H locs cells slots jls hRep hlo hc hu hL
    obtain ⟨h1, h2⟩ := okb_cons hok
    obtain ⟨g1, g2⟩ := arr_at hA.2.2.2.2.2.2.2.2.2.1 hRep (by decide) (by decide) h.1
    exact W.iald hA.1 hA.2.1 g1 g2 (fun h => by cases h) (by rw [arrV_size]; exact ib_in h.2) (arrV_read _ _ (ib_lt h.2)) rfl rfl h1 (kk h2 r hr p l e R s m args below meth c c0 u0 hA H locs cells slots jls hRep hlo hc hu hL)
  · rw [if_neg h]; exact V_none
theorem B_zaldc {a : Nat} {j : Int32} (k : Nat) (hj : (decide (0 ≤ j) && decide (j.toNatClampNeg = k)) = true) (kk : VB G mi d lo (pc + 1) rest ls (.int (hA M a (k)) :: st) M q x) : VB G mi d lo pc ((.baload, 1) :: rest) ls (.int j :: .ref a :: st) M q (if hT M a = 17 ∧ k < hN M a then x else none) := by
  by_cases h : hT M a = 17 ∧ k < hN M a
  · rw [if_pos h]
    intro hok r hr p l e R s m args below meth c c0 u0 hA H locs cells slots jls hRep hlo hc hu hL
    obtain ⟨h1, h2⟩ := okb_cons hok
    obtain ⟨g1, g2⟩ := arr_at hA.2.2.2.2.2.2.2.2.2.1 hRep (by decide) (by decide) h.1
    exact W.zald hA.1 hA.2.1 g1 g2 (fun h => by cases h) (by rw [arrV_size, ib_k hj]; exact ib_k hj ▸ ib_in (ib_c hj h.2)) (by rw [ib_k hj]; exact arrV_read _ _ h.2) rfl rfl h1 (kk h2 r hr p l e R s m args below meth c c0 u0 hA H locs cells slots jls hRep hlo hc hu hL)
  · rw [if_neg h]; exact V_none
theorem B_zald {a : Nat} {j : Int32} (kk : VB G mi d lo (pc + 1) rest ls (.int (hA M a (j.toNatClampNeg)) :: st) M q x) : VB G mi d lo pc ((.baload, 1) :: rest) ls (.int j :: .ref a :: st) M q (if hT M a = 17 ∧ ib j (hN M a) = true then x else none) := by
  by_cases h : hT M a = 17 ∧ ib j (hN M a) = true
  · rw [if_pos h]
    intro hok r hr p l e R s m args below meth c c0 u0 hA H locs cells slots jls hRep hlo hc hu hL
    obtain ⟨h1, h2⟩ := okb_cons hok
    obtain ⟨g1, g2⟩ := arr_at hA.2.2.2.2.2.2.2.2.2.1 hRep (by decide) (by decide) h.1
    exact W.zald hA.1 hA.2.1 g1 g2 (fun h => by cases h) (by rw [arrV_size]; exact ib_in h.2) (arrV_read _ _ (ib_lt h.2)) rfl rfl h1 (kk h2 r hr p l e R s m args below meth c c0 u0 hA H locs cells slots jls hRep hlo hc hu hL)
  · rw [if_neg h]; exact V_none
theorem B_baldc {a : Nat} {j : Int32} (k : Nat) (hj : (decide (0 ≤ j) && decide (j.toNatClampNeg = k)) = true) (kk : VB G mi d lo (pc + 1) rest ls (.int (hA M a (k)) :: st) M q x) : VB G mi d lo pc ((.baload, 1) :: rest) ls (.int j :: .ref a :: st) M q (if hT M a = 18 ∧ k < hN M a then x else none) := by
  by_cases h : hT M a = 18 ∧ k < hN M a
  · rw [if_pos h]
    intro hok r hr p l e R s m args below meth c c0 u0 hA H locs cells slots jls hRep hlo hc hu hL
    obtain ⟨h1, h2⟩ := okb_cons hok
    obtain ⟨g1, g2⟩ := arr_at hA.2.2.2.2.2.2.2.2.2.1 hRep (by decide) (by decide) h.1
    exact W.bald hA.1 hA.2.1 g1 g2 (fun h => by cases h) (by rw [arrV_size, ib_k hj]; exact ib_k hj ▸ ib_in (ib_c hj h.2)) (by rw [ib_k hj]; exact arrV_read _ _ h.2) rfl rfl h1 (kk h2 r hr p l e R s m args below meth c c0 u0 hA H locs cells slots jls hRep hlo hc hu hL)
  · rw [if_neg h]; exact V_none
theorem B_bald {a : Nat} {j : Int32} (kk : VB G mi d lo (pc + 1) rest ls (.int (hA M a (j.toNatClampNeg)) :: st) M q x) : VB G mi d lo pc ((.baload, 1) :: rest) ls (.int j :: .ref a :: st) M q (if hT M a = 18 ∧ ib j (hN M a) = true then x else none) := by
  by_cases h : hT M a = 18 ∧ ib j (hN M a) = true
  · rw [if_pos h]
    intro hok r hr p l e R s m args below meth c c0 u0 hA H locs cells slots jls hRep hlo hc hu hL
    obtain ⟨h1, h2⟩ := okb_cons hok
    obtain ⟨g1, g2⟩ := arr_at hA.2.2.2.2.2.2.2.2.2.1 hRep (by decide) (by decide) h.1
    exact W.bald hA.1 hA.2.1 g1 g2 (fun h => by cases h) (by rw [arrV_size]; exact ib_in h.2) (arrV_read _ _ (ib_lt h.2)) rfl rfl h1 (kk h2 r hr p l e R s m args below meth c c0 u0 hA H locs cells slots jls hRep hlo hc hu hL)
  · rw [if_neg h]; exact V_none
theorem B_laldc {a : Nat} {j : Int32} (k : Nat) (hj : (decide (0 ≤ j) && decide (j.toNatClampNeg = k)) = true) (kk : VB G mi d lo (pc + 1) rest ls (.long (hL M a (k)) :: st) M q x) : VB G mi d lo pc ((.laload, 1) :: rest) ls (.int j :: .ref a :: st) M q (if hT M a = 19 ∧ k < hN M a then x else none) := by
  by_cases h : hT M a = 19 ∧ k < hN M a
  · rw [if_pos h]
    intro hok r hr p l e R s m args below meth c c0 u0 hA H locs cells slots jls hRep hlo hc hu hL
    obtain ⟨h1, h2⟩ := okb_cons hok
    obtain ⟨g1, g2⟩ := arr_at hA.2.2.2.2.2.2.2.2.2.1 hRep (by decide) (by decide) h.1
    exact W.lald hA.1 hA.2.1 g1 g2 (fun h => by cases h) (by rw [arrV_size, ib_k hj]; exact ib_k hj ▸ ib_in (ib_c hj h.2)) (by rw [ib_k hj]; exact arrV_read _ _ h.2) rfl rfl h1 (kk h2 r hr p l e R s m args below meth c c0 u0 hA H locs cells slots jls hRep hlo hc hu hL)
  · rw [if_neg h]; exact V_none
theorem B_lald {a : Nat} {j : Int32} (kk : VB G mi d lo (pc + 1) rest ls (.long (hL M a (j.toNatClampNeg)) :: st) M q x) : VB G mi d lo pc ((.laload, 1) :: rest) ls (.int j :: .ref a :: st) M q (if hT M a = 19 ∧ ib j (hN M a) = true then x else none) := by
  by_cases h : hT M a = 19 ∧ ib j (hN M a) = true
  · rw [if_pos h]
    intro hok r hr p l e R s m args below meth c c0 u0 hA H locs cells slots jls hRep hlo hc hu hL
    obtain ⟨h1, h2⟩ := okb_cons hok
    obtain ⟨g1, g2⟩ := arr_at hA.2.2.2.2.2.2.2.2.2.1 hRep (by decide) (by decide) h.1
    exact W.lald hA.1 hA.2.1 g1 g2 (fun h => by cases h) (by rw [arrV_size]; exact ib_in h.2) (arrV_read _ _ (ib_lt h.2)) rfl rfl h1 (kk h2 r hr p l e R s m args below meth c c0 u0 hA H locs cells slots jls hRep hlo hc hu hL)
  · rw [if_neg h]; exact V_none
theorem B_iastc {a : Nat} {j : Int32} {v : Int32} (k : Nat) (hj : (decide (0 ≤ j) && decide (j.toNatClampNeg = k)) = true) (kk : VB G mi d lo (pc + 1) rest ls st (sA M a (k) v) q x) : VB G mi d lo pc ((.iastore, 1) :: rest) ls (.int v :: .int j :: .ref a :: st) M q (if hT M a = 16 ∧ k < hN M a then x else none) := by
  by_cases h : hT M a = 16 ∧ k < hN M a
  · rw [if_pos h]
    intro hok r hr p l e R s m args below meth c c0 u0 hA' H locs cells slots jls hRep hlo hc hu hL'
    obtain ⟨h1, h2⟩ := okb_cons hok
    obtain ⟨g1, g2⟩ := arr_at hA'.2.2.2.2.2.2.2.2.2.1 hRep (by decide) (by decide) h.1
    refine W.iast hA'.1 hA'.2.1 g1 g2 (fun h => by cases h) (by rw [arrV_size]; exact ib_in (ib_c hj h.2)) rfl rfl h1 (fun H' e1 e2 e3 => ?_)
    rw [ib_k hj] at e1
    skip
    refine kk h2 r hr p l e R s m args below meth c c0 u0 hA' H' _ cells slots jls (arr_pic (M' := sA M a (k) v) hRep (by decide) (by decide) h.1 e1 e2 e3 rfl (fun b hb => same_sA hb) rfl rfl (fun i => ?_)) ?_ hc hu hL'
    · unfold updV av
      by_cases e : i = k
      · subst e; simp [hA, hX, hL, sA, sX, sL, up2]
      · simp [hA, hX, hL, sA, sX, sL, up2, e]
    · intro y hy
      rcases List.mem_append.mp hy with hy | hy
      · exact hlo y hy
      · simp only [List.mem_cons, List.not_mem_nil, or_false] at hy
        subst hy
        exact (hRep.at (a := a) (by omega)).1
  · rw [if_neg h]; exact V_none
theorem B_iast {a : Nat} {j : Int32} {v : Int32} (kk : VB G mi d lo (pc + 1) rest ls st (sA M a (j.toNatClampNeg) v) q x) : VB G mi d lo pc ((.iastore, 1) :: rest) ls (.int v :: .int j :: .ref a :: st) M q (if hT M a = 16 ∧ ib j (hN M a) = true then x else none) := by
  by_cases h : hT M a = 16 ∧ ib j (hN M a) = true
  · rw [if_pos h]
    intro hok r hr p l e R s m args below meth c c0 u0 hA' H locs cells slots jls hRep hlo hc hu hL'
    obtain ⟨h1, h2⟩ := okb_cons hok
    obtain ⟨g1, g2⟩ := arr_at hA'.2.2.2.2.2.2.2.2.2.1 hRep (by decide) (by decide) h.1
    refine W.iast hA'.1 hA'.2.1 g1 g2 (fun h => by cases h) (by rw [arrV_size]; exact ib_in h.2) rfl rfl h1 (fun H' e1 e2 e3 => ?_)
    skip
    skip
    refine kk h2 r hr p l e R s m args below meth c c0 u0 hA' H' _ cells slots jls (arr_pic (M' := sA M a (j.toNatClampNeg) v) hRep (by decide) (by decide) h.1 e1 e2 e3 rfl (fun b hb => same_sA hb) rfl rfl (fun i => ?_)) ?_ hc hu hL'
    · unfold updV av
      by_cases e : i = j.toNatClampNeg
      · subst e; simp [hA, hX, hL, sA, sX, sL, up2]
      · simp [hA, hX, hL, sA, sX, sL, up2, e]
    · intro y hy
      rcases List.mem_append.mp hy with hy | hy
      · exact hlo y hy
      · simp only [List.mem_cons, List.not_mem_nil, or_false] at hy
        subst hy
        exact (hRep.at (a := a) (by omega)).1
  · rw [if_neg h]; exact V_none
theorem B_zastc {a : Nat} {j : Int32} {v : Int32} (k : Nat) (hj : (decide (0 ≤ j) && decide (j.toNatClampNeg = k)) = true) (kk : VB G mi d lo (pc + 1) rest ls st (sA M a (k) v) q x) : VB G mi d lo pc ((.bastore, 1) :: rest) ls (.int v :: .int j :: .ref a :: st) M q (if hT M a = 17 ∧ k < hN M a ∧ (v = 0 ∨ v = 1) then x else none) := by
  by_cases h : hT M a = 17 ∧ k < hN M a ∧ (v = 0 ∨ v = 1)
  · rw [if_pos h]
    intro hok r hr p l e R s m args below meth c c0 u0 hA' H locs cells slots jls hRep hlo hc hu hL'
    obtain ⟨h1, h2⟩ := okb_cons hok
    obtain ⟨g1, g2⟩ := arr_at hA'.2.2.2.2.2.2.2.2.2.1 hRep (by decide) (by decide) h.1
    refine W.zast hA'.1 hA'.2.1 g1 g2 (fun h => by cases h) (by rw [arrV_size]; exact ib_in (ib_c hj h.2.1)) rfl rfl h1 (fun H' e1 e2 e3 => ?_)
    rw [ib_k hj] at e1
    rw [nar_b h.2.2] at e1
    refine kk h2 r hr p l e R s m args below meth c c0 u0 hA' H' _ cells slots jls (arr_pic (M' := sA M a (k) v) hRep (by decide) (by decide) h.1 e1 e2 e3 rfl (fun b hb => same_sA hb) rfl rfl (fun i => ?_)) ?_ hc hu hL'
    · unfold updV av
      by_cases e : i = k
      · subst e; simp [hA, hX, hL, sA, sX, sL, up2]
      · simp [hA, hX, hL, sA, sX, sL, up2, e]
    · intro y hy
      rcases List.mem_append.mp hy with hy | hy
      · exact hlo y hy
      · simp only [List.mem_cons, List.not_mem_nil, or_false] at hy
        subst hy
        exact (hRep.at (a := a) (by omega)).1
  · rw [if_neg h]; exact V_none
theorem B_zast {a : Nat} {j : Int32} {v : Int32} (kk : VB G mi d lo (pc + 1) rest ls st (sA M a (j.toNatClampNeg) v) q x) : VB G mi d lo pc ((.bastore, 1) :: rest) ls (.int v :: .int j :: .ref a :: st) M q (if hT M a = 17 ∧ ib j (hN M a) = true ∧ (v = 0 ∨ v = 1) then x else none) := by
  by_cases h : hT M a = 17 ∧ ib j (hN M a) = true ∧ (v = 0 ∨ v = 1)
  · rw [if_pos h]
    intro hok r hr p l e R s m args below meth c c0 u0 hA' H locs cells slots jls hRep hlo hc hu hL'
    obtain ⟨h1, h2⟩ := okb_cons hok
    obtain ⟨g1, g2⟩ := arr_at hA'.2.2.2.2.2.2.2.2.2.1 hRep (by decide) (by decide) h.1
    refine W.zast hA'.1 hA'.2.1 g1 g2 (fun h => by cases h) (by rw [arrV_size]; exact ib_in h.2.1) rfl rfl h1 (fun H' e1 e2 e3 => ?_)
    skip
    rw [nar_b h.2.2] at e1
    refine kk h2 r hr p l e R s m args below meth c c0 u0 hA' H' _ cells slots jls (arr_pic (M' := sA M a (j.toNatClampNeg) v) hRep (by decide) (by decide) h.1 e1 e2 e3 rfl (fun b hb => same_sA hb) rfl rfl (fun i => ?_)) ?_ hc hu hL'
    · unfold updV av
      by_cases e : i = j.toNatClampNeg
      · subst e; simp [hA, hX, hL, sA, sX, sL, up2]
      · simp [hA, hX, hL, sA, sX, sL, up2, e]
    · intro y hy
      rcases List.mem_append.mp hy with hy | hy
      · exact hlo y hy
      · simp only [List.mem_cons, List.not_mem_nil, or_false] at hy
        subst hy
        exact (hRep.at (a := a) (by omega)).1
  · rw [if_neg h]; exact V_none
theorem B_bastc {a : Nat} {j : Int32} {v : Int32} (k : Nat) (hj : (decide (0 ≤ j) && decide (j.toNatClampNeg = k)) = true) (kk : VB G mi d lo (pc + 1) rest ls st (sA M a (k) v.toInt8.toInt32) q x) : VB G mi d lo pc ((.bastore, 1) :: rest) ls (.int v :: .int j :: .ref a :: st) M q (if hT M a = 18 ∧ k < hN M a then x else none) := by
  by_cases h : hT M a = 18 ∧ k < hN M a
  · rw [if_pos h]
    intro hok r hr p l e R s m args below meth c c0 u0 hA' H locs cells slots jls hRep hlo hc hu hL'
    obtain ⟨h1, h2⟩ := okb_cons hok
    obtain ⟨g1, g2⟩ := arr_at hA'.2.2.2.2.2.2.2.2.2.1 hRep (by decide) (by decide) h.1
    refine W.bast hA'.1 hA'.2.1 g1 g2 (fun h => by cases h) (by rw [arrV_size]; exact ib_in (ib_c hj h.2)) rfl rfl h1 (fun H' e1 e2 e3 => ?_)
    rw [ib_k hj] at e1
    rw [narrow_byte] at e1
    refine kk h2 r hr p l e R s m args below meth c c0 u0 hA' H' _ cells slots jls (arr_pic (M' := sA M a (k) v.toInt8.toInt32) hRep (by decide) (by decide) h.1 e1 e2 e3 rfl (fun b hb => same_sA hb) rfl rfl (fun i => ?_)) ?_ hc hu hL'
    · unfold updV av
      by_cases e : i = k
      · subst e; simp [hA, hX, hL, sA, sX, sL, up2]
      · simp [hA, hX, hL, sA, sX, sL, up2, e]
    · intro y hy
      rcases List.mem_append.mp hy with hy | hy
      · exact hlo y hy
      · simp only [List.mem_cons, List.not_mem_nil, or_false] at hy
        subst hy
        exact (hRep.at (a := a) (by omega)).1
  · rw [if_neg h]; exact V_none
theorem B_bast {a : Nat} {j : Int32} {v : Int32} (kk : VB G mi d lo (pc + 1) rest ls st (sA M a (j.toNatClampNeg) v.toInt8.toInt32) q x) : VB G mi d lo pc ((.bastore, 1) :: rest) ls (.int v :: .int j :: .ref a :: st) M q (if hT M a = 18 ∧ ib j (hN M a) = true then x else none) := by
  by_cases h : hT M a = 18 ∧ ib j (hN M a) = true
  · rw [if_pos h]
    intro hok r hr p l e R s m args below meth c c0 u0 hA' H locs cells slots jls hRep hlo hc hu hL'
    obtain ⟨h1, h2⟩ := okb_cons hok
    obtain ⟨g1, g2⟩ := arr_at hA'.2.2.2.2.2.2.2.2.2.1 hRep (by decide) (by decide) h.1
    refine W.bast hA'.1 hA'.2.1 g1 g2 (fun h => by cases h) (by rw [arrV_size]; exact ib_in h.2) rfl rfl h1 (fun H' e1 e2 e3 => ?_)
    skip
    rw [narrow_byte] at e1
    refine kk h2 r hr p l e R s m args below meth c c0 u0 hA' H' _ cells slots jls (arr_pic (M' := sA M a (j.toNatClampNeg) v.toInt8.toInt32) hRep (by decide) (by decide) h.1 e1 e2 e3 rfl (fun b hb => same_sA hb) rfl rfl (fun i => ?_)) ?_ hc hu hL'
    · unfold updV av
      by_cases e : i = j.toNatClampNeg
      · subst e; simp [hA, hX, hL, sA, sX, sL, up2]
      · simp [hA, hX, hL, sA, sX, sL, up2, e]
    · intro y hy
      rcases List.mem_append.mp hy with hy | hy
      · exact hlo y hy
      · simp only [List.mem_cons, List.not_mem_nil, or_false] at hy
        subst hy
        exact (hRep.at (a := a) (by omega)).1
  · rw [if_neg h]; exact V_none
theorem B_lastc {a : Nat} {j : Int32} {v : Int64} (k : Nat) (hj : (decide (0 ≤ j) && decide (j.toNatClampNeg = k)) = true) (kk : VB G mi d lo (pc + 1) rest ls st (sL M a (k) v) q x) : VB G mi d lo pc ((.lastore, 1) :: rest) ls (.long v :: .int j :: .ref a :: st) M q (if hT M a = 19 ∧ k < hN M a then x else none) := by
  by_cases h : hT M a = 19 ∧ k < hN M a
  · rw [if_pos h]
    intro hok r hr p l e R s m args below meth c c0 u0 hA' H locs cells slots jls hRep hlo hc hu hL'
    obtain ⟨h1, h2⟩ := okb_cons hok
    obtain ⟨g1, g2⟩ := arr_at hA'.2.2.2.2.2.2.2.2.2.1 hRep (by decide) (by decide) h.1
    refine W.last hA'.1 hA'.2.1 g1 g2 (fun h => by cases h) (by rw [arrV_size]; exact ib_in (ib_c hj h.2)) rfl rfl h1 (fun H' e1 e2 e3 => ?_)
    rw [ib_k hj] at e1
    skip
    refine kk h2 r hr p l e R s m args below meth c c0 u0 hA' H' _ cells slots jls (arr_pic (M' := sL M a (k) v) hRep (by decide) (by decide) h.1 e1 e2 e3 rfl (fun b hb => same_sL hb) rfl rfl (fun i => ?_)) ?_ hc hu hL'
    · unfold updV av
      by_cases e : i = k
      · subst e; simp [hA, hX, hL, sA, sX, sL, up2]
      · simp [hA, hX, hL, sA, sX, sL, up2, e]
    · intro y hy
      rcases List.mem_append.mp hy with hy | hy
      · exact hlo y hy
      · simp only [List.mem_cons, List.not_mem_nil, or_false] at hy
        subst hy
        exact (hRep.at (a := a) (by omega)).1
  · rw [if_neg h]; exact V_none
theorem B_last {a : Nat} {j : Int32} {v : Int64} (kk : VB G mi d lo (pc + 1) rest ls st (sL M a (j.toNatClampNeg) v) q x) : VB G mi d lo pc ((.lastore, 1) :: rest) ls (.long v :: .int j :: .ref a :: st) M q (if hT M a = 19 ∧ ib j (hN M a) = true then x else none) := by
  by_cases h : hT M a = 19 ∧ ib j (hN M a) = true
  · rw [if_pos h]
    intro hok r hr p l e R s m args below meth c c0 u0 hA' H locs cells slots jls hRep hlo hc hu hL'
    obtain ⟨h1, h2⟩ := okb_cons hok
    obtain ⟨g1, g2⟩ := arr_at hA'.2.2.2.2.2.2.2.2.2.1 hRep (by decide) (by decide) h.1
    refine W.last hA'.1 hA'.2.1 g1 g2 (fun h => by cases h) (by rw [arrV_size]; exact ib_in h.2) rfl rfl h1 (fun H' e1 e2 e3 => ?_)
    skip
    skip
    refine kk h2 r hr p l e R s m args below meth c c0 u0 hA' H' _ cells slots jls (arr_pic (M' := sL M a (j.toNatClampNeg) v) hRep (by decide) (by decide) h.1 e1 e2 e3 rfl (fun b hb => same_sL hb) rfl rfl (fun i => ?_)) ?_ hc hu hL'
    · unfold updV av
      by_cases e : i = j.toNatClampNeg
      · subst e; simp [hA, hX, hL, sA, sX, sL, up2]
      · simp [hA, hX, hL, sA, sX, sL, up2, e]
    · intro y hy
      rcases List.mem_append.mp hy with hy | hy
      · exact hlo y hy
      · simp only [List.mem_cons, List.not_mem_nil, or_false] at hy
        subst hy
        exact (hRep.at (a := a) (by omega)).1
  · rw [if_neg h]; exact V_none
theorem B_alen {a : Nat} (kk : VB G mi d lo (pc + 1) rest ls (.int (nI (hN M a)) :: st) M q x) : VB G mi d lo pc ((.arraylength, 1) :: rest) ls (.ref a :: st) M q (if hT M a = 16 then x else none) := by
  by_cases h : hT M a = 16
  · rw [if_pos h]
    intro hok r hr p l e R s m args below meth c c0 u0 hA H locs cells slots jls hRep hlo hc hu hL
    obtain ⟨h1, h2⟩ := okb_cons hok
    obtain ⟨g1, g2⟩ := arr_at hA.2.2.2.2.2.2.2.2.2.1 hRep (by decide) (by decide) h
    exact W.alen hA.1 hA.2.1 g1 g2 (by rw [arrV_size]; rfl) rfl rfl h1 (kk h2 r hr p l e R s m args below meth c c0 u0 hA H locs cells slots jls hRep hlo hc hu hL)
  · rw [if_neg h]; exact V_none
/-- the law's script -/
theorem B_slen (kk : VB G mi d lo (pc + 1) rest ls (.int (nI (gL G)) :: st) M q x) : VB G mi d lo pc ((.arraylength, 1) :: rest) ls (.ref (gb G) :: st) M q x := by
  intro hok r hr p l e R s m args below meth c c0 u0 hA H locs cells slots jls hRep hlo hc hu hL
  obtain ⟨h1, h2⟩ := okb_cons hok
  obtain ⟨scr, g1, g2, g3, g4, g5, g6⟩ := hA.2.2.2.2.2.2.2.2.2.1.2.2.2.2.2.2.2
  exact W.alen hA.1 hA.2.1 (by rw [hRep.2.2.1 _ g2]; exact g1) g3 (by rw [g5]; rfl) rfl rfl h1 (kk h2 r hr p l e R s m args below meth c c0 u0 hA H locs cells slots jls hRep hlo hc hu hL)
theorem B_sld {j : Int32} (kk : VB G mi d lo (pc + 1) rest ls (.int (gx G j.toNatClampNeg) :: st) M q x) : VB G mi d lo pc ((.iaload, 1) :: rest) ls (.int j :: .ref (gb G) :: st) M q (if ib j (gL G) = true then x else none) := by
  by_cases h : ib j (gL G) = true
  · rw [if_pos h]
    intro hok r hr p l e R s m args below meth c c0 u0 hA H locs cells slots jls hRep hlo hc hu hL
    obtain ⟨h1, h2⟩ := okb_cons hok
    obtain ⟨scr, g1, g2, g3, g4, g5, g6⟩ := hA.2.2.2.2.2.2.2.2.2.1.2.2.2.2.2.2.2
    exact W.iald hA.1 hA.2.1 (by rw [hRep.2.2.1 _ g2]; exact g1) g3 g4 (by rw [g5]; exact ib_in h) (g6 _ (ib_lt h)) rfl rfl h1 (kk h2 r hr p l e R s m args below meth c c0 u0 hA H locs cells slots jls hRep hlo hc hu hL)
  · rw [if_neg h]; exact V_none
theorem ref_arr {t : Nat} (h1 : 20 ≤ t) (h2 : t < 24) : (aty t).isReference = true := by
  rcases (show t = 20 ∨ t = 21 ∨ t = 22 ∨ t = 23 by omega) with rfl | rfl | rfl | rfl <;> rfl
theorem B_aald {a : Nat} {j : Int32} (t : Nat) (htt : (decide (20 ≤ t) && decide (t < 24)) = true) {y : Nat → Option α} (kk : ∀ b : Nat, VB G mi d lo (pc + 1) rest ls (.ref b :: st) M q (y b)) : VB G mi d lo pc ((.aaload, 1) :: rest) ls (.int j :: .ref a :: st) M q (if hT M a = t ∧ ib j (hN M a) = true then (hX M a j.toNatClampNeg).bind y else none) := by
  simp only [Bool.and_eq_true, decide_eq_true_eq] at htt
  by_cases h : hT M a = t ∧ ib j (hN M a) = true
  · rw [if_pos h]
    cases hb : hX M a j.toNatClampNeg with
    | none => exact V_none
    | some b =>
      intro hok r hr p l e R s m args below meth c c0 u0 hA H locs cells slots jls hRep hlo hc hu hL
      obtain ⟨h1, h2⟩ := okb_cons hok
      obtain ⟨g1, g2⟩ := arr_at hA.2.2.2.2.2.2.2.2.2.1 hRep (by omega) (by omega) h.1
      refine W.aald (v := .ref b) hA.1 hA.2.1 g1 g2 (ref_arr (by omega) (by omega)) (fun h => by cases h) (by rw [arrV_size]; exact ib_in h.2) (by rw [arrV_read _ _ (ib_lt h.2)]; unfold av; rw [if_neg (by omega), if_neg (by omega), hb]; rfl) rfl rfl h1 (kk b h2 r hr p l e R s m args below meth c c0 u0 hA H locs cells slots jls hRep hlo hc hu hL)
  · rw [if_neg h]; exact V_none
def acl : Nat → Nat := fun t => match t with
  | 20 => 7
  | 21 => 8
  | 22 => 6
  | _ => 1
theorem B_aast {a b : Nat} {j : Int32} (t : Nat) (htt : (decide (20 ≤ t) && decide (t < 24)) = true) (kk : VB G mi d lo (pc + 1) rest ls st (sX M a j.toNatClampNeg (some b)) q x) : VB G mi d lo pc ((.aastore, 1) :: rest) ls (.ref b :: .int j :: .ref a :: st) M q (if hT M a = t ∧ ib j (hN M a) = true ∧ hT M b = acl t then x else none) := by
  simp only [Bool.and_eq_true, decide_eq_true_eq] at htt
  by_cases h : hT M a = t ∧ ib j (hN M a) = true ∧ hT M b = acl t
  · rw [if_pos h]
    intro hok r hr p l e R s m args below meth c c0 u0 hA' H locs cells slots jls hRep hlo hc hu hL'
    obtain ⟨h1, h2⟩ := okb_cons hok
    have hKn := hA'.2.2.2.2.2.2.2.2.2.1
    obtain ⟨g1, g2⟩ := arr_at hKn hRep (by omega) (by omega) h.1
    have hac : acl t < 12 := by unfold acl; split <;> decide
    obtain ⟨cell, q1, q2, q3, -⟩ := hRep.obj hac h.2.2
    have hcls := (hKn.2.1 (acl t) hac).2
    have hra : ∃ (kA : Class) (comp : ClassId), s.vm.classes[gA G t]? = some kA ∧ kA.kind = .array comp (aty t) ∧ s.vm.findClass (cR (acl t)) = some comp := by
      have := (hKn.2.2.1 t (by omega) (by omega)).2
      rcases (show t = 20 ∨ t = 21 ∨ t = 22 ∨ t = 23 by omega) with rfl | rfl | rfl | rfl <;> exact ⟨_, _, this.choose_spec.choose_spec.1, this.choose_spec.choose_spec.2.1, this.choose_spec.choose_spec.2.2.1⟩
    obtain ⟨kA, comp, k1, k2, k3⟩ := hra
    have hcomp : comp = (gD G).1 (acl t) := Option.some.inj (k3.symm.trans hcls.1)
    subst hcomp
    obtain ⟨kC, hkC, hk⟩ := hcls.2
    refine W.aast hA'.1 hA'.2.1 g1 (fun q h => by cases h) (fun h => by cases h) k1 k2 (ref_arr (by omega) (by omega)) hkC ⟨fun hq => ib_in h.2.1 (Or.inl hq), by rw [arrV_size]; exact ib_lt h.2.1⟩ q1 (fun q h => by rw [q3] at h; cases h) (by rw [q2]; exact hkC) (by rw [q2]; exact va_assign hcls) rfl rfl h1 (fun H' e1 e2 e3 => ?_)
    refine kk h2 r hr p l e R s m args below meth c c0 u0 hA' H' _ cells slots jls (arr_pic (M' := sX M a j.toNatClampNeg (some b)) hRep (by omega) (by omega) h.1 e1 e2 e3 rfl (fun b hb => same_sX hb) rfl rfl (fun i => ?_)) ?_ hc hu hL'
    · have n1 : ¬ t < 19 := by omega
      have n2 : ¬ t = 19 := by omega
      simp only [updV, av, n1, n2, if_false]
      by_cases e : i = j.toNatClampNeg
      · subst e; simp [hX, sX, up2, va_rf]
      · simp [hX, sX, up2, e]
    · intro y hy
      rcases List.mem_append.mp hy with hy | hy
      · exact hlo y hy
      · simp only [List.mem_cons, List.not_mem_nil, or_false] at hy
        subst hy
        exact (hRep.at (a := a) (by omega)).1
  · rw [if_neg h]; exact V_none
end R5
