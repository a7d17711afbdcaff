section P6
variable {G : GT} {B n d : Nat} {M M' M1 M2 : PH} {qs : List (Nat → Int32)}
/-- what adding to the row j leaves: the others, the rest -/
def AddR (G : GT) (B n j : Nat) (M M' : PH) : Prop := RowsOk B M' ∧ Room G B n M' ∧ DS B M M' ∧ ∀ i, i < 30 → i ≠ j → ∀ l', RowL M (rowA B i) l' → RowL M' (rowA B i) l'
theorem AddR.rf {j : Nat} (I : RowsOk B M) (R : Room G B n M) : AddR G B n j M M := ⟨I, R, DS.rf, fun _ _ _ _ h => h⟩
theorem AddR.tr {j : Nat} (h : AddR G B n j M M1) (k : AddR G B n j M1 M2) : AddR G B n j M M2 := ⟨k.1, k.2.1, h.2.2.1.tr k.2.2.1, fun i hi hne l hl => k.2.2.2 i hi hne l (h.2.2.2 i hi hne l hl)⟩
theorem row_at {j i : Nat} {l : List Int32} (hj : j < 30) (I : RowsOk B M) (h : RowL M (rowA B j) l) (hi : i < l.length) : ∃ c, hR M 0 (rowA B j) = some c ∧ hT M c = 16 ∧ ib (nI i) (hN M c) = true ∧ (nI i).toNatClampNeg = i ∧ hA M c i = l.getD i 0 := by
  obtain ⟨-, c, h1, h2, h3⟩ := h
  obtain ⟨-, c', q1, q2, q3, q4, -⟩ := I.1 j hj
  cases h1.symm.trans q1
  exact ⟨c, h1, q2, ib_nI (by omega) (by omega), nI_clamp (by omega), h3 i hi⟩
theorem drop_cons {l : List Int32} {i : Nat} (h : i < l.length) : l.drop i = l.getD i 0 :: l.drop (i + 1) := by
  rw [List.drop_eq_getElem_cons h]
  simp [List.getD_eq_getElem?_getD, h]
theorem addAll_loop {j j' : Nat} (hj : j < 30) (hj' : j' < 30) (hne : j' ≠ j) (l' : List Int32) (hl' : l'.length ≤ 16000) : ∀ (k m i : Nat) (l : List Int32) (M : PH), l'.length = i + k → k < m → l.length + k ≤ 16000 → RowsOk B M → Room G B n M → RowL M (rowA B j) l → RowL M (rowA B j') l' → ∃ M', w_Row_addAll_2 G m (rowA B j) (rowA B j') 0 (nI i) M = some M' ∧ RowL M' (rowA B j) (l ++ l'.drop i) ∧ AddR G B n j M M' := by
  intro k
  induction k with
  | zero =>
    intro m i l M hk hm hlen I R h h'
    obtain ⟨m, rfl⟩ : ∃ m', m = m' + 1 := ⟨m - 1, by omega⟩
    refine ⟨M, ?_, by rw [List.drop_eq_nil_of_le (by omega), List.append_nil]; exact h, AddR.rf I R⟩
    show b_Row_addAll_2 G _ _ _ _ _ _ = _
    have h1 : ri M (rowA B j') 1 = nI l'.length := h'.1
    have h2 : nI l'.length ≤ nI i := nI_le (by omega) (by omega)
    simp only [b_Row_addAll_2, (I.1 j' hj').1, hI_ri, h1, h2, not_true, not_false_iff, eq_self, ↓reduceIte, bV_s, bI_s, bR_s, bT_0, bU_0, ob_s, hb_e, vb_e, if_true, if_false, ite_true, ite_false]
  | succ k ih =>
    intro m i l M hk hm hlen I R h h'
    obtain ⟨m, rfl⟩ : ∃ m', m = m' + 1 := ⟨m - 1, by omega⟩
    obtain ⟨c, c1, c2, c3, c4, c5⟩ := row_at hj' I h' (show i < l'.length by omega)
    obtain ⟨M1, e1, a1, a2⟩ := e_Row_add (l'.getD i 0) hj I h (by omega) R
    obtain ⟨M2, e2, b1, b2⟩ := ih m (i + 1) (l ++ [l'.getD i 0]) M1 (by omega) (by omega) (by simp; omega) a2.1 a2.2.1 a1 (a2.2.2.2 j' hj' hne _ h')
    refine ⟨M2, ?_, ?_, AddR.tr ⟨a2.1, a2.2.1, a2.2.2.1, a2.2.2.2⟩ b2⟩
    · show b_Row_addAll_2 G _ _ _ _ _ _ = _
      have h1 : ri M (rowA B j') 1 = nI l'.length := h'.1
      have h2 : ¬ nI l'.length ≤ nI i := nI_ge (by omega) (by omega)
      have h3 : l'.getD i 0 + 0 = l'.getD i 0 := Int32.add_zero _
      rw [← nI_1] at e2
      simp only [b_Row_addAll_2, (I.1 j' hj').1, (I.1 j hj).1, hI_ri, h1, h2, c1, c2, c3, c4, c5, h3, e1, e2, not_true, not_false_iff, eq_self, ↓reduceIte, bV_s, bI_s, bR_s, bT_0, bU_0, ob_s, hb_e, vb_e, if_true, if_false, ite_true, ite_false]
    · rw [drop_cons (show i < l'.length by omega)]
      simpa using b1
theorem e_addAll {j j' : Nat} {l l' : List Int32} (hj : j < 30) (hj' : j' < 30) (hne : j' ≠ j) (hlen : l.length + l'.length ≤ 16000) (I : RowsOk B M) (R : Room G B n M) (h : RowL M (rowA B j) l) (h' : RowL M (rowA B j') l') : ∃ M', f_Row_addAll G (rowA B j) (rowA B j') 0 M = some M' ∧ RowL M' (rowA B j) (l ++ l') ∧ AddR G B n j M M' := by
  obtain ⟨M', e, a, b⟩ := addAll_loop (G := G) (n := n) hj hj' hne l' (by omega) l'.length 100000 0 l M (by omega) (by omega) (by omega) I R h h'
  exact ⟨M', e, by simpa using a, b⟩
/-- the commands of a list behind others: offsets and first indices grow -/
def shC (v x : Nat) (l : List Cmd) : List Cmd := l.map fun c => (c.1, c.2.1 + v, c.2.2.1 + x, c.2.2.2)
def addK (v x : Int32) (i : Nat) : Int32 := if i % 8 = 5 then v else if i % 8 = 6 then x else 0
theorem shC_at (v x : Nat) : ∀ (l : List Cmd) (i : Nat), i < 8 * l.length → (rC (shC v x l)).getD i 0 = (rC l).getD i 0 + addK (nI v) (nI x) i := by
  intro l
  induction l with
  | nil => intro i hi; simp at hi
  | cons c r ih =>
    intro i hi
    simp only [List.length_cons] at hi
    by_cases h : i < 8 * r.length
    · have e1 : (rC (shC v x (c :: r))).getD i 0 = (rC (shC v x r)).getD i 0 := by
        show (rC (shC v x r) ++ _).getD i 0 = _
        rw [List.getD_eq_getElem?_getD, List.getD_eq_getElem?_getD, List.getElem?_append_left (by rw [rC_len]; simpa [shC] using h)]
      have e2 : (rC (c :: r)).getD i 0 = (rC r).getD i 0 := by
        show (rC r ++ _).getD i 0 = _
        rw [List.getD_eq_getElem?_getD, List.getD_eq_getElem?_getD, List.getElem?_append_left (by rw [rC_len]; exact h)]
      rw [e1, e2, ih i h]
    · obtain ⟨k, hk, rfl⟩ : ∃ k, k < 8 ∧ i = 8 * r.length + k := ⟨i - 8 * r.length, by omega, by omega⟩
      have e1 := rC_at (c.1, c.2.1 + v, c.2.2.1 + x, c.2.2.2) (shC v x r) hk
      have el : (shC v x r).length = r.length := by simp [shC]
      rw [el] at e1
      have e1' : (rC (shC v x (c :: r))).getD (8 * r.length + k) 0 = (encC (c.1, c.2.1 + v, c.2.2.1 + x, c.2.2.2)).getD k 0 := e1
      rw [e1', rC_at c r hk]
      have hm : (8 * r.length + k) % 8 = k := by omega
      unfold addK
      rw [hm]
      have a1 : nI c.2.1 + nI v = nI (c.2.1 + v) := nI_add _ _
      have a2 : nI c.2.2.1 + nI x = nI (c.2.2.1 + x) := nI_add _ _
      rcases (show k = 0 ∨ k = 1 ∨ k = 2 ∨ k = 3 ∨ k = 4 ∨ k = 5 ∨ k = 6 ∨ k = 7 by omega) with rfl | rfl | rfl | rfl | rfl | rfl | rfl | rfl <;> simp [encC, a1, a2]
theorem append_loop (hd : 0 < d) (hd2 : d < 10) (l : List Cmd) (hl : 8 * l.length ≤ 16000) (v x : Nat) {R0 : Option PH} (hK : ∀ M1, RowsOk B M1 → DLok B M1 → b_DrawList_append_16 G (fun _ _ _ _ _ _ => none) (dlA B 0) (dlA B d) (nI v) (nI x) (nI (8 * l.length)) M1 = R0 → True) : ∀ (k m i : Nat) (cs : List Int32) (M : PH), 8 * l.length = i + k → k < m → cs.length + k ≤ 16000 → RowsOk B M → Room G B n M → DLok B M → RowL M (rowA B 0) cs → RowL M (rowA B (3 * d)) (rC l) → ∃ (M' : PH) (m' : Nat), w_DrawList_append_16 G m (dlA B 0) (dlA B d) (nI v) (nI x) (nI i) M = w_DrawList_append_16 G (m' + 1) (dlA B 0) (dlA B d) (nI v) (nI x) (nI (8 * l.length)) M' ∧ RowL M' (rowA B 0) (cs ++ (rC (shC v x l)).drop i) ∧ AddR G B n 0 M M' ∧ DLok B M' := by
  intro k
  induction k with
  | zero =>
    intro m i cs M hk hm hlen I R L h h'
    obtain ⟨m, rfl⟩ : ∃ m', m = m' + 1 := ⟨m - 1, by omega⟩
    have hi : i = 8 * l.length := by omega
    subst hi
    refine ⟨M, m, rfl, ?_, AddR.rf I R, L⟩
    have : (rC (shC v x l)).length = 8 * l.length := by rw [rC_len]; simp [shC]
    rw [List.drop_eq_nil_of_le (by omega), List.append_nil]
    exact h
  | succ k ih =>
    intro m i cs M hk hm hlen I R L h h'
    obtain ⟨m, rfl⟩ : ∃ m', m = m' + 1 := ⟨m - 1, by omega⟩
    have hrl := rC_len l
    obtain ⟨c, c1, c2, c3, c4, c5⟩ := row_at (j := 3 * d) (by omega) I h' (show i < (rC l).length by omega)
    obtain ⟨M1, e1, a1, a2⟩ := e_Row_add (G := G) (n := n) ((rC (shC v x l)).getD i 0) (j := 0) (by decide) I h (by omega) R
    have A1 : AddR G B n 0 M M1 := ⟨a2.1, a2.2.1, a2.2.2.1, a2.2.2.2⟩
    obtain ⟨M2, m2, e2, b1, b2, b3⟩ := ih m (i + 1) (cs ++ [(rC (shC v x l)).getD i 0]) M1 (by omega) (by omega) (by simp; omega) a2.1 a2.2.1 (L.ds a2.2.2.1) a1 (a2.2.2.2 (3 * d) (by omega) (by omega) _ h')
    refine ⟨M2, m2, ?_, ?_, AddR.tr A1 b2, b3⟩
    · rw [← e2]
      show b_DrawList_append_16 G (w_DrawList_append_16 G m) _ _ _ _ _ _ = _
      obtain ⟨t1, t2, -⟩ := L d hd2
      obtain ⟨u1, u2, -⟩ := L 0 (by decide)
      have h1 : ri M (rowA B (3 * d)) 1 = nI (8 * l.length) := by rw [h'.1, hrl]
      have h2 : ¬ nI (8 * l.length) ≤ nI i := nI_ge (by omega) (by omega)
      have h8 : ¬ (8 : Int32) = 0 := by decide
      have hrem : nI i - nI i / (8 : Int32) * 8 = nI (i % 8) := pk_rem (d := 8) (by omega) (by decide) (by decide)
      rw [shC_at v x l i (by omega)] at e1
      have r0 : hT M (rowA B 0) = 0 := (I.1 0 (by decide)).1
      by_cases h5 : i % 8 = 5
      · have g5 : nI (i % 8) = (5 : Int32) := by rw [h5]; rfl
        have ak : addK (nI v) (nI x) i = nI v := by simp [addK, h5]
        rw [ak] at e1
        simp only [b_DrawList_append_16, b_DrawList_append_70, t1, t2, u1, u2, (I.1 (3 * d) (by omega)).1, hI_ri, h1, h2, c1, c2, c3, c4, c5, h8, hrem, g5, r0, e1, nI_succ, not_true, not_false_iff, eq_self, ↓reduceIte, bV_s, bI_s, bR_s, bT_0, bU_0, ob_s, hb_e, vb_e, if_true, if_false, ite_true, ite_false]
      · have g5 : ¬ nI (i % 8) = (5 : Int32) := fun q => h5 ((nI_eq (a := i % 8) (b := 5) (by omega) (by decide)).mp q)
        by_cases h6 : i % 8 = 6
        · have g6 : nI (i % 8) = (6 : Int32) := by rw [h6]; rfl
          have ak : addK (nI v) (nI x) i = nI x := by simp [addK, h6]
          rw [ak] at e1
          have g65 : ¬ (6 : Int32) = 5 := by decide
          simp only [b_DrawList_append_16, b_DrawList_append_70, t1, t2, u1, u2, (I.1 (3 * d) (by omega)).1, hI_ri, h1, h2, c1, c2, c3, c4, c5, h8, hrem, g6, g65, r0, e1, nI_succ, not_true, not_false_iff, eq_self, ↓reduceIte, bV_s, bI_s, bR_s, bT_0, bU_0, ob_s, hb_e, vb_e, if_true, if_false, ite_true, ite_false]
        · have g6 : ¬ nI (i % 8) = (6 : Int32) := fun q => h6 ((nI_eq (a := i % 8) (b := 6) (by omega) (by decide)).mp q)
          have ak : addK (nI v) (nI x) i = 0 := by simp [addK, h5, h6]
          rw [ak] at e1
          simp only [b_DrawList_append_16, b_DrawList_append_70, t1, t2, u1, u2, (I.1 (3 * d) (by omega)).1, hI_ri, h1, h2, c1, c2, c3, c4, c5, h8, hrem, g5, g6, r0, e1, nI_succ, not_true, not_false_iff, eq_self, ↓reduceIte, bV_s, bI_s, bR_s, bT_0, bU_0, ob_s, hb_e, vb_e, if_true, if_false, ite_true, ite_false]
    · have hsl : (rC (shC v x l)).length = 8 * l.length := by rw [rC_len]; simp [shC]
      rw [drop_cons (show i < (rC (shC v x l)).length by omega)]
      simpa using b1
/-- DrawList.append to the drawing -/
theorem e_append {cs is vs : List Int32} (hd : 0 < d) (hd2 : d < 10) (h : DC G B n 0 M cs is vs) (hq : DQ G B n d M qs) (hl : qs.length ≤ 1300) (h1 : cs.length + 8 * qs.length ≤ 16000) (h2 : is.length + 6 * qs.length ≤ 16000) (h3 : vs.length + 12 * qs.length ≤ 16000) : ∃ M', f_DrawList_append G (dlA B 0) (dlA B d) M = some M' ∧ DC G B n 0 M' (cs ++ rC (shC (vs.length / 3) is.length (dC qs))) (is ++ dX qs) (vs ++ dV qs) ∧ DR B 0 M M' := by
  have hq' : DC G B n d M (rC (dC qs)) (dX qs) (dV qs) := hq
  obtain ⟨I, R, L, r1, r2, r3⟩ := id h
  obtain ⟨-, -, -, s1, s2, s3⟩ := id hq'
  have lc := dC_len qs
  have lx := dX_len qs
  have lv := dV_len qs
  obtain ⟨M1, m1, e1, a1, a2, a3⟩ := append_loop (G := G) (n := n) (B := B) hd hd2 (dC qs) (by omega) (vs.length / 3) is.length (R0 := none) (fun _ _ _ _ => trivial) (8 * (dC qs).length) 100000 0 cs M (by omega) (by omega) (by omega) I R L r1 s1
  have q2 := a2.2.2.2 1 (by decide) (by decide) _ r2
  have q3 := a2.2.2.2 2 (by decide) (by decide) _ r3
  have p1 := a2.2.2.2 (3 * d) (by omega) (by omega) _ s1
  have p2 := a2.2.2.2 (3 * d + 1) (by omega) (by omega) _ s2
  have p3 := a2.2.2.2 (3 * d + 2) (by omega) (by omega) _ s3
  obtain ⟨M2, e2, b1, b2⟩ := e_addAll (G := G) (n := n) (j := 1) (j' := 3 * d + 1) (by decide) (by omega) (by omega) (by omega) a2.1 a2.2.1 q2 p2
  have L2 := a3.ds b2.2.2.1
  have q3' := b2.2.2.2 2 (by decide) (by decide) _ q3
  have p3' := b2.2.2.2 (3 * d + 2) (by omega) (by omega) _ p3
  obtain ⟨M3, e3, c1, c2⟩ := e_addAll (G := G) (n := n) (j := 2) (j' := 3 * d + 2) (by decide) (by omega) (by omega) (by omega) b2.1 b2.2.1 q3' p3'
  have w1 := c2.2.2.2 0 (by decide) (by decide) _ (b2.2.2.2 0 (by decide) (by decide) _ a1)
  have w2 := c2.2.2.2 1 (by decide) (by decide) _ b1
  refine ⟨M3, ?_, ⟨c2.1, c2.2.1, L2.ds c2.2.2.1, by simpa using w1, w2, c1⟩, (a2.2.2.1.tr b2.2.2.1).tr c2.2.2.1, fun j hj hjd l hjl => c2.2.2.2 j hj (by omega) l (b2.2.2.2 j hj (by omega) l (a2.2.2.2 j hj (by omega) l hjl))⟩
  obtain ⟨t1, t2, t3, t4, -⟩ := L 0 (by decide)
  have em := e_made (d := 0) (by decide) h (by omega)
  have hi : ri M (rowA B (3 * 0 + 1)) 1 = nI is.length := r2.1
  have hz1 : hT M (rowA B (3 * 0 + 1)) = 0 := (I.1 1 (by decide)).1
  have hhead : f_DrawList_append G (dlA B 0) (dlA B d) M = w_DrawList_append_16 G FU (dlA B 0) (dlA B d) (nI (vs.length / 3)) (nI is.length) 0 M := by
    simp only [f_DrawList_append, t1, t3, em, hz1, hI_ri, hi, not_true, not_false_iff, eq_self, ↓reduceIte, bV_s, bI_s, bR_s, bT_0, bU_0, ob_s, hb_e, vb_e, if_true, if_false, ite_true, ite_false]
  rw [hhead]
  refine Eq.trans e1 ?_
  show b_DrawList_append_16 G (w_DrawList_append_16 G m1) _ _ _ _ _ _ = _
  obtain ⟨u1, u2, u3, u4, -⟩ := a3 d hd2
  obtain ⟨v1, v2, v3, v4, -⟩ := a3 0 (by decide)
  obtain ⟨x1, x2, x3, x4, -⟩ := L2 d hd2
  obtain ⟨y1, y2, y3, y4, -⟩ := L2 0 (by decide)
  have hs : ri M1 (rowA B (3 * d)) 1 = nI (8 * (dC qs).length) := by rw [p1.1, rC_len]
  have hle : nI (8 * (dC qs).length) ≤ nI (8 * (dC qs).length) := Int32.le_refl _
  have z1 : hT M1 (rowA B (3 * d)) = 0 := (a2.1.1 _ (by omega)).1
  have z2 : hT M1 (rowA B (3 * 0 + 1)) = 0 := (a2.1.1 1 (by decide)).1
  have z3 : hT M2 (rowA B (3 * 0 + 2)) = 0 := (b2.1.1 2 (by decide)).1
  have e2' : f_Row_addAll G (rowA B (3 * 0 + 1)) (rowA B (3 * d + 1)) 0 M1 = some M2 := e2
  have e3' : f_Row_addAll G (rowA B (3 * 0 + 2)) (rowA B (3 * d + 2)) 0 M2 = some M3 := e3
  simp only [b_DrawList_append_16, u1, u2, u3, v1, v3, x1, x4, y1, y4, hI_ri, hs, hle, z1, z2, z3, e2', e3', not_true, not_false_iff, eq_self, ↓reduceIte, bV_s, bI_s, bR_s, bT_0, bU_0, ob_s, hb_e, vb_e, if_true, if_false, ite_true, ite_false]
/-- DrawList.clear -/
theorem e_clear {cs is vs : List Int32} (hd : d < 10) (h : DC G B n d M cs is vs) : ∃ M', f_DrawList_clear G (dlA B d) M = some M' ∧ DQ G B n d M' [] ∧ DR B d M M' := by
  obtain ⟨t1, t2, t3, t4, t5, t6, t7⟩ := h.t hd
  obtain ⟨I, R, L, r1, r2, r3⟩ := id h
  refine ⟨wR (wR (wR M (rowA B (3 * d)) (va_up (ri M (rowA B (3 * d))) 1 0)) (rowA B (3 * d + 1)) (va_up (ri M (rowA B (3 * d + 1))) 1 0)) (rowA B (3 * d + 2)) (va_up (ri M (rowA B (3 * d + 2))) 1 0), ?_, ⟨I, R, L, ?_, ?_, ?_⟩, ⟨Nat.le_refl _, fun a _ => ⟨rfl, rfl, fun _ => rfl, fun _ => rfl⟩, fun a ha ht => ?_, fun f a _ => rfl, fun a _ _ => rfl⟩, fun j hj hjd l hl => ?_⟩
  · have n1 : rowA B (3 * d + 1) ≠ rowA B (3 * d) := fun q => by have := rowA_inj (by omega) (by omega) q; omega
    have n2 : rowA B (3 * d + 2) ≠ rowA B (3 * d) := fun q => by have := rowA_inj (by omega) (by omega) q; omega
    have n3 : rowA B (3 * d + 2) ≠ rowA B (3 * d + 1) := fun q => by have := rowA_inj (by omega) (by omega) q; omega
    simp only [f_DrawList_clear, t1, t2, t3, t4, t5, t6, t7, not_true, not_false_iff, eq_self, ↓reduceIte, bV_s, bI_s, bR_s, bT_0, bU_0, ob_s, hb_e, vb_e, if_true, if_false, ite_true, ite_false, hT_wR, hT_wA, hT_sI, hT_sA, hT_sR, hT_sX, hT_sL, hN_wR, hN_wA, hN_sI, hN_sA, hN_sR, hN_sX, hN_sL, hR_wR, hR_wA, hR_sI, hR_sA, hR_sX, hR_sL, hX_wR, hX_wA, hX_sI, hX_sA, hX_sR, hX_sL, hI_ri, sI_wR, sA_wA, ri_wR_self, ri_wA, ri_sA, ri_sR, ri_sX, ri_sL, hA_wA_self, hA_wR, hA_sI, hA_sR, hA_sX, hA_sL, wR_wR, wA_wA, wR_ri, wA_hA, vu_self, vu_vu, vu_at, hZ_wR, hZ_wA, hU_wR, hU_wA, ri_wR_ne n1, ri_wR_ne n2, ri_wR_ne n3]
  · obtain ⟨-, c, c1, c2, c3⟩ := r1
    have n1 : rowA B (3 * d) ≠ rowA B (3 * d + 1) := fun q => by have := rowA_inj (by omega) (by omega) q; omega
    have n2 : rowA B (3 * d) ≠ rowA B (3 * d + 2) := fun q => by have := rowA_inj (by omega) (by omega) q; omega
    exact ⟨by rw [ri_wR_ne n2, ri_wR_ne n1, ri_wR_self, vu_at]; rfl, c, c1, Nat.zero_le _, fun i hi => by cases hi⟩
  · obtain ⟨-, c, c1, c2, c3⟩ := r2
    have n2 : rowA B (3 * d + 1) ≠ rowA B (3 * d + 2) := fun q => by have := rowA_inj (by omega) (by omega) q; omega
    exact ⟨by rw [ri_wR_ne n2, ri_wR_self, vu_at]; rfl, c, c1, Nat.zero_le _, fun i hi => by cases hi⟩
  · obtain ⟨-, c, c1, c2, c3⟩ := r3
    exact ⟨by rw [ri_wR_self, vu_at]; rfl, c, c1, Nat.zero_le _, fun i hi => by cases hi⟩
  · have k : ∀ j, j < 30 → a ≠ rowA B j := fun j hj q => ht (by rw [q]; exact (I.1 j hj).1)
    rw [ri_wR_ne (k _ (by omega)), ri_wR_ne (k _ (by omega)), ri_wR_ne (k _ (by omega))]
  · obtain ⟨g1, c, g2, g3, g4⟩ := hl
    have k : ∀ i, i < 30 → i / 3 = d → rowA B j ≠ rowA B i := fun i hi hid q => hjd (by rw [rowA_inj hj hi q]; exact hid)
    exact ⟨by rw [ri_wR_ne (k _ (by omega) (by omega)), ri_wR_ne (k _ (by omega) (by omega)), ri_wR_ne (k _ (by omega) (by omega))]; exact g1, c, g2, g3, g4⟩
end P6
