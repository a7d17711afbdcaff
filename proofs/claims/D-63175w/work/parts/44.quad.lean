section P4
variable {G : GT} {B n d : Nat} {M M' M1 M2 : PH} {cs is vs : List Int32}
theorem nI_s8 {m : Nat} : nI (8 * (m + 1)) - 8 = nI (8 * m) := by
  have := pk_sub (a := 8 * (m + 1)) (b := 8) (by omega)
  rw [show 8 * (m + 1) - 8 = 8 * m by omega] at this
  exact this
theorem nI_lit {a b : Nat} {v : Int32} (h : nI b = v) : nI a + v = nI (a + b) := by rw [← h]; exact nI_add a b
def six_k (i : Int32) : Int32 := if 3 ≤ i then (if ¬ i = 3 then i - 2 else 0) else i
theorem q_step (hd : d < 10) (h : DC G B n d M cs is vs) {a v i : Int32} (k : Nat) (hi : ¬ (6 : Int32) ≤ i) (hl : is.length ≤ 16000) : ∃ M1, w_DrawList_quad_276 G (k + 1) (dlA B d) a v i M = w_DrawList_quad_276 G k (dlA B d) a v (i + 1) M1 ∧ DC G B n d M1 cs (is ++ [v + six_k i]) vs ∧ DR B d M M1 := by
  obtain ⟨t1, -, t2, -, -, t3, -⟩ := h.t hd
  obtain ⟨M1, e1, h1, k1⟩ := add_i hd h (v + six_k i) hl
  refine ⟨M1, ?_, h1, k1⟩
  show b_DrawList_quad_276 G (w_DrawList_quad_276 G k) _ _ _ _ _ = _
  unfold six_k at e1
  by_cases h3 : (3 : Int32) ≤ i
  · by_cases h4 : i = 3
    · subst h4
      rw [if_pos h3, if_neg (fun q => q rfl)] at e1
      simp only [b_DrawList_quad_276, b_DrawList_quad_314, hi, h3, t1, t2, t3, e1, not_true, not_false_iff, eq_self, ↓reduceIte, bV_s, bI_s, bR_s, bT_0, bU_0, ob_s, hb_e, vb_e, if_true, if_false, ite_true, ite_false, not_true]
    · simp only [h3, h4, if_true, not_false_iff] at e1
      simp only [b_DrawList_quad_276, b_DrawList_quad_314, hi, h3, h4, t1, t2, t3, e1, not_true, not_false_iff, eq_self, ↓reduceIte, bV_s, bI_s, bR_s, bT_0, bU_0, ob_s, hb_e, vb_e, if_true, if_false, ite_true, ite_false, not_false_iff]
  · simp only [h3, if_false] at e1
    simp only [b_DrawList_quad_276, b_DrawList_quad_314, hi, h3, t1, t2, t3, e1, not_true, not_false_iff, eq_self, ↓reduceIte, bV_s, bI_s, bR_s, bT_0, bU_0, ob_s, hb_e, vb_e, if_true, if_false, ite_true, ite_false]
theorem q_last (hd : d < 10) (h : DC G B n d M cs is vs) {v : Int32} {m : Nat} (k : Nat) (hm : cs.length = 8 * (m + 1)) (hl : cs.length ≤ 16000) : ∃ M1, w_DrawList_quad_276 G (k + 1) (dlA B d) (nI (8 * m)) v 6 M = some M1 ∧ DC G B n d M1 (bump cs (8 * m + 7)) is vs ∧ DR B d M M1 := by
  obtain ⟨t1, t2, -, -, t3, -, -⟩ := h.t hd
  obtain ⟨l1, c, l2, l3, l4⟩ := id h.2.2.2.1
  obtain ⟨-, c', q1, q2, q3, q4, -⟩ := h.1.1 (3 * d) (by omega)
  cases l2.symm.trans q1
  have e7 : nI (8 * m) + (7 : Int32) = nI (8 * m + 7) := nI_lit rfl
  have hib : ib (nI (8 * m + 7)) (hN M c) = true := ib_nI (by omega) (by omega)
  have hcl : (nI (8 * m + 7)).toNatClampNeg = 8 * m + 7 := nI_clamp (by omega)
  obtain ⟨s1, s2⟩ := e_set (v := cs.getD (8 * m + 7) 0 + 6) hd h l2 (show 8 * m + 7 < cs.length by omega)
  refine ⟨_, ?_, s1, s2⟩
  show b_DrawList_quad_276 G (w_DrawList_quad_276 G k) _ _ _ _ _ = _
  have h66 : (6 : Int32) ≤ 6 := by decide
  simp only [b_DrawList_quad_276, h66, t1, t2, t3, l2, q2, e7, hib, hcl, not_true, not_false_iff, eq_self, ↓reduceIte, bV_s, bI_s, bR_s, bT_0, bU_0, ob_s, hb_e, vb_e, if_true, if_false, ite_true, ite_false, hI_ri, sI_wR, sA_wA, ri_wR_self, ri_wA, ri_sA, ri_sR, ri_sX, ri_sL, hA_wA_self, hA_wR, hA_sI, hA_sR, hA_sX, hA_sL, wR_wR, wA_wA, wR_ri, wA_hA, vu_self, vu_vu, vu_at, hZ_wR, hZ_wA, hU_wR, hU_wA, l4 (8 * m + 7) (by omega)]
theorem q_loop (hd : d < 10) (h : DC G B n d M cs is vs) {v : Int32} {m : Nat} (hm : cs.length = 8 * (m + 1)) (hl : cs.length ≤ 16000) (hi : is.length ≤ 15990) : ∃ M1, w_DrawList_quad_276 G FU (dlA B d) (nI (8 * m)) v 0 M = some M1 ∧ DC G B n d M1 (bump cs (8 * m + 7)) (is ++ six v) vs ∧ DR B d M M1 := by
  obtain ⟨M1, e1, h1, k1⟩ := q_step (a := nI (8 * m)) (v := v) (i := 0) hd h 99999 (by decide) (by omega)
  obtain ⟨M2, e2, h2, k2⟩ := q_step (a := nI (8 * m)) (v := v) (i := 1) hd h1 99998 (by decide) (by simp; omega)
  obtain ⟨M3, e3, h3, k3⟩ := q_step (a := nI (8 * m)) (v := v) (i := 2) hd h2 99997 (by decide) (by simp; omega)
  obtain ⟨M4, e4, h4, k4⟩ := q_step (a := nI (8 * m)) (v := v) (i := 3) hd h3 99996 (by decide) (by simp; omega)
  obtain ⟨M5, e5, h5, k5⟩ := q_step (a := nI (8 * m)) (v := v) (i := 4) hd h4 99995 (by decide) (by simp; omega)
  obtain ⟨M6, e6, h6, k6⟩ := q_step (a := nI (8 * m)) (v := v) (i := 5) hd h5 99994 (by decide) (by simp; omega)
  obtain ⟨M7, e7, h7, k7⟩ := q_last (v := v) hd h6 99993 hm hl
  refine ⟨M7, ?_, ?_, (((((k1.tr k2).tr k3).tr k4).tr k5).tr k6).tr k7⟩
  · show w_DrawList_quad_276 G (99999 + 1) _ _ _ _ _ = _
    rw [e1, show (0 : Int32) + 1 = 1 from rfl]
    show w_DrawList_quad_276 G (99998 + 1) _ _ _ _ _ = _
    rw [e2, show (1 : Int32) + 1 = 2 from rfl]
    show w_DrawList_quad_276 G (99997 + 1) _ _ _ _ _ = _
    rw [e3, show (2 : Int32) + 1 = 3 from rfl]
    show w_DrawList_quad_276 G (99996 + 1) _ _ _ _ _ = _
    rw [e4, show (3 : Int32) + 1 = 4 from rfl]
    show w_DrawList_quad_276 G (99995 + 1) _ _ _ _ _ = _
    rw [e5, show (4 : Int32) + 1 = 5 from rfl]
    show w_DrawList_quad_276 G (99994 + 1) _ _ _ _ _ = _
    rw [e6, show (5 : Int32) + 1 = 6 from rfl]
    exact e7
  · have : is ++ [v + six_k 0] ++ [v + six_k 1] ++ [v + six_k 2] ++ [v + six_k 3] ++ [v + six_k 4] ++ [v + six_k 5] = is ++ six v := by
      simp [six, six_k]
    rw [this] at h7
    exact h7
/-- a quad's twelve numbers -/
def twelve (q : Nat → Int32) : List Int32 := [q 0, q 1, q 4, q 2, q 1, q 4, q 2, q 3, q 4, q 0, q 3, q 4]
def qOf (g k : Nat → Int32) (col tex : Int32) : Nat → Int32 := fun i => match i with
  | 0 => g 200
  | 1 => g 201
  | 2 => g 202
  | 3 => g 203
  | 4 => col
  | 5 => tex
  | 6 => k 200
  | 7 => k 201
  | 8 => k 202
  | _ => k 203
theorem q_200 (hd : d < 10) (h : DC G B n d M cs is vs) {r m off : Nat} {col : Int32} (hr : hT M r = 1) (hz : r < hZ M) (hm : cs.length = 8 * (m + 1)) (hl : cs.length ≤ 16000) (hi : is.length ≤ 15990) (hv : vs.length ≤ 15980) (hoff : off ≤ vs.length / 3) : ∃ M1, b_DrawList_quad_200 G (dlA B d) r col (nI off) M = some M1 ∧ DC G B n d M1 (bump cs (8 * m + 7)) (is ++ six (nI (vs.length / 3 - off))) (vs ++ [ri M r 200, ri M r 201, col, ri M r 202, ri M r 201, col, ri M r 202, ri M r 203, col, ri M r 200, ri M r 203, col]) ∧ DR B d M M1 := by
  obtain ⟨t1, t2, -, -, t3, -, -⟩ := h.t hd
  have hcl : ri M (rowA B (3 * d)) 1 = nI cs.length := h.2.2.2.1.1
  have e8 : nI cs.length - (8 : Int32) = nI (8 * m) := by rw [hm]; exact nI_s8
  have em := e_made hd h (by omega)
  have eo : nI (vs.length / 3) - nI off = nI (vs.length / 3 - off) := pk_sub hoff
  obtain ⟨M1, e1, h1, k1⟩ := e_vertex hd h (ri M r 200) (ri M r 201) col (by omega)
  obtain ⟨r1, r2, r3⟩ := k1.rect hr hz
  obtain ⟨u1, -⟩ := h1.t hd
  obtain ⟨M2, e2, h2, k2⟩ := e_vertex hd h1 (ri M r 202) (ri M r 201) col (by simp; omega)
  obtain ⟨r4, r5, r6⟩ := (k1.tr k2).rect hr hz
  obtain ⟨v1, -⟩ := h2.t hd
  obtain ⟨M3, e3, h3, k3⟩ := e_vertex hd h2 (ri M r 202) (ri M r 203) col (by simp; omega)
  obtain ⟨r7, r8, r9⟩ := ((k1.tr k2).tr k3).rect hr hz
  obtain ⟨w1, -⟩ := h3.t hd
  obtain ⟨M4, e4, h4, k4⟩ := e_vertex hd h3 (ri M r 200) (ri M r 203) col (by simp; omega)
  obtain ⟨M5, e5, h5, k5⟩ := q_loop (v := nI (vs.length / 3 - off)) hd h4 hm hl hi
  refine ⟨M5, ?_, by simpa using h5, (((k1.tr k2).tr k3).tr k4).tr k5⟩
  simp only [b_DrawList_quad_200, t1, t2, t3, hI_ri, hcl, e8, em, eo, hr, e1, r1, r2, u1, e2, r4, r5, v1, e3, r7, r8, w1, e4, e5, not_true, not_false_iff, eq_self, ↓reduceIte, bV_s, bI_s, bR_s, bT_0, bU_0, ob_s, hb_e, vb_e, if_true, if_false, ite_true, ite_false]
/-! the commands of a list of quads (the last quad first); a command: the quad that begins it, its offset, its first index, its number of indices -/
abbrev Cmd : Type := (Nat → Int32) × Nat × Nat × Nat
abbrev sameCT (p q : Nat → Int32) : Prop := p 6 = q 6 ∧ p 7 = q 7 ∧ p 8 = q 8 ∧ p 9 = q 9 ∧ p 5 = q 5
def cStep (q : Nat → Int32) (i : Nat) (l : List Cmd) : List Cmd := match l with
  | [] => [(q, 4 * i, 6 * i, 6)]
  | c :: r => if 4 * i - c.2.1 < 64 then (if sameCT c.1 q then (c.1, c.2.1, c.2.2.1, c.2.2.2 + 6) :: r else (q, c.2.1, 6 * i, 6) :: c :: r) else (q, 4 * i, 6 * i, 6) :: c :: r
def dC : List (Nat → Int32) → List Cmd
  | [] => []
  | q :: qs => cStep q qs.length (dC qs)
def cOff : List Cmd → Nat
  | [] => 0
  | c :: _ => c.2.1
def dX : List (Nat → Int32) → List Int32
  | [] => []
  | q :: qs => dX qs ++ six (nI (4 * qs.length - cOff (dC (q :: qs))))
def dV : List (Nat → Int32) → List Int32
  | [] => []
  | q :: qs => dV qs ++ twelve q
def encC (c : Cmd) : List Int32 := [c.1 6, c.1 7, c.1 8, c.1 9, c.1 5, nI c.2.1, nI c.2.2.1, nI c.2.2.2]
def rC : List Cmd → List Int32
  | [] => []
  | c :: r => rC r ++ encC c
theorem rC_len (l : List Cmd) : (rC l).length = 8 * l.length := by
  induction l with
  | nil => rfl
  | cons c r ih => simp [rC, encC, ih]; omega
theorem dX_len (l : List (Nat → Int32)) : (dX l).length = 6 * l.length := by
  induction l with
  | nil => rfl
  | cons c r ih => simp [dX, six, ih]; omega
theorem dV_len (l : List (Nat → Int32)) : (dV l).length = 12 * l.length := by
  induction l with
  | nil => rfl
  | cons c r ih => simp [dV, twelve, ih]; omega
theorem rC_at (c : Cmd) (r : List Cmd) {k : Nat} (hk : k < 8) : (rC (c :: r)).getD (8 * r.length + k) 0 = (encC c).getD k 0 := by
  unfold rC
  rw [List.getD_eq_getElem?_getD, List.getD_eq_getElem?_getD, List.getElem?_append_right (by rw [rC_len]; omega), rC_len]
  congr 2
  omega
theorem dC_len (l : List (Nat → Int32)) : (dC l).length ≤ l.length ∧ (l ≠ [] → dC l ≠ []) := by
  induction l with
  | nil => exact ⟨Nat.le_refl _, fun h => absurd rfl h⟩
  | cons q qs ih =>
    unfold dC cStep
    cases hc : dC qs with
    | nil => exact ⟨by simp, fun _ => by simp⟩
    | cons c r =>
      rw [hc] at ih
      have := ih.1
      simp only [List.length_cons] at this ⊢
      by_cases h1 : 4 * qs.length - c.2.1 < 64
      · by_cases h2 : sameCT c.1 q
        · simp only [if_pos h1, if_pos h2]; exact ⟨by simp; omega, fun _ => by simp⟩
        · simp only [if_pos h1, if_neg h2]; exact ⟨by simp; omega, fun _ => by simp⟩
      · simp only [if_neg h1]; exact ⟨by simp; omega, fun _ => by simp⟩
theorem dC_off (l : List (Nat → Int32)) : ∀ c ∈ dC l, c.2.1 ≤ 4 * l.length := by
  induction l with
  | nil => intro c hc; cases hc
  | cons q qs ih =>
    intro c hc
    unfold dC cStep at hc
    simp only [List.length_cons]
    cases hd : dC qs with
    | nil =>
      rw [hd] at hc
      simp only [List.mem_singleton] at hc
      subst hc
      show 4 * qs.length ≤ _
      omega
    | cons c' r =>
      rw [hd] at hc ih
      have old : ∀ x ∈ c' :: r, x.2.1 ≤ 4 * (qs.length + 1) := fun x hx => by have := ih x hx; omega
      have h0 := old c' List.mem_cons_self
      dsimp only at hc
      split at hc
      · split at hc
        · rcases List.mem_cons.mp hc with rfl | hc
          · exact h0
          · exact old c (List.mem_cons_of_mem _ hc)
        · rcases List.mem_cons.mp hc with rfl | hc
          · exact h0
          · exact old c hc
      · rcases List.mem_cons.mp hc with rfl | hc
        · show 4 * qs.length ≤ _
          omega
        · exact old c hc
/-- the draw list d holds these quads -/
def DQ (G : GT) (B n d : Nat) (M : PH) (qs : List (Nat → Int32)) : Prop := DC G B n d M (rC (dC qs)) (dX qs) (dV qs)
theorem bump_rC (c : Cmd) (r : List Cmd) : bump (rC (c :: r)) (8 * r.length + 7) = rC ((c.1, c.2.1, c.2.2.1, c.2.2.2 + 6) :: r) := by
  unfold bump
  rw [rC_at c r (by decide)]
  show (rC r ++ encC c).set (8 * r.length + 7) _ = rC r ++ _
  rw [List.set_append_right _ _ (by rw [rC_len]; omega), rC_len, show 8 * r.length + 7 - 8 * r.length = 7 by omega]
  have : nI c.2.2.2 + 6 = nI (c.2.2.2 + 6) := nI_lit rfl
  simp [encC, this]
end P4
