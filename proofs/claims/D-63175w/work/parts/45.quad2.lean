section P5
variable {G : GT} {B n d : Nat} {M M' M1 M2 : PH} {qs : List (Nat → Int32)}
theorem q_new (hd : d < 10) (h : DQ G B n d M qs) {r k off : Nat} {col tex : Int32} (hr : hT M r = 1) (hz : r < hZ M) (hk : hT M k = 1) (hkz : k < hZ M) (hl : qs.length ≤ 1300) (hoff : off ≤ 4 * qs.length) : ∃ M1, b_DrawList_quad_186 G (dlA B d) r col tex k (nI off) 0 M = some M1 ∧ DC G B n d M1 (rC ((qOf (ri M r) (ri M k) col tex, off, 6 * qs.length, 6) :: dC qs)) (dX qs ++ six (nI (4 * qs.length - off))) (dV qs ++ twelve (qOf (ri M r) (ri M k) col tex)) ∧ DR B d M M1 := by
  have hc := dC_len qs
  have h' : DC G B n d M (rC (dC qs)) (dX qs) (dV qs) := h
  obtain ⟨t1, -⟩ := h'.t hd
  have l1 := rC_len (dC qs)
  have l2 := dX_len qs
  have l3 := dV_len qs
  obtain ⟨M1, e1, h1, k1⟩ := e_command hd h' hk hkz tex (nI off) (by omega)
  obtain ⟨r1, r2, r3⟩ := k1.rect hr hz
  obtain ⟨M2, e2, h2, k2⟩ := q_200 (r := r) (m := (dC qs).length) (off := off) (col := col) hd h1 r1 r3 (by simp [l1]; omega) (by simp [l1]; omega) (by omega) (by omega) (by omega)
  refine ⟨M2, ?_, ?_, k1.tr k2⟩
  · have n0 : ¬ ¬ (0 : Int32) = 0 := fun q => q rfl
    simp only [b_DrawList_quad_186, n0, t1, e1, e2, not_true, not_false_iff, eq_self, ↓reduceIte, bV_s, bI_s, bR_s, bT_0, bU_0, ob_s, hb_e, vb_e, if_true, if_false, ite_true, ite_false, if_false]
  · have c1 : rC (dC qs) ++ [ri M k 200, ri M k 201, ri M k 202, ri M k 203, tex, nI off, nI (dX qs).length, 0] = rC ((qOf (ri M r) (ri M k) col tex, off, 6 * qs.length, 0) :: dC qs) := by
      show _ = rC (dC qs) ++ encC _
      rw [l2]
      rfl
    rw [c1, bump_rC] at h2
    rw [show (dV qs).length / 3 = 4 * qs.length by omega, r2] at h2
    exact h2
theorem q_same (hd : d < 10) (h : DQ G B n d M qs) {r k : Nat} {c : Cmd} {cr : List Cmd} {col tex : Int32} (hcs : dC qs = c :: cr) (hr : hT M r = 1) (hz : r < hZ M) (hl : qs.length ≤ 1300) : ∃ M1, b_DrawList_quad_186 G (dlA B d) r col tex k (nI c.2.1) 1 M = some M1 ∧ DC G B n d M1 (rC ((c.1, c.2.1, c.2.2.1, c.2.2.2 + 6) :: cr)) (dX qs ++ six (nI (4 * qs.length - c.2.1))) (dV qs ++ twelve (qOf (ri M r) (ri M k) col tex)) ∧ DR B d M M1 := by
  have hc := dC_len qs
  have h' : DC G B n d M (rC (dC qs)) (dX qs) (dV qs) := h
  have l1 := rC_len (dC qs)
  have l2 := dX_len qs
  have l3 := dV_len qs
  have hoff := dC_off qs c (by rw [hcs]; exact List.mem_cons_self)
  have hcl : (dC qs).length = cr.length + 1 := by rw [hcs]; rfl
  obtain ⟨M2, e2, h2, k2⟩ := q_200 (r := r) (m := cr.length) (off := c.2.1) (col := col) hd h' hr hz (by omega) (by omega) (by omega) (by omega) (by omega)
  refine ⟨M2, ?_, ?_, k2⟩
  · have n0 : ¬ (1 : Int32) = 0 := by decide
    simp only [b_DrawList_quad_186, n0, not_false_iff, e2, not_true, not_false_iff, eq_self, ↓reduceIte, bV_s, bI_s, bR_s, bT_0, bU_0, ob_s, hb_e, vb_e, if_true, if_false, ite_true, ite_false]
  · rw [hcs, bump_rC] at h2
    rw [show (dV qs).length / 3 = 4 * qs.length by omega] at h2
    exact h2
theorem e_quad (hd : d < 10) (h : DQ G B n d M qs) {r k : Nat} (col tex : Int32) (hr : hT M r = 1) (hz : r < hZ M) (hk : hT M k = 1) (hkz : k < hZ M) (hl : qs.length ≤ 1300) : ∃ M1, f_DrawList_quad G (dlA B d) r col tex k M = some M1 ∧ DQ G B n d M1 (if rMeets (ri M r) (ri M k) then qOf (ri M r) (ri M k) col tex :: qs else qs) ∧ DR B d M M1 := by
  have h' : DC G B n d M (rC (dC qs)) (dX qs) (dV qs) := h
  by_cases hm : rMeets (ri M r) (ri M k)
  · have em := e_Rect_meets (G := G) hr hk
    rw [if_pos hm] at em
    obtain ⟨t1, t2, -, -, t3, -, -⟩ := h'.t hd
    have l1 := rC_len (dC qs)
    have l3 := dV_len qs
    have hlen := dC_len qs
    have emd := e_made hd h' (by omega)
    rw [show (dV qs).length / 3 = 4 * qs.length by omega] at emd
    have hcl : ri M (rowA B (3 * d)) 1 = nI (8 * (dC qs).length) := by rw [h'.2.2.2.1.1, l1]
    obtain ⟨-, cc, hcc, hcap, hcon⟩ := id h'.2.2.2.1
    obtain ⟨-, c', q1, q2, q3, q4, -⟩ := h'.1.1 (3 * d) (by omega)
    cases hcc.symm.trans q1
    have n1 : ¬ (1 : Int32) = 0 := by decide
    have n0 : ¬ ¬ (0 : Int32) = 0 := fun q => q rfl
    have hhead : f_DrawList_quad G (dlA B d) r col tex k M = if 0 ≤ nI (8 * (dC qs).length) - (8 : Int32) then (if ib (nI (8 * (dC qs).length) - (8 : Int32) + 5) (hN M cc) = true then b_DrawList_quad_43 G (dlA B d) r col tex k (nI (8 * (dC qs).length) - (8 : Int32)) (hA M cc (nI (8 * (dC qs).length) - (8 : Int32) + 5).toNatClampNeg) M else none) else b_DrawList_quad_43 G (dlA B d) r col tex k (nI (8 * (dC qs).length) - (8 : Int32)) 0 M := by
      simp only [f_DrawList_quad, hr, em, t1, t2, t3, hI_ri, hcl, hcc, q2, n1, not_true, not_false_iff, eq_self, ↓reduceIte, bV_s, bI_s, bR_s, bT_0, bU_0, ob_s, hb_e, vb_e, if_true, if_false, ite_true, ite_false]
    rw [hhead]
    cases hc : dC qs with
    | nil =>
      have hq : qs = [] := by
        cases qs with
        | nil => rfl
        | cons q r => exact absurd hc (hlen.2 (by simp))
      subst hq
      obtain ⟨M1, e1, h1, k1⟩ := q_new (off := 0) (col := col) (tex := tex) hd h hr hz hk hkz (by simp) (by simp)
      refine ⟨M1, ?_, by rw [if_pos hm]; exact h1, k1⟩
      have a1 : ¬ (0 : Int32) ≤ nI (8 * ([] : List Cmd).length) - 8 := by decide
      have a2 : nI (8 * ([] : List Cmd).length) - 8 < (0 : Int32) := by decide
      rw [if_neg a1]
      have e0 : nI (4 * ([] : List (Nat → Int32)).length) = nI 0 := rfl
      rw [e0] at emd
      simp only [b_DrawList_quad_43, b_DrawList_quad_66, b_DrawList_quad_67, b_DrawList_quad_172, b_DrawList_quad_173, a2, n0, t1, emd, e1, not_true, not_false_iff, eq_self, ↓reduceIte, bV_s, bI_s, bR_s, bT_0, bU_0, ob_s, hb_e, vb_e, if_true, if_false, ite_true, ite_false, if_false, if_true]
    | cons c r' =>
      rw [hc] at hcl hcon l1 hcap
      have s8 : nI (8 * (c :: r').length) - (8 : Int32) = nI (8 * r'.length) := nI_s8
      have hsmall : 8 * (c :: r').length ≤ 16000 := by rw [hc] at hlen; have := hlen.1; omega
      simp only [List.length_cons] at hsmall
      have p0 : (0 : Int32) ≤ nI (8 * r'.length) := nI_pos' (by omega)
      have hrow : (rC (c :: r')).length = 8 * r'.length + 8 := by rw [rC_len]; simp; omega
      have rd : ∀ j, j < 8 → hA M cc (8 * r'.length + j) = (encC c).getD j 0 := fun j hj => by rw [hcon _ (by omega), rC_at c r' hj]
      have pj : ∀ (j : Nat) (v : Int32), nI j = v → nI (8 * r'.length) + v = nI (8 * r'.length + j) := fun j v hv => nI_lit hv
      have ibj : ∀ j, j < 8 → ib (nI (8 * r'.length + j)) (hN M cc) = true := fun j hj => ib_nI (by omega) (by omega)
      have clj : ∀ j, j < 8 → (nI (8 * r'.length + j)).toNatClampNeg = 8 * r'.length + j := fun j hj => nI_clamp (by omega)
      rw [s8, if_pos p0, pj 5 5 rfl, if_pos (ibj 5 (by decide)), clj 5 (by decide), rd 5 (by decide)]
      have r5 : (encC c).getD 5 0 = nI c.2.1 := rfl
      rw [r5]
      have hoff := dC_off qs c (by rw [hc]; exact List.mem_cons_self)
      have ps : nI (4 * qs.length) - nI c.2.1 = nI (4 * qs.length - c.2.1) := pk_sub hoff
      have nlt : ¬ nI (8 * r'.length) < (0 : Int32) := nI_pos (by omega)
      have h43 : b_DrawList_quad_43 G (dlA B d) r col tex k (nI (8 * r'.length)) (nI c.2.1) M = if (64 : Int32) ≤ nI (4 * qs.length - c.2.1) then b_DrawList_quad_66 G (dlA B d) r col tex k (nI (8 * r'.length)) (nI c.2.1) M else b_DrawList_quad_67 G (dlA B d) r col tex k (nI (8 * r'.length)) (nI c.2.1) 1 M := by
        simp only [b_DrawList_quad_43, nlt, t1, emd, ps, not_true, not_false_iff, eq_self, ↓reduceIte, bV_s, bI_s, bR_s, bT_0, bU_0, ob_s, hb_e, vb_e, if_true, if_false, ite_true, ite_false]
      rw [h43]
      have h173 : ∀ s, b_DrawList_quad_173 G (dlA B d) r col tex k (nI c.2.1) 1 s M = b_DrawList_quad_186 G (dlA B d) r col tex k (nI c.2.1) s M := fun s => by
        simp only [b_DrawList_quad_173, n1, not_true, not_false_iff, eq_self, ↓reduceIte, bV_s, bI_s, bR_s, bT_0, bU_0, ob_s, hb_e, vb_e, if_true, if_false, ite_true, ite_false]
      by_cases h64 : 4 * qs.length - c.2.1 < 64
      · have nle : ¬ (64 : Int32) ≤ nI (4 * qs.length - c.2.1) := by
          have := nI_ge (a := 4 * qs.length - c.2.1) (b := 64) h64 (by omega)
          exact this
        rw [if_neg nle]
        by_cases hs : sameCT c.1 (qOf (ri M r) (ri M k) col tex)
        · obtain ⟨M1, e1, h1, k1⟩ := q_same (k := k) (col := col) (tex := tex) hd h hc hr hz hl
          refine ⟨M1, ?_, ?_, k1⟩
          · obtain ⟨x6, x7, x8, x9, x5⟩ := hs
            have y0 : (encC c).getD 0 0 = ri M k 200 := x6
            have y1 : (encC c).getD 1 0 = ri M k 201 := x7
            have y2 : (encC c).getD 2 0 = ri M k 202 := x8
            have y3 : (encC c).getD 3 0 = ri M k 203 := x9
            have y4 : (encC c).getD 4 0 = tex := x5
            simp only [b_DrawList_quad_67, n1, t1, t2, t3, hcc, q2, hk, hI_ri, pj 1 1 rfl, pj 2 2 rfl, pj 3 3 rfl, pj 4 4 rfl, ibj 1 (by decide), ibj 2 (by decide), ibj 3 (by decide), ibj 4 (by decide), clj 1 (by decide), clj 2 (by decide), clj 3 (by decide), clj 4 (by decide), rd 1 (by decide), rd 2 (by decide), rd 3 (by decide), rd 4 (by decide), y1, y2, y3, y4, not_true, not_false_iff, eq_self, ↓reduceIte, bV_s, bI_s, bR_s, bT_0, bU_0, ob_s, hb_e, vb_e, if_true, if_false, ite_true, ite_false, not_true, h173, e1]
            have i0 := ibj 0 (by decide)
            have c0 := clj 0 (by decide)
            have d0 := rd 0 (by decide)
            rw [Nat.add_zero] at i0 c0 d0
            simp only [i0, c0, d0, y0, not_true, if_true, if_false]
          · rw [if_pos hm]
            show DC G B n d M1 (rC (cStep _ _ (dC qs))) (dX qs ++ six (nI (4 * qs.length - cOff (cStep _ _ (dC qs))))) _
            rw [hc]
            simp only [cStep, if_pos h64, if_pos hs, cOff]
            exact h1
        · obtain ⟨M1, e1, h1, k1⟩ := q_new (off := c.2.1) (col := col) (tex := tex) hd h hr hz hk hkz hl hoff
          refine ⟨M1, ?_, ?_, k1⟩
          · have h172 : b_DrawList_quad_172 G (dlA B d) r col tex k (nI c.2.1) 1 M = some M1 := by
              simp only [b_DrawList_quad_172, h173, e1]
            simp only [b_DrawList_quad_67, n1, t1, t2, t3, hcc, q2, hk, hI_ri, pj 1 1 rfl, pj 2 2 rfl, pj 3 3 rfl, pj 4 4 rfl, ibj 1 (by decide), ibj 2 (by decide), ibj 3 (by decide), ibj 4 (by decide), clj 1 (by decide), clj 2 (by decide), clj 3 (by decide), clj 4 (by decide), rd 1 (by decide), rd 2 (by decide), rd 3 (by decide), rd 4 (by decide), not_true, not_false_iff, eq_self, ↓reduceIte, bV_s, bI_s, bR_s, bT_0, bU_0, ob_s, hb_e, vb_e, if_true, if_false, ite_true, ite_false, h172, h173]
            have i0 := ibj 0 (by decide)
            have c0 := clj 0 (by decide)
            have d0 := rd 0 (by decide)
            rw [Nat.add_zero] at i0 c0 d0
            simp only [i0, c0, d0, if_true]
            by_cases g0 : (encC c).getD 0 0 = ri M k 200
            · by_cases g1 : (encC c).getD 1 0 = ri M k 201
              · by_cases g2 : (encC c).getD 2 0 = ri M k 202
                · by_cases g3 : (encC c).getD 3 0 = ri M k 203
                  · have g4 : ¬ (encC c).getD 4 0 = tex := fun q => hs ⟨g0, g1, g2, g3, q⟩
                    simp only [g0, g1, g2, g3, g4, not_true, not_false_iff, if_true, if_false]
                  · simp only [g0, g1, g2, g3, not_true, not_false_iff, if_true, if_false]
                · simp only [g0, g1, g2, not_true, not_false_iff, if_true, if_false]
              · simp only [g0, g1, not_true, not_false_iff, if_true, if_false]
            · simp only [g0, not_false_iff, if_true]
          · rw [if_pos hm]
            show DC G B n d M1 (rC (cStep _ _ (dC qs))) (dX qs ++ six (nI (4 * qs.length - cOff (cStep _ _ (dC qs))))) _
            rw [hc]
            simp only [cStep, if_pos h64, if_neg hs, cOff]
            rw [hc] at h1
            exact h1
      · have le64 : (64 : Int32) ≤ nI (4 * qs.length - c.2.1) := by
          have := nI_le (a := 64) (b := 4 * qs.length - c.2.1) (by omega) (by omega)
          exact this
        rw [if_pos le64]
        obtain ⟨M1, e1, h1, k1⟩ := q_new (off := 4 * qs.length) (col := col) (tex := tex) hd h hr hz hk hkz hl (Nat.le_refl _)
        refine ⟨M1, ?_, ?_, k1⟩
        · simp only [b_DrawList_quad_66, b_DrawList_quad_67, b_DrawList_quad_172, b_DrawList_quad_173, n0, t1, emd, e1, not_true, not_false_iff, eq_self, ↓reduceIte, bV_s, bI_s, bR_s, bT_0, bU_0, ob_s, hb_e, vb_e, if_true, if_false, ite_true, ite_false, if_false, if_true]
        · rw [if_pos hm]
          show DC G B n d M1 (rC (cStep _ _ (dC qs))) (dX qs ++ six (nI (4 * qs.length - cOff (cStep _ _ (dC qs))))) _
          rw [hc]
          simp only [cStep, if_neg h64, cOff]
          rw [hc] at h1
          exact h1
  · have em := e_Rect_meets (G := G) hr hk
    rw [if_neg hm] at em
    refine ⟨M, ?_, by rw [if_neg hm]; exact h, DR.rf⟩
    have n0 : ¬ ¬ (0 : Int32) = 0 := fun q => q rfl
    simp only [f_DrawList_quad, hr, em, n0, not_true, not_false_iff, eq_self, ↓reduceIte, bV_s, bI_s, bR_s, bT_0, bU_0, ob_s, hb_e, vb_e, if_true, if_false, ite_true, ite_false, if_false]
end P5
