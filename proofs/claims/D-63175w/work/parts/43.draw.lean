/-! ===== draw lists ===== -/
section P3
variable {G : GT} {B n d : Nat} {M M' M1 M2 : PH} {cs is vs : List Int32}
def dlA (B d : Nat) : Nat := B + 26 + 10 * d
def DLok (B : Nat) (M : PH) : Prop := ∀ d, d < 10 → hT M (dlA B d) = 4 ∧ hR M 800 (dlA B d) = some (rowA B (3 * d)) ∧ hR M 801 (dlA B d) = some (rowA B (3 * d + 1)) ∧ hR M 802 (dlA B d) = some (rowA B (3 * d + 2)) ∧ dlA B d < hZ M
/-- the draw list d holds the three lists -/
def DC (G : GT) (B n d : Nat) (M : PH) (cs is vs : List Int32) : Prop := RowsOk B M ∧ Room G B n M ∧ DLok B M ∧ RowL M (rowA B (3 * d)) cs ∧ RowL M (rowA B (3 * d + 1)) is ∧ RowL M (rowA B (3 * d + 2)) vs
/-- what is left alone -/
def DR (B d : Nat) (M M' : PH) : Prop := DS B M M' ∧ ∀ j, j < 30 → j / 3 ≠ d → ∀ l, RowL M (rowA B j) l → RowL M' (rowA B j) l
theorem DR.rf : DR B d M M := ⟨DS.rf, fun _ _ _ _ h => h⟩
theorem DR.tr (h : DR B d M M1) (k : DR B d M1 M2) : DR B d M M2 := ⟨h.1.tr k.1, fun j hj hd l hl => k.2 j hj hd l (h.2 j hj hd l hl)⟩
theorem DLok.ds (h : DLok B M) (k : DS B M M') : DLok B M' := fun d hd => by
  obtain ⟨h1, h2, h3, h4, h5⟩ := h d hd
  exact ⟨by rw [(k.2.1 _ h5).1]; exact h1, by rw [k.2.2.2.1 _ _ (by decide)]; exact h2, by rw [k.2.2.2.1 _ _ (by decide)]; exact h3, by rw [k.2.2.2.1 _ _ (by decide)]; exact h4, Nat.lt_of_lt_of_le h5 k.1⟩
theorem add_c (hd : d < 10) (h : DC G B n d M cs is vs) (v : Int32) (hl : cs.length ≤ 16000) : ∃ M', f_Row_add G (rowA B (3 * d)) v M = some M' ∧ DC G B n d M' (cs ++ [v]) is vs ∧ DR B d M M' := by
  obtain ⟨h1, h2, h3, h4, h5, h6⟩ := h
  obtain ⟨M', e, a1, a2, a3, a4, a5⟩ := e_Row_add (j := 3 * d) v (by omega) h1 h4 hl h2
  exact ⟨M', e, ⟨a2, a3, h3.ds a4, a1, a5 _ (by omega) (by omega) _ h5, a5 _ (by omega) (by omega) _ h6⟩, a4, fun j hj hne l hjl => a5 j hj (by omega) l hjl⟩
theorem add_i (hd : d < 10) (h : DC G B n d M cs is vs) (v : Int32) (hl : is.length ≤ 16000) : ∃ M', f_Row_add G (rowA B (3 * d + 1)) v M = some M' ∧ DC G B n d M' cs (is ++ [v]) vs ∧ DR B d M M' := by
  obtain ⟨h1, h2, h3, h4, h5, h6⟩ := h
  obtain ⟨M', e, a1, a2, a3, a4, a5⟩ := e_Row_add (j := 3 * d + 1) v (by omega) h1 h5 hl h2
  exact ⟨M', e, ⟨a2, a3, h3.ds a4, a5 _ (by omega) (by omega) _ h4, a1, a5 _ (by omega) (by omega) _ h6⟩, a4, fun j hj hne l hjl => a5 j hj (by omega) l hjl⟩
theorem add_v (hd : d < 10) (h : DC G B n d M cs is vs) (v : Int32) (hl : vs.length ≤ 16000) : ∃ M', f_Row_add G (rowA B (3 * d + 2)) v M = some M' ∧ DC G B n d M' cs is (vs ++ [v]) ∧ DR B d M M' := by
  obtain ⟨h1, h2, h3, h4, h5, h6⟩ := h
  obtain ⟨M', e, a1, a2, a3, a4, a5⟩ := e_Row_add (j := 3 * d + 2) v (by omega) h1 h6 hl h2
  exact ⟨M', e, ⟨a2, a3, h3.ds a4, a5 _ (by omega) (by omega) _ h4, a5 _ (by omega) (by omega) _ h5, a1⟩, a4, fun j hj hne l hjl => a5 j hj (by omega) l hjl⟩
theorem DC.t (hd : d < 10) (h : DC G B n d M cs is vs) : hT M (dlA B d) = 4 ∧ hR M 800 (dlA B d) = some (rowA B (3 * d)) ∧ hR M 801 (dlA B d) = some (rowA B (3 * d + 1)) ∧ hR M 802 (dlA B d) = some (rowA B (3 * d + 2)) ∧ hT M (rowA B (3 * d)) = 0 ∧ hT M (rowA B (3 * d + 1)) = 0 ∧ hT M (rowA B (3 * d + 2)) = 0 := by
  obtain ⟨h1, h2, h3, h4, h5, h6⟩ := h
  obtain ⟨q1, q2, q3, q4, -⟩ := h3 d hd
  exact ⟨q1, q2, q3, q4, (h1.1 _ (by omega)).1, (h1.1 _ (by omega)).1, (h1.1 _ (by omega)).1⟩
theorem DR.rect (k : DR B d M M') {r : Nat} (hr : hT M r = 1) (hz : r < hZ M) : hT M' r = 1 ∧ ri M' r = ri M r ∧ r < hZ M' :=
  ⟨by rw [(k.1.2.1 r hz).1]; exact hr, k.1.2.2.1 r hz (by rw [hr]; decide), Nat.lt_of_lt_of_le hz k.1.1⟩
theorem e_vertex (hd : d < 10) (h : DC G B n d M cs is vs) (x y c : Int32) (hl : vs.length ≤ 15990) : ∃ M', f_DrawList_vertex G (dlA B d) x y c M = some M' ∧ DC G B n d M' cs is (vs ++ [x, y, c]) ∧ DR B d M M' := by
  obtain ⟨t1, -, -, t2, -, -, t3⟩ := h.t hd
  obtain ⟨M1, e1, h1, k1⟩ := add_v hd h x (by omega)
  obtain ⟨u1, -, -, u2, -, -, u3⟩ := h1.t hd
  obtain ⟨M2, e2, h2, k2⟩ := add_v hd h1 y (by simp; omega)
  obtain ⟨w1, -, -, w2, -, -, w3⟩ := h2.t hd
  obtain ⟨M3, e3, h3, k3⟩ := add_v hd h2 c (by simp; omega)
  refine ⟨M3, ?_, by simpa using h3, (k1.tr k2).tr k3⟩
  simp only [f_DrawList_vertex, t1, t2, t3, e1, u1, u2, u3, e2, w1, w2, w3, e3, not_true, not_false_iff, eq_self, ↓reduceIte, bV_s, bI_s, bR_s, bT_0, bU_0, ob_s, hb_e, vb_e, if_true, if_false, ite_true, ite_false]
theorem e_command (hd : d < 10) (h : DC G B n d M cs is vs) {r : Nat} (hr : hT M r = 1) (hz : r < hZ M) (tex off : Int32) (hl : cs.length ≤ 15990) : ∃ M', f_DrawList_command G (dlA B d) r tex off M = some M' ∧ DC G B n d M' (cs ++ [ri M r 200, ri M r 201, ri M r 202, ri M r 203, tex, off, nI is.length, 0]) is vs ∧ DR B d M M' := by
  obtain ⟨t1, t2, -, -, t3, -, -⟩ := h.t hd
  obtain ⟨M1, e1, h1, k1⟩ := add_c hd h (ri M r 200) (by omega)
  obtain ⟨u1, u2, -, -, u3, -, -⟩ := h1.t hd
  obtain ⟨r1, r2, r3⟩ := k1.rect hr hz
  obtain ⟨M2, e2, h2, k2⟩ := add_c hd h1 (ri M r 201) (by simp; omega)
  obtain ⟨v1, v2, -, -, v3, -, -⟩ := h2.t hd
  obtain ⟨r4, r5, r6⟩ := (k1.tr k2).rect hr hz
  obtain ⟨M3, e3, h3, k3⟩ := add_c hd h2 (ri M r 202) (by simp; omega)
  obtain ⟨w1, w2, -, -, w3, -, -⟩ := h3.t hd
  obtain ⟨r7, r8, r9⟩ := ((k1.tr k2).tr k3).rect hr hz
  obtain ⟨M4, e4, h4, k4⟩ := add_c hd h3 (ri M r 203) (by simp; omega)
  obtain ⟨x1, x2, -, -, x3, -, -⟩ := h4.t hd
  obtain ⟨M5, e5, h5, k5⟩ := add_c hd h4 tex (by simp; omega)
  obtain ⟨y1, y2, -, -, y3, -, -⟩ := h5.t hd
  obtain ⟨M6, e6, h6, k6⟩ := add_c hd h5 off (by simp; omega)
  obtain ⟨z1, z2, z3, -, z4, z5, -⟩ := h6.t hd
  have hil : ri M6 (rowA B (3 * d + 1)) 1 = nI is.length := h6.2.2.2.2.1.1
  obtain ⟨M7, e7, h7, k7⟩ := add_c hd h6 (nI is.length) (by simp; omega)
  obtain ⟨a1, a2, -, -, a3, -, -⟩ := h7.t hd
  obtain ⟨M8, e8, h8, k8⟩ := add_c hd h7 0 (by simp; omega)
  refine ⟨M8, ?_, by simpa using h8, ((((((k1.tr k2).tr k3).tr k4).tr k5).tr k6).tr k7).tr k8⟩
  simp only [f_DrawList_command, hr, t1, t2, t3, hI_ri, e1, u1, u2, u3, r1, r2, e2, v1, v2, v3, r4, r5, e3, w1, w2, w3, r7, r8, e4, x1, x2, x3, e5, y1, y2, y3, e6, z1, z2, z3, z4, z5, hil, e7, a1, a2, a3, e8, not_true, not_false_iff, eq_self, ↓reduceIte, bV_s, bI_s, bR_s, bT_0, bU_0, ob_s, hb_e, vb_e, if_true, if_false, ite_true, ite_false]
theorem e_made (hd : d < 10) (h : DC G B n d M cs is vs) (hl : vs.length < 2 ^ 31) : f_DrawList_made G (dlA B d) M = some (nI (vs.length / 3), M) := by
  obtain ⟨t1, -, -, t2, -, -, t3⟩ := h.t hd
  have hv : ri M (rowA B (3 * d + 2)) 1 = nI vs.length := h.2.2.2.2.2.1
  have h3 : nI vs.length / (3 : Int32) = nI (vs.length / 3) := pk_div (d := 3) hl (by decide) (by decide)
  have h0 : ¬ (3 : Int32) = 0 := by decide
  simp only [f_DrawList_made, t1, t2, t3, hI_ri, hv, h3, h0, not_true, not_false_iff, eq_self, ↓reduceIte, bV_s, bI_s, bR_s, bT_0, bU_0, ob_s, hb_e, vb_e, if_true, if_false, ite_true, ite_false]
/-- the six indices of a quad -/
def six (v : Int32) : List Int32 := [v + 0, v + 1, v + 2, v + 0, v + 2, v + 3]
/-- the last command's number of indices grows -/
def bump (cs : List Int32) (k : Nat) : List Int32 := cs.set k (cs.getD k 0 + 6)
theorem e_set (hd : d < 10) (h : DC G B n d M cs is vs) {c k : Nat} {v : Int32} (hc : hR M 0 (rowA B (3 * d)) = some c) (hk : k < cs.length) : DC G B n d (wA M c (va_up (hA M c) k v)) (cs.set k v) is vs ∧ DR B d M (wA M c (va_up (hA M c) k v)) := by
  obtain ⟨h1, h2, h3, h4, h5, h6⟩ := h
  have hne : ∀ j, j < 30 → j ≠ 3 * d → ∀ c', hR M 0 (rowA B j) = some c' → c' ≠ c := fun j hj hne c' hc' q => h1.2.1 j (3 * d) hj (by omega) hne (by rw [hc, hc', q])
  have oth : ∀ j, j < 30 → j ≠ 3 * d → ∀ l, RowL M (rowA B j) l → RowL (wA M c (va_up (hA M c) k v)) (rowA B j) l := by
    intro j hj hj2 l ⟨g1, c', g2, g3, g4⟩
    exact ⟨g1, c', g2, g3, fun i hi => by rw [hA_wA_ne (hne j hj hj2 c' g2)]; exact g4 i hi⟩
  have hdyn : Dyn B c := by
    obtain ⟨-, c', q1, -, -, -, -, q2⟩ := h1.1 (3 * d) (by omega)
    cases hc.symm.trans q1
    exact q2
  refine ⟨⟨h1, h2, h3, ?_, oth _ (by omega) (by omega) _ h5, oth _ (by omega) (by omega) _ h6⟩, ⟨Nat.le_refl _, fun a _ => ⟨rfl, rfl, fun _ => rfl, fun _ => rfl⟩, fun a _ _ => rfl, fun f a _ => rfl, fun a ha hdd => hA_wA_ne (fun q => hdd (by rw [q]; exact hdyn))⟩, fun j hj hjd l hl => oth j hj (by omega) l hl⟩
  obtain ⟨g1, c', g2, g3, g4⟩ := h4
  cases hc.symm.trans g2
  refine ⟨by rw [List.length_set]; exact g1, c, hc, by rw [List.length_set]; exact g3, fun i hi => ?_⟩
  rw [hA_wA_self]
  simp only [List.length_set] at hi
  by_cases e : i = k
  · subst e
    rw [vu_at]
    simp [List.getD_eq_getElem?_getD, hi]
  · rw [vu_ne e, g4 i hi]
    simp [List.getD_eq_getElem?_getD, List.getElem?_set_ne (fun q => e q.symm)]
end P3
