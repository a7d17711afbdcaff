section P1
variable {G : GT} {M : PH} {q r : Nat}
/-! rectangles: 200 left, 201 top, 202 right, 203 bottom -/
def rcG (l t r b : Int32) (g : Nat → Int32) : Nat → Int32 := va_up (va_up (va_up (va_up g 200 l) 201 t) 202 r) 203 b
theorem e_Rect_be (h : hT M q = 1) (l t r b : Int32) : f_Rect_be G q l t r b M = some (wR M q (rcG l t r b (ri M q))) := by
  simp only [f_Rect_be, h, not_true, not_false_iff, eq_self, ↓reduceIte, bV_s, bI_s, bR_s, bT_0, bU_0, ob_s, hb_e, vb_e, if_true, if_false, ite_true, ite_false, hT_wR, hT_wA, hT_sI, hT_sA, hT_sR, hT_sX, hT_sL, hN_wR, hN_wA, hN_sI, hN_sA, hN_sR, hN_sX, hN_sL, hR_wR, hR_wA, hR_sI, hR_sA, hR_sX, hR_sL, hX_wR, hX_wA, hX_sI, hX_sA, hX_sR, hX_sL, hI_ri, sI_wR, sA_wA, ri_wR_self, ri_wA, ri_sA, ri_sR, ri_sX, ri_sL, hA_wA_self, hA_wR, hA_sI, hA_sR, hA_sX, hA_sL, wR_wR, wA_wA, wR_ri, wA_hA, vu_self, vu_vu, vu_at, hZ_wR, hZ_wA, hU_wR, hU_wA, rcG]
theorem e_Rect_be2 (h : hT M q = 1) (h2 : hT M r = 1) : f_Rect_be2 G q r M = some (wR M q (rcG (ri M r 200) (ri M r 201) (ri M r 202) (ri M r 203) (ri M q))) := by
  simp only [f_Rect_be2, h, h2, e_Rect_be h, not_true, not_false_iff, eq_self, ↓reduceIte, bV_s, bI_s, bR_s, bT_0, bU_0, ob_s, hb_e, vb_e, if_true, if_false, ite_true, ite_false, hI_ri]
theorem e_Rect_meet (h : hT M q = 1) (h2 : hT M r = 1) : f_Rect_meet G q r M = some (wR M q (rcG (jmax (ri M q 200) (ri M r 200)) (jmax (ri M q 201) (ri M r 201)) (jmin (ri M q 202) (ri M r 202)) (jmin (ri M q 203) (ri M r 203)) (ri M q))) := by
  simp only [f_Rect_meet, h, h2, e_Rect_be h, not_true, not_false_iff, eq_self, ↓reduceIte, bV_s, bI_s, bR_s, bT_0, bU_0, ob_s, hb_e, vb_e, if_true, if_false, ite_true, ite_false, hI_ri]
def bz (P : Prop) [Decidable P] : Int32 := if P then 1 else 0
abbrev rHas (x y : Int32) (g : Nat → Int32) : Prop := (g 200 ≤ x ∧ x < g 202) ∧ (g 201 ≤ y ∧ y < g 203)
theorem i_nlt {a b : Int32} : ¬ a < b ↔ b ≤ a := Int32.not_lt
theorem i_nle {a b : Int32} : ¬ a ≤ b ↔ b < a := Int32.not_le
theorem e_Rect_has (h : hT M q = 1) (x y : Int32) : f_Rect_has G q x y M = some (if rHas x y (ri M q) then 1 else 0, M) := by
  simp only [f_Rect_has, h, not_true, not_false_iff, eq_self, ↓reduceIte, bV_s, bI_s, bR_s, bT_0, bU_0, ob_s, hb_e, vb_e, if_true, if_false, ite_true, ite_false, hI_ri, rHas]
  by_cases h1 : x < ri M q 200
  · simp [h1, Int32.not_le.mpr h1]
  · by_cases h2 : ri M q 202 ≤ x
    · simp [h1, h2, Int32.not_lt.mpr h2]
    · by_cases h3 : y < ri M q 201
      · simp [h1, h2, h3, Int32.not_le.mpr h3]
      · by_cases h4 : ri M q 203 ≤ y
        · simp [h1, h2, h3, h4, Int32.not_lt.mpr h4]
        · simp [h1, h2, h3, h4, Int32.not_lt.mp h1, Int32.not_le.mp h2, Int32.not_lt.mp h3, Int32.not_le.mp h4]
abbrev rMeets (g g' : Nat → Int32) : Prop := jmax (g 200) (g' 200) < jmin (g 202) (g' 202) ∧ jmax (g 201) (g' 201) < jmin (g 203) (g' 203)
theorem e_Rect_meets (h : hT M q = 1) (h2 : hT M r = 1) : f_Rect_meets G q r M = some (if rMeets (ri M q) (ri M r) then 1 else 0, M) := by
  simp only [f_Rect_meets, h, h2, not_true, not_false_iff, eq_self, ↓reduceIte, bV_s, bI_s, bR_s, bT_0, bU_0, ob_s, hb_e, vb_e, if_true, if_false, ite_true, ite_false, hI_ri, rMeets]
  by_cases h1 : jmin (ri M q 202) (ri M r 202) ≤ jmax (ri M q 200) (ri M r 200)
  · simp [h1, Int32.not_lt.mpr h1]
  · by_cases h3 : jmin (ri M q 203) (ri M r 203) ≤ jmax (ri M q 201) (ri M r 201)
    · simp [h1, h3, Int32.not_lt.mpr h3]
    · simp [h1, h3, Int32.not_le.mp h1, Int32.not_le.mp h3]
/-! attention: 1800 active, 1801 hovered, 1802 focus, 1803 held, 1804 first, 1805 passes, 1806 metHolder, 1807 activeTold, 1808 focusTold -/
def aFocus (id : Int32) (g : Nat → Int32) : Nat → Int32 := va_up (va_up (if id = g 1802 then g else va_up g 1803 0) 1802 id) 1808 1
theorem e_Att_focus (h : hT M q = 9) (id : Int32) : f_Att_focus G q id M = some (wR M q (aFocus id (ri M q))) := by
  simp only [f_Att_focus, b_Att_focus_13, h, not_true, not_false_iff, eq_self, ↓reduceIte, bV_s, bI_s, bR_s, bT_0, bU_0, ob_s, hb_e, vb_e, if_true, if_false, ite_true, ite_false, hT_wR, hT_wA, hT_sI, hT_sA, hT_sR, hT_sX, hT_sL, hN_wR, hN_wA, hN_sI, hN_sA, hN_sR, hN_sX, hN_sL, hR_wR, hR_wA, hR_sI, hR_sA, hR_sX, hR_sL, hX_wR, hX_wA, hX_sI, hX_sA, hX_sR, hX_sL, hI_ri, sI_wR, sA_wA, ri_wR_self, ri_wA, ri_sA, ri_sR, ri_sX, ri_sL, hA_wA_self, hA_wR, hA_sI, hA_sR, hA_sX, hA_sL, wR_wR, wA_wA, wR_ri, wA_hA, vu_self, vu_vu, vu_at, hZ_wR, hZ_wA, hU_wR, hU_wA, aFocus]
  split <;> rfl
def aNone (g : Nat → Int32) : Nat → Int32 := aFocus 0 (va_up (va_up g 1800 0) 1801 0)
theorem e_Att_none (h : hT M q = 9) : f_Att_none G q M = some (wR M q (aNone (ri M q))) := by
  simp only [f_Att_none, h, e_Att_focus, not_true, not_false_iff, eq_self, ↓reduceIte, bV_s, bI_s, bR_s, bT_0, bU_0, ob_s, hb_e, vb_e, if_true, if_false, ite_true, ite_false, hT_wR, hT_wA, hT_sI, hT_sA, hT_sR, hT_sX, hT_sL, hN_wR, hN_wA, hN_sI, hN_sA, hN_sR, hN_sX, hN_sL, hR_wR, hR_wA, hR_sI, hR_sA, hR_sX, hR_sL, hX_wR, hX_wA, hX_sI, hX_sA, hX_sR, hX_sL, hI_ri, sI_wR, sA_wA, ri_wR_self, ri_wA, ri_sA, ri_sR, ri_sX, ri_sL, hA_wA_self, hA_wR, hA_sI, hA_sR, hA_sX, hA_sL, wR_wR, wA_wA, wR_ri, wA_hA, vu_self, vu_vu, vu_at, hZ_wR, hZ_wA, hU_wR, hU_wA, aNone]
def aBegin (tab : Int32) (g : Nat → Int32) : Nat → Int32 := va_up (va_up (va_up (va_up (va_up (va_up g 1801 0) 1804 0) 1805 tab) 1806 0) 1807 0) 1808 0
theorem e_Att_begin (h : hT M q = 9) {tab : Int32} (ht : tab = 0 ∨ tab = 1) : f_Att_begin G q tab M = some (wR M q (aBegin tab (ri M q))) := by
  simp only [f_Att_begin, h, ht, not_true, not_false_iff, eq_self, ↓reduceIte, bV_s, bI_s, bR_s, bT_0, bU_0, ob_s, hb_e, vb_e, if_true, if_false, ite_true, ite_false, hT_wR, hT_wA, hT_sI, hT_sA, hT_sR, hT_sX, hT_sL, hN_wR, hN_wA, hN_sI, hN_sA, hN_sR, hN_sX, hN_sL, hR_wR, hR_wA, hR_sI, hR_sA, hR_sX, hR_sL, hX_wR, hX_wA, hX_sI, hX_sA, hX_sR, hX_sL, hI_ri, sI_wR, sA_wA, ri_wR_self, ri_wA, ri_sA, ri_sR, ri_sX, ri_sL, hA_wA_self, hA_wR, hA_sI, hA_sR, hA_sX, hA_sL, wR_wR, wA_wA, wR_ri, wA_hA, vu_self, vu_vu, vu_at, hZ_wR, hZ_wA, hU_wR, hU_wA, aBegin]
def aTell (id : Int32) (g : Nat → Int32) : Nat → Int32 := va_up (va_up g 1807 (if ¬ g 1807 = 0 ∨ id = g 1800 then 1 else 0)) 1808 (if ¬ g 1808 = 0 ∨ id = g 1802 then 1 else 0)
theorem e_Att_tell (h : hT M q = 9) (id : Int32) : f_Att_tell G q id M = some (wR M q (aTell id (ri M q))) := by
  simp only [f_Att_tell, b_Att_tell_16, b_Att_tell_21, b_Att_tell_40, h, not_true, not_false_iff, eq_self, ↓reduceIte, bV_s, bI_s, bR_s, bT_0, bU_0, ob_s, hb_e, vb_e, if_true, if_false, ite_true, ite_false, hT_wR, hT_wA, hT_sI, hT_sA, hT_sR, hT_sX, hT_sL, hN_wR, hN_wA, hN_sI, hN_sA, hN_sR, hN_sX, hN_sL, hR_wR, hR_wA, hR_sI, hR_sA, hR_sX, hR_sL, hX_wR, hX_wA, hX_sI, hX_sA, hX_sR, hX_sL, hI_ri, sI_wR, sA_wA, ri_wR_self, ri_wA, ri_sA, ri_sR, ri_sX, ri_sL, hA_wA_self, hA_wR, hA_sI, hA_sR, hA_sX, hA_sL, wR_wR, wA_wA, wR_ri, wA_hA, vu_self, vu_vu, vu_at, hZ_wR, hZ_wA, hU_wR, hU_wA, aTell]
  have e1 : ∀ v, va_up (ri M q) 1807 v 1808 = ri M q 1808 := fun v => vu_ne (by decide)
  have e2 : ∀ v, va_up (ri M q) 1807 v 1802 = ri M q 1802 := fun v => vu_ne (by decide)
  simp only [e1, e2]
  by_cases h1 : ri M q 1807 = 0 <;> by_cases h2 : id = ri M q 1800 <;> by_cases h3 : ri M q 1808 = 0 <;> by_cases h4 : id = ri M q 1802 <;> simp only [h1, h2, h3, h4, if_true, if_false, not_true, not_false_iff, true_or, or_true, or_false, false_or, eq_self, ite_self] <;> simp_all
def aActivate (id : Int32) (g : Nat → Int32) : Nat → Int32 := va_up (va_up g 1800 id) 1807 1
theorem e_Att_activate (h : hT M q = 9) (id : Int32) : f_Att_activate G q id M = some (wR M q (aActivate id (ri M q))) := by
  simp only [f_Att_activate, h, not_true, not_false_iff, eq_self, ↓reduceIte, bV_s, bI_s, bR_s, bT_0, bU_0, ob_s, hb_e, vb_e, if_true, if_false, ite_true, ite_false, hT_wR, hT_wA, hT_sI, hT_sA, hT_sR, hT_sX, hT_sL, hN_wR, hN_wA, hN_sI, hN_sA, hN_sR, hN_sX, hN_sL, hR_wR, hR_wA, hR_sI, hR_sA, hR_sX, hR_sL, hX_wR, hX_wA, hX_sI, hX_sA, hX_sR, hX_sL, hI_ri, sI_wR, sA_wA, ri_wR_self, ri_wA, ri_sA, ri_sR, ri_sX, ri_sL, hA_wA_self, hA_wR, hA_sI, hA_sR, hA_sX, hA_sL, wR_wR, wA_wA, wR_ri, wA_hA, vu_self, vu_vu, vu_at, hZ_wR, hZ_wA, hU_wR, hU_wA, aActivate]
def aEnd (g : Nat → Int32) : Nat → Int32 :=
  let g1 := if g 1805 = 0 then g else aFocus (g 1804) g
  let g2 := if g1 1807 = 0 then va_up g1 1800 0 else g1
  if g2 1808 = 0 then aFocus 0 g2 else g2
theorem e_Att_end (h : hT M q = 9) : f_Att_end G q M = some (wR M q (aEnd (ri M q))) := by
  simp only [f_Att_end, b_Att_end_15, b_Att_end_27, h, e_Att_focus, not_true, not_false_iff, eq_self, ↓reduceIte, bV_s, bI_s, bR_s, bT_0, bU_0, ob_s, hb_e, vb_e, if_true, if_false, ite_true, ite_false, hT_wR, hT_wA, hT_sI, hT_sA, hT_sR, hT_sX, hT_sL, hN_wR, hN_wA, hN_sI, hN_sA, hN_sR, hN_sX, hN_sL, hR_wR, hR_wA, hR_sI, hR_sA, hR_sX, hR_sL, hX_wR, hX_wA, hX_sI, hX_sA, hX_sR, hX_sL, hI_ri, sI_wR, sA_wA, ri_wR_self, ri_wA, ri_sA, ri_sR, ri_sX, ri_sL, hA_wA_self, hA_wR, hA_sI, hA_sR, hA_sX, hA_sL, wR_wR, wA_wA, wR_ri, wA_hA, vu_self, vu_vu, vu_at, hZ_wR, hZ_wA, hU_wR, hU_wA, aEnd]
  by_cases h1 : ri M q 1805 = 0
  · simp only [h1, if_true]
    by_cases h2 : ri M q 1807 = 0
    · simp only [h2, if_true, not_true, if_false]
      by_cases h3 : va_up (ri M q) 1800 0 1808 = 0 <;> simp [h3, hI_ri, sI_wR, sA_wA, ri_wR_self, ri_wA, ri_sA, ri_sR, ri_sX, ri_sL, hA_wA_self, hA_wR, hA_sI, hA_sR, hA_sX, hA_sL, wR_wR, wA_wA, wR_ri, wA_hA, vu_self, vu_vu, vu_at, hZ_wR, hZ_wA, hU_wR, hU_wA]
    · simp only [h2, if_false, not_false_iff, if_true]
      by_cases h3 : ri M q 1808 = 0 <;> simp [h3, hI_ri, sI_wR, sA_wA, ri_wR_self, ri_wA, ri_sA, ri_sR, ri_sX, ri_sL, hA_wA_self, hA_wR, hA_sI, hA_sR, hA_sX, hA_sL, wR_wR, wA_wA, wR_ri, wA_hA, vu_self, vu_vu, vu_at, hZ_wR, hZ_wA, hU_wR, hU_wA]
  · simp only [h1, if_false]
    by_cases h2 : aFocus (ri M q 1804) (ri M q) 1807 = 0
    · simp only [h2, if_true, not_true, if_false]
      by_cases h3 : va_up (aFocus (ri M q 1804) (ri M q)) 1800 0 1808 = 0 <;> simp [h3, hI_ri, sI_wR, sA_wA, ri_wR_self, ri_wA, ri_sA, ri_sR, ri_sX, ri_sL, hA_wA_self, hA_wR, hA_sI, hA_sR, hA_sX, hA_sL, wR_wR, wA_wA, wR_ri, wA_hA, vu_self, vu_vu, vu_at, hZ_wR, hZ_wA, hU_wR, hU_wA]
    · simp only [h2, if_false, not_false_iff, if_true]
      by_cases h3 : aFocus (ri M q 1804) (ri M q) 1808 = 0 <;> simp [h3, hI_ri, sI_wR, sA_wA, ri_wR_self, ri_wA, ri_sA, ri_sR, ri_sX, ri_sL, hA_wA_self, hA_wR, hA_sI, hA_sR, hA_sX, hA_sL, wR_wR, wA_wA, wR_ri, wA_hA, vu_self, vu_vu, vu_at, hZ_wR, hZ_wA, hU_wR, hU_wA]
def aItem (id : Int32) (g : Nat → Int32) : Nat → Int32 :=
  let g1 := aTell id g
  let g2 := if g1 1804 = 0 then va_up g1 1804 id else g1
  if g2 1805 = 0 then g2 else if id = g2 1802 then va_up g2 1806 1 else if g2 1806 = 0 then g2 else va_up (aFocus id g2) 1805 0
theorem e_Att_item0 (h : hT M q = 9) (id : Int32) : b_Att_tellItem_17 G q id M = some (wR M q (if ri M q 1805 = 0 then ri M q else if id = ri M q 1802 then va_up (ri M q) 1806 1 else if ri M q 1806 = 0 then ri M q else va_up (aFocus id (ri M q)) 1805 0)) := by
  simp only [b_Att_tellItem_17, h, e_Att_focus, not_true, not_false_iff, eq_self, ↓reduceIte, bV_s, bI_s, bR_s, bT_0, bU_0, ob_s, hb_e, vb_e, if_true, if_false, ite_true, ite_false, hT_wR, hT_wA, hT_sI, hT_sA, hT_sR, hT_sX, hT_sL, hN_wR, hN_wA, hN_sI, hN_sA, hN_sR, hN_sX, hN_sL, hR_wR, hR_wA, hR_sI, hR_sA, hR_sX, hR_sL, hX_wR, hX_wA, hX_sI, hX_sA, hX_sR, hX_sL, hI_ri, sI_wR, sA_wA, ri_wR_self, ri_wA, ri_sA, ri_sR, ri_sX, ri_sL, hA_wA_self, hA_wR, hA_sI, hA_sR, hA_sX, hA_sL, wR_wR, wA_wA, wR_ri, wA_hA, vu_self, vu_vu, vu_at, hZ_wR, hZ_wA, hU_wR, hU_wA]
  by_cases h1 : ri M q 1805 = 0
  · simp [h1, wR_ri]
  · by_cases h2 : id = ri M q 1802
    · simp [h1, h2]
    · by_cases h3 : ri M q 1806 = 0
      · simp [h1, h2, h3, wR_ri]
      · simp [h1, h2, h3]
theorem e_Att_tellItem (h : hT M q = 9) (id : Int32) : f_Att_tellItem G q id M = some (wR M q (aItem id (ri M q))) := by
  simp only [f_Att_tellItem, h, e_Att_tell, e_Att_item0, not_true, not_false_iff, eq_self, ↓reduceIte, bV_s, bI_s, bR_s, bT_0, bU_0, ob_s, hb_e, vb_e, if_true, if_false, ite_true, ite_false, hT_wR, hT_wA, hT_sI, hT_sA, hT_sR, hT_sX, hT_sL, hN_wR, hN_wA, hN_sI, hN_sA, hN_sR, hN_sX, hN_sL, hR_wR, hR_wA, hR_sI, hR_sA, hR_sX, hR_sL, hX_wR, hX_wA, hX_sI, hX_sA, hX_sR, hX_sL, hI_ri, sI_wR, sA_wA, ri_wR_self, ri_wA, ri_sA, ri_sR, ri_sX, ri_sL, hA_wA_self, hA_wR, hA_sI, hA_sR, hA_sX, hA_sL, wR_wR, wA_wA, wR_ri, wA_hA, vu_self, vu_vu, vu_at, hZ_wR, hZ_wA, hU_wR, hU_wA, aItem]
  by_cases h1 : aTell id (ri M q) 1804 = 0 <;> simp [h1]
/-! scrolls: 1200 at, 1201 high -/
def scTo (v view : Int32) (g : Nat → Int32) : Nat → Int32 := va_up g 1200 (jmax 0 (jmin v (g 1201 - view)))
theorem e_Scroll_to (h : hT M q = 6) (v view : Int32) : f_Scroll_to G q v view M = some (wR M q (scTo v view (ri M q))) := by
  simp only [f_Scroll_to, h, not_true, not_false_iff, eq_self, ↓reduceIte, bV_s, bI_s, bR_s, bT_0, bU_0, ob_s, hb_e, vb_e, if_true, if_false, ite_true, ite_false, hT_wR, hT_wA, hT_sI, hT_sA, hT_sR, hT_sX, hT_sL, hN_wR, hN_wA, hN_sI, hN_sA, hN_sR, hN_sX, hN_sL, hR_wR, hR_wA, hR_sI, hR_sA, hR_sX, hR_sL, hX_wR, hX_wA, hX_sI, hX_sA, hX_sR, hX_sL, hI_ri, sI_wR, sA_wA, ri_wR_self, ri_wA, ri_sA, ri_sR, ri_sX, ri_sL, hA_wA_self, hA_wR, hA_sI, hA_sR, hA_sX, hA_sL, wR_wR, wA_wA, wR_ri, wA_hA, vu_self, vu_vu, vu_at, hZ_wR, hZ_wA, hU_wR, hU_wA, scTo]
/-! layouts: 1000 firstX, 1001 firstY, 1002 indent, 1003 nextY, 1004 top, 1005 bottom, 1006 lastRight, 1007 wide, 1008 low, 1009 hasLast, 1010 near -/
def lyBe (x y : Int32) (g : Nat → Int32) : Nat → Int32 := va_up (va_up (va_up (va_up (va_up (va_up (va_up (va_up g 1000 x) 1001 y) 1002 0) 1003 y) 1007 x) 1008 y) 1009 0) 1010 0
theorem e_Layout_be (h : hT M q = 5) (x y : Int32) : f_Layout_be G q x y M = some (wR M q (lyBe x y (ri M q))) := by
  simp only [f_Layout_be, h, not_true, not_false_iff, eq_self, ↓reduceIte, bV_s, bI_s, bR_s, bT_0, bU_0, ob_s, hb_e, vb_e, if_true, if_false, ite_true, ite_false, hT_wR, hT_wA, hT_sI, hT_sA, hT_sR, hT_sX, hT_sL, hN_wR, hN_wA, hN_sI, hN_sA, hN_sR, hN_sX, hN_sL, hR_wR, hR_wA, hR_sI, hR_sA, hR_sX, hR_sL, hX_wR, hX_wA, hX_sI, hX_sA, hX_sR, hX_sL, hI_ri, sI_wR, sA_wA, ri_wR_self, ri_wA, ri_sA, ri_sR, ri_sX, ri_sL, hA_wA_self, hA_wR, hA_sI, hA_sR, hA_sX, hA_sL, wR_wR, wA_wA, wR_ri, wA_hA, vu_self, vu_vu, vu_at, hZ_wR, hZ_wA, hU_wR, hU_wA, lyBe]
theorem e_Layout_high (h : hT M q = 5) : f_Layout_high G q M = some (ri M q 1008 - ri M q 1001, M) := by
  simp only [f_Layout_high, h, not_true, not_false_iff, eq_self, ↓reduceIte, bV_s, bI_s, bR_s, bT_0, bU_0, ob_s, hb_e, vb_e, if_true, if_false, ite_true, ite_false, hT_wR, hT_wA, hT_sI, hT_sA, hT_sR, hT_sX, hT_sL, hN_wR, hN_wA, hN_sI, hN_sA, hN_sR, hN_sX, hN_sL, hR_wR, hR_wA, hR_sI, hR_sA, hR_sX, hR_sL, hX_wR, hX_wA, hX_sI, hX_sA, hX_sR, hX_sL, hI_ri, sI_wR, sA_wA, ri_wR_self, ri_wA, ri_sA, ri_sR, ri_sX, ri_sL, hA_wA_self, hA_wR, hA_sI, hA_sR, hA_sX, hA_sL, wR_wR, wA_wA, wR_ri, wA_hA, vu_self, vu_vu, vu_at, hZ_wR, hZ_wA, hU_wR, hU_wA]
abbrev lyN (g : Nat → Int32) : Prop := ¬ g 1010 = 0 ∧ ¬ g 1009 = 0
theorem e_Layout_isNear (h : hT M q = 5) : f_Layout_isNear G q M = some (if lyN (ri M q) then 1 else 0, M) := by
  simp only [f_Layout_isNear, h, not_true, not_false_iff, eq_self, ↓reduceIte, bV_s, bI_s, bR_s, bT_0, bU_0, ob_s, hb_e, vb_e, if_true, if_false, ite_true, ite_false, hT_wR, hT_wA, hT_sI, hT_sA, hT_sR, hT_sX, hT_sL, hN_wR, hN_wA, hN_sI, hN_sA, hN_sR, hN_sX, hN_sL, hR_wR, hR_wA, hR_sI, hR_sA, hR_sX, hR_sL, hX_wR, hX_wA, hX_sI, hX_sA, hX_sR, hX_sL, hI_ri, sI_wR, sA_wA, ri_wR_self, ri_wA, ri_sA, ri_sR, ri_sX, ri_sL, hA_wA_self, hA_wR, hA_sI, hA_sR, hA_sX, hA_sL, wR_wR, wA_wA, wR_ri, wA_hA, vu_self, vu_vu, vu_at, hZ_wR, hZ_wA, hU_wR, hU_wA, lyN]
  by_cases h1 : ri M q 1010 = 0 <;> by_cases h2 : ri M q 1009 = 0 <;> simp [h1, h2]
def lyX (g : Nat → Int32) : Int32 := if lyN g then g 1006 + 4 else g 1000 + g 1002
def lyY (g : Nat → Int32) : Int32 := if lyN g then g 1004 else g 1003
theorem e_Layout_x (h : hT M q = 5) : f_Layout_x G q M = some (lyX (ri M q), M) := by
  simp only [f_Layout_x, h, e_Layout_isNear h, not_true, not_false_iff, eq_self, ↓reduceIte, bV_s, bI_s, bR_s, bT_0, bU_0, ob_s, hb_e, vb_e, if_true, if_false, ite_true, ite_false, hI_ri, lyX]
  by_cases h1 : lyN (ri M q) <;> simp [h1]
theorem e_Layout_y (h : hT M q = 5) : f_Layout_y G q M = some (lyY (ri M q), M) := by
  simp only [f_Layout_y, h, e_Layout_isNear h, not_true, not_false_iff, eq_self, ↓reduceIte, bV_s, bI_s, bR_s, bT_0, bU_0, ob_s, hb_e, vb_e, if_true, if_false, ite_true, ite_false, hI_ri, lyY]
  by_cases h1 : lyN (ri M q) <;> simp [h1]
/-- an item of width w and height hh comes -/
def lyPut (w hh : Int32) (g : Nat → Int32) : Nat → Int32 :=
  let bo := if lyN g then jmax (g 1005) (lyY g + hh) else lyY g + hh
  va_up (va_up (va_up (va_up (va_up (va_up (va_up (va_up g 1005 bo) 1004 (lyY g)) 1006 (lyX g + w)) 1009 1) 1010 0) 1003 (bo + 4)) 1007 (jmax (g 1007) (lyX g + w))) 1008 (jmax (g 1008) (lyY g + hh))
def lyPut0 (x y w hh bo : Int32) (g : Nat → Int32) : Nat → Int32 :=
  va_up (va_up (va_up (va_up (va_up (va_up (va_up (va_up g 1005 bo) 1004 y) 1006 (x + w)) 1009 1) 1010 0) 1003 (bo + 4)) 1007 (jmax (g 1007) (x + w))) 1008 (jmax (g 1008) (y + hh))
theorem e_Layout_put0 (h : hT M q = 5) (h2 : hT M r = 1) (hne : r ≠ q) (w hh x y bo : Int32) : b_Layout_put_38 G q r w hh x y q bo M = some (wR (wR M q (lyPut0 x y w hh bo (ri M q))) r (rcG x y (x + w) (y + hh) (ri M r))) := by
  simp only [b_Layout_put_38, h, h2, e_Rect_be, not_true, not_false_iff, eq_self, ↓reduceIte, bV_s, bI_s, bR_s, bT_0, bU_0, ob_s, hb_e, vb_e, if_true, if_false, ite_true, ite_false, hT_wR, hT_wA, hT_sI, hT_sA, hT_sR, hT_sX, hT_sL, hN_wR, hN_wA, hN_sI, hN_sA, hN_sR, hN_sX, hN_sL, hR_wR, hR_wA, hR_sI, hR_sA, hR_sX, hR_sL, hX_wR, hX_wA, hX_sI, hX_sA, hX_sR, hX_sL, hI_ri, sI_wR, sA_wA, ri_wR_self, ri_wA, ri_sA, ri_sR, ri_sX, ri_sL, hA_wA_self, hA_wR, hA_sI, hA_sR, hA_sX, hA_sL, wR_wR, wA_wA, wR_ri, wA_hA, vu_self, vu_vu, vu_at, hZ_wR, hZ_wA, hU_wR, hU_wA, ri_wR_ne hne, lyPut0]
  generalize ri M q = g
  have n1 : va_up (va_up (va_up (va_up (va_up g 1005 bo) 1004 y) 1006 (x + w)) 1009 1) 1010 0 1005 = bo := by rw [vu_ne (by decide), vu_ne (by decide), vu_ne (by decide), vu_ne (by decide), vu_at]
  rw [n1]
  have n2 : va_up (va_up (va_up (va_up (va_up (va_up g 1005 bo) 1004 y) 1006 (x + w)) 1009 1) 1010 0) 1003 (bo + 4) 1007 = g 1007 := by rw [vu_ne (by decide), vu_ne (by decide), vu_ne (by decide), vu_ne (by decide), vu_ne (by decide), vu_ne (by decide)]
  rw [n2]
  have n3 : va_up (va_up (va_up (va_up (va_up (va_up (va_up g 1005 bo) 1004 y) 1006 (x + w)) 1009 1) 1010 0) 1003 (bo + 4)) 1007 (jmax (g 1007) (x + w)) 1008 = g 1008 := by rw [vu_ne (by decide), vu_ne (by decide), vu_ne (by decide), vu_ne (by decide), vu_ne (by decide), vu_ne (by decide), vu_ne (by decide)]
  rw [n3]
theorem lyPut_0 (w hh : Int32) (g : Nat → Int32) : lyPut w hh g = lyPut0 (lyX g) (lyY g) w hh (if lyN g then jmax (g 1005) (lyY g + hh) else lyY g + hh) g := rfl
theorem e_Layout_put (h : hT M q = 5) (h2 : hT M r = 1) (hne : r ≠ q) (w hh : Int32) : f_Layout_put G q r w hh M = some (wR (wR M q (lyPut w hh (ri M q))) r (rcG (lyX (ri M q)) (lyY (ri M q)) (lyX (ri M q) + w) (lyY (ri M q) + hh) (ri M r))) := by
  rw [lyPut_0]
  simp only [f_Layout_put, h, e_Layout_isNear h, e_Layout_x h, e_Layout_y h, e_Layout_put0 h h2 hne, not_true, not_false_iff, eq_self, ↓reduceIte, bV_s, bI_s, bR_s, bT_0, bU_0, ob_s, hb_e, vb_e, if_true, if_false, ite_true, ite_false, hI_ri]
  by_cases h1 : lyN (ri M q)
  · simp only [if_pos h1, if_neg (show ¬ (1 : Int32) = 0 by decide)]
  · simp only [if_neg h1, if_true, eq_self]
end P1
