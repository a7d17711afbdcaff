-- Input_init
theorem ok_Input_init_0 : okb prog_4_method_1_code 0 [(.aload_n 0, 1), (.invokespecial 3, 3), (.aload_n 0, 1), (.bipush 64, 2), (.newarray .int, 2), (.putfield 11, 3), (.aload_n 0, 1), (.bipush 64, 2), (.newarray .int, 2), (.putfield 15, 3), (.aload_n 0, 1), (.bipush 64, 2), (.newarray .int, 2), (.putfield 18, 3), (.aload_n 0, 1), (.bipush 6, 2), (.newarray .boolean, 2), (.putfield 21, 3), (.aload_n 0, 1), (.bipush 6, 2), (.newarray .boolean, 2), (.putfield 25, 3), (.aload_n 0, 1), (.bipush 6, 2), (.newarray .boolean, 2), (.putfield 28, 3), (.aload_n 0, 1), (.bipush 16, 2), (.newarray .int, 2), (.putfield 31, 3), (.return_, 1)] = true := by decide +kernel
set_option maxRecDepth 100000 in
def f_Input_init (G : GT) (l0 : Nat) (M : PH) : Option (PH) :=
  if hZ M < gC G ∧ hU M + 64 ≤ gS G then hb (nA M 16 64) fun M2 => (if hT M2 l0 = 2 then hb (sR M2 400 l0 (some (hZ M))) fun M6 => if hZ M6 < gC G ∧ hU M6 + 64 ≤ gS G then hb (nA M6 16 64) fun M8 => (if hT M8 l0 = 2 then hb (sR M8 401 l0 (some (hZ M6))) fun M12 => if hZ M12 < gC G ∧ hU M12 + 64 ≤ gS G then hb (nA M12 16 64) fun M14 => (if hT M14 l0 = 2 then hb (sR M14 402 l0 (some (hZ M12))) fun M18 => if hZ M18 < gC G ∧ hU M18 + 6 ≤ gS G then hb (nA M18 17 6) fun M20 => (if hT M20 l0 = 2 then hb (sR M20 412 l0 (some (hZ M18))) fun M24 => if hZ M24 < gC G ∧ hU M24 + 6 ≤ gS G then hb (nA M24 17 6) fun M26 => (if hT M26 l0 = 2 then hb (sR M26 413 l0 (some (hZ M24))) fun M30 => if hZ M30 < gC G ∧ hU M30 + 6 ≤ gS G then hb (nA M30 17 6) fun M32 => (if hT M32 l0 = 2 then hb (sR M32 414 l0 (some (hZ M30))) fun M36 => if hZ M36 < gC G ∧ hU M36 + 16 ≤ gS G then hb (nA M36 16 16) fun M38 => (if hT M38 l0 = 2 then hb (sR M38 415 l0 (some (hZ M36))) fun M42 => some M42 else none) else none else none) else none else none) else none else none) else none else none) else none else none) else none else none) else none
set_option maxRecDepth 100000 in
set_option maxHeartbeats 4000000 in
theorem s_Input_init {G : GT} (l0 : Nat) (M : PH) : VX G mi_Input_init 1 12 0 [some (.ref l0)] [] M qV (f_Input_init G l0 M) := by
  unfold f_Input_init
  refine V_open ok_Input_init_0 ?_
  refine B_aload_n rfl ?_
  refine B_obj lj_Input_3 rfl ?_
  refine B_aload_n rfl ?_
  refine B_bipush (64 : Int32) bp_64 ?_
  refine K_newac 16 64 rfl rfl la_16 (fun M2 e1 => ?_)
  have t3 : hT M2 (hZ M) = 16 := by rw [e1]; exact nA_T
  refine B_chk (fun t4 => ?_)
  refine K_putR 2 0 400 lf_Input_11 rfl (Or.inr ⟨rfl, rfl⟩) rfl t4 (fun M6 e5 => ?_)
  refine B_aload_n rfl ?_
  refine B_bipush (64 : Int32) bp_64 ?_
  refine K_newac 16 64 rfl rfl la_16 (fun M8 e7 => ?_)
  have t9 : hT M8 (hZ M6) = 16 := by rw [e7]; exact nA_T
  refine B_chk (fun t10 => ?_)
  refine K_putR 2 1 401 lf_Input_15 rfl (Or.inr ⟨rfl, rfl⟩) rfl t10 (fun M12 e11 => ?_)
  refine B_aload_n rfl ?_
  refine B_bipush (64 : Int32) bp_64 ?_
  refine K_newac 16 64 rfl rfl la_16 (fun M14 e13 => ?_)
  have t15 : hT M14 (hZ M12) = 16 := by rw [e13]; exact nA_T
  refine B_chk (fun t16 => ?_)
  refine K_putR 2 2 402 lf_Input_18 rfl (Or.inr ⟨rfl, rfl⟩) rfl t16 (fun M18 e17 => ?_)
  refine B_aload_n rfl ?_
  refine B_bipush (6 : Int32) bp_6 ?_
  refine K_newac 17 6 rfl rfl la_17 (fun M20 e19 => ?_)
  have t21 : hT M20 (hZ M18) = 17 := by rw [e19]; exact nA_T
  refine B_chk (fun t22 => ?_)
  refine K_putR 2 12 412 lf_Input_21 rfl (Or.inr ⟨rfl, rfl⟩) rfl t22 (fun M24 e23 => ?_)
  refine B_aload_n rfl ?_
  refine B_bipush (6 : Int32) bp_6 ?_
  refine K_newac 17 6 rfl rfl la_17 (fun M26 e25 => ?_)
  have t27 : hT M26 (hZ M24) = 17 := by rw [e25]; exact nA_T
  refine B_chk (fun t28 => ?_)
  refine K_putR 2 13 413 lf_Input_25 rfl (Or.inr ⟨rfl, rfl⟩) rfl t28 (fun M30 e29 => ?_)
  refine B_aload_n rfl ?_
  refine B_bipush (6 : Int32) bp_6 ?_
  refine K_newac 17 6 rfl rfl la_17 (fun M32 e31 => ?_)
  have t33 : hT M32 (hZ M30) = 17 := by rw [e31]; exact nA_T
  refine B_chk (fun t34 => ?_)
  refine K_putR 2 14 414 lf_Input_28 rfl (Or.inr ⟨rfl, rfl⟩) rfl t34 (fun M36 e35 => ?_)
  refine B_aload_n rfl ?_
  refine B_bipush (16 : Int32) bp_16 ?_
  refine K_newac 16 16 rfl rfl la_16 (fun M38 e37 => ?_)
  have t39 : hT M38 (hZ M36) = 16 := by rw [e37]; exact nA_T
  refine B_chk (fun t40 => ?_)
  refine K_putR 2 15 415 lf_Input_31 rfl (Or.inr ⟨rfl, rfl⟩) rfl t40 (fun M42 e41 => ?_)
  exact B_vret rfl

-- Store_init
theorem ok_Store_init_0 : okb prog_11_method_1_code 0 [(.aload_n 0, 1), (.invokespecial 3, 3), (.aload_n 0, 1), (.bipush 64, 2), (.newarray .int, 2), (.putfield 11, 3), (.aload_n 0, 1), (.bipush 64, 2), (.newarray .int, 2), (.putfield 15, 3), (.aload_n 0, 1), (.bipush 64, 2), (.newarray .int, 2), (.putfield 18, 3), (.aload_n 0, 1), (.bipush 64, 2), (.newarray .int, 2), (.putfield 21, 3), (.aload_n 0, 1), (.sipush 768, 3), (.newarray .byte, 2), (.putfield 24, 3), (.return_, 1)] = true := by decide +kernel
set_option maxRecDepth 100000 in
def f_Store_init (G : GT) (l0 : Nat) (M : PH) : Option (PH) :=
  if hZ M < gC G ∧ hU M + 64 ≤ gS G then hb (nA M 16 64) fun M2 => (if hT M2 l0 = 3 then hb (sR M2 600 l0 (some (hZ M))) fun M6 => if hZ M6 < gC G ∧ hU M6 + 64 ≤ gS G then hb (nA M6 16 64) fun M8 => (if hT M8 l0 = 3 then hb (sR M8 601 l0 (some (hZ M6))) fun M12 => if hZ M12 < gC G ∧ hU M12 + 64 ≤ gS G then hb (nA M12 16 64) fun M14 => (if hT M14 l0 = 3 then hb (sR M14 602 l0 (some (hZ M12))) fun M18 => if hZ M18 < gC G ∧ hU M18 + 64 ≤ gS G then hb (nA M18 16 64) fun M20 => (if hT M20 l0 = 3 then hb (sR M20 603 l0 (some (hZ M18))) fun M24 => if hZ M24 < gC G ∧ hU M24 + 768 ≤ gS G then hb (nA M24 18 768) fun M26 => (if hT M26 l0 = 3 then hb (sR M26 604 l0 (some (hZ M24))) fun M30 => some M30 else none) else none else none) else none else none) else none else none) else none else none) else none
set_option maxRecDepth 100000 in
set_option maxHeartbeats 4000000 in
theorem s_Store_init {G : GT} (l0 : Nat) (M : PH) : VX G mi_Store_init 1 12 0 [some (.ref l0)] [] M qV (f_Store_init G l0 M) := by
  unfold f_Store_init
  refine V_open ok_Store_init_0 ?_
  refine B_aload_n rfl ?_
  refine B_obj lj_Store_3 rfl ?_
  refine B_aload_n rfl ?_
  refine B_bipush (64 : Int32) bp_64 ?_
  refine K_newac 16 64 rfl rfl la_16 (fun M2 e1 => ?_)
  have t3 : hT M2 (hZ M) = 16 := by rw [e1]; exact nA_T
  refine B_chk (fun t4 => ?_)
  refine K_putR 3 0 600 lf_Store_11 rfl (Or.inr ⟨rfl, rfl⟩) rfl t4 (fun M6 e5 => ?_)
  refine B_aload_n rfl ?_
  refine B_bipush (64 : Int32) bp_64 ?_
  refine K_newac 16 64 rfl rfl la_16 (fun M8 e7 => ?_)
  have t9 : hT M8 (hZ M6) = 16 := by rw [e7]; exact nA_T
  refine B_chk (fun t10 => ?_)
  refine K_putR 3 1 601 lf_Store_15 rfl (Or.inr ⟨rfl, rfl⟩) rfl t10 (fun M12 e11 => ?_)
  refine B_aload_n rfl ?_
  refine B_bipush (64 : Int32) bp_64 ?_
  refine K_newac 16 64 rfl rfl la_16 (fun M14 e13 => ?_)
  have t15 : hT M14 (hZ M12) = 16 := by rw [e13]; exact nA_T
  refine B_chk (fun t16 => ?_)
  refine K_putR 3 2 602 lf_Store_18 rfl (Or.inr ⟨rfl, rfl⟩) rfl t16 (fun M18 e17 => ?_)
  refine B_aload_n rfl ?_
  refine B_bipush (64 : Int32) bp_64 ?_
  refine K_newac 16 64 rfl rfl la_16 (fun M20 e19 => ?_)
  have t21 : hT M20 (hZ M18) = 16 := by rw [e19]; exact nA_T
  refine B_chk (fun t22 => ?_)
  refine K_putR 3 3 603 lf_Store_21 rfl (Or.inr ⟨rfl, rfl⟩) rfl t22 (fun M24 e23 => ?_)
  refine B_aload_n rfl ?_
  refine B_sipush (768 : Int32) sp_768 ?_
  refine K_newac 18 768 rfl rfl la_18 (fun M26 e25 => ?_)
  have t27 : hT M26 (hZ M24) = 18 := by rw [e25]; exact nA_T
  refine B_chk (fun t28 => ?_)
  refine K_putR 3 4 604 lf_Store_24 rfl (Or.inr ⟨rfl, rfl⟩) rfl t28 (fun M30 e29 => ?_)
  exact B_vret rfl

-- Att_init
theorem ok_Att_init_0 : okb prog_2_method_1_code 0 [(.aload_n 0, 1), (.invokespecial 1, 3), (.return_, 1)] = true := by decide +kernel
set_option maxRecDepth 100000 in
def f_Att_init (G : GT) (l0 : Nat) (M : PH) : Option (PH) :=
  some M
set_option maxRecDepth 100000 in
set_option maxHeartbeats 4000000 in
theorem s_Att_init {G : GT} (l0 : Nat) (M : PH) : VX G mi_Att_init 1 12 0 [some (.ref l0)] [] M qV (f_Att_init G l0 M) := by
  unfold f_Att_init
  refine V_open ok_Att_init_0 ?_
  refine B_aload_n rfl ?_
  refine B_obj lj_Att_1 rfl ?_
  exact B_vret rfl

-- Rect_init
theorem ok_Rect_init_0 : okb prog_8_method_1_code 0 [(.aload_n 0, 1), (.invokespecial 1, 3), (.return_, 1)] = true := by decide +kernel
set_option maxRecDepth 100000 in
def f_Rect_init (G : GT) (l0 : Nat) (M : PH) : Option (PH) :=
  some M
set_option maxRecDepth 100000 in
set_option maxHeartbeats 4000000 in
theorem s_Rect_init {G : GT} (l0 : Nat) (M : PH) : VX G mi_Rect_init 1 12 0 [some (.ref l0)] [] M qV (f_Rect_init G l0 M) := by
  unfold f_Rect_init
  refine V_open ok_Rect_init_0 ?_
  refine B_aload_n rfl ?_
  refine B_obj lj_Rect_1 rfl ?_
  exact B_vret rfl

-- Row_init
theorem ok_Row_init_0 : okb prog_9_method_1_code 0 [(.aload_n 0, 1), (.invokespecial 3, 3), (.aload_n 0, 1), (.bipush 64, 2), (.newarray .int, 2), (.putfield 9, 3), (.return_, 1)] = true := by decide +kernel
set_option maxRecDepth 100000 in
def f_Row_init (G : GT) (l0 : Nat) (M : PH) : Option (PH) :=
  if hZ M < gC G ∧ hU M + 64 ≤ gS G then hb (nA M 16 64) fun M2 => (if hT M2 l0 = 0 then hb (sR M2 0 l0 (some (hZ M))) fun M6 => some M6 else none) else none
set_option maxRecDepth 100000 in
set_option maxHeartbeats 4000000 in
theorem s_Row_init {G : GT} (l0 : Nat) (M : PH) : VX G mi_Row_init 1 12 0 [some (.ref l0)] [] M qV (f_Row_init G l0 M) := by
  unfold f_Row_init
  refine V_open ok_Row_init_0 ?_
  refine B_aload_n rfl ?_
  refine B_obj lj_Row_3 rfl ?_
  refine B_aload_n rfl ?_
  refine B_bipush (64 : Int32) bp_64 ?_
  refine K_newac 16 64 rfl rfl la_16 (fun M2 e1 => ?_)
  have t3 : hT M2 (hZ M) = 16 := by rw [e1]; exact nA_T
  refine B_chk (fun t4 => ?_)
  refine K_putR 0 0 0 lf_Row_9 rfl (Or.inl rfl) rfl t4 (fun M6 e5 => ?_)
  exact B_vret rfl

-- DrawList_init
theorem ok_DrawList_init_0 : okb prog_3_method_1_code 0 [(.aload_n 0, 1), (.invokespecial 1, 3), (.aload_n 0, 1), (.new 7, 3), (.dup, 1), (.invokespecial 9, 3), (.putfield 10, 3), (.aload_n 0, 1), (.new 7, 3), (.dup, 1), (.invokespecial 9, 3), (.putfield 16, 3), (.aload_n 0, 1), (.new 7, 3), (.dup, 1), (.invokespecial 9, 3), (.putfield 19, 3), (.return_, 1)] = true := by decide +kernel
set_option maxRecDepth 100000 in
def f_DrawList_init (G : GT) (l0 : Nat) (M : PH) : Option (PH) :=
  if hZ M < gC G ∧ hU M + 2 ≤ gS G then hb (nO M 0 2) fun M2 => (bV (f_Row_init G (hZ M) M2) fun M4 => (if hT M4 l0 = 4 then hb (sR M4 800 l0 (some (hZ M))) fun M7 => if hZ M7 < gC G ∧ hU M7 + 2 ≤ gS G then hb (nO M7 0 2) fun M9 => (bV (f_Row_init G (hZ M7) M9) fun M11 => (if hT M11 l0 = 4 then hb (sR M11 801 l0 (some (hZ M7))) fun M14 => if hZ M14 < gC G ∧ hU M14 + 2 ≤ gS G then hb (nO M14 0 2) fun M16 => (bV (f_Row_init G (hZ M14) M16) fun M18 => (if hT M18 l0 = 4 then hb (sR M18 802 l0 (some (hZ M14))) fun M21 => some M21 else none)) else none else none)) else none else none)) else none
set_option maxRecDepth 100000 in
set_option maxHeartbeats 4000000 in
theorem s_DrawList_init {G : GT} (l0 : Nat) (M : PH) : VX G mi_DrawList_init 2 26 0 [some (.ref l0)] [] M qV (f_DrawList_init G l0 M) := by
  unfold f_DrawList_init
  refine V_open ok_DrawList_init_0 ?_
  refine B_aload_n rfl ?_
  refine B_obj lj_DrawList_1 rfl ?_
  refine B_aload_n rfl ?_
  refine K_new 0 2 rfl rfl lc_DrawList_7 (fun M2 e1 => ?_)
  have t3 : hT M2 (hZ M) = 0 := by rw [e1]; exact nO_T
  refine B_dup rfl ?_
  refine C_V (vs := [.ref (hZ M)]) (st := [.ref (hZ M), .ref l0]) (ci_I li_DrawList_9 rfl) rfl rfl rfl (s_Row_init (hZ M) M2) (fun M4 => ?_)
  refine B_chk (fun t5 => ?_)
  refine K_putR 4 0 800 lf_DrawList_10 rfl (Or.inr ⟨rfl, rfl⟩) rfl t5 (fun M7 e6 => ?_)
  refine B_aload_n rfl ?_
  refine K_new 0 2 rfl rfl lc_DrawList_7 (fun M9 e8 => ?_)
  have t10 : hT M9 (hZ M7) = 0 := by rw [e8]; exact nO_T
  refine B_dup rfl ?_
  refine C_V (vs := [.ref (hZ M7)]) (st := [.ref (hZ M7), .ref l0]) (ci_I li_DrawList_9 rfl) rfl rfl rfl (s_Row_init (hZ M7) M9) (fun M11 => ?_)
  refine B_chk (fun t12 => ?_)
  refine K_putR 4 1 801 lf_DrawList_16 rfl (Or.inr ⟨rfl, rfl⟩) rfl t12 (fun M14 e13 => ?_)
  refine B_aload_n rfl ?_
  refine K_new 0 2 rfl rfl lc_DrawList_7 (fun M16 e15 => ?_)
  have t17 : hT M16 (hZ M14) = 0 := by rw [e15]; exact nO_T
  refine B_dup rfl ?_
  refine C_V (vs := [.ref (hZ M14)]) (st := [.ref (hZ M14), .ref l0]) (ci_I li_DrawList_9 rfl) rfl rfl rfl (s_Row_init (hZ M14) M16) (fun M18 => ?_)
  refine B_chk (fun t19 => ?_)
  refine K_putR 4 2 802 lf_DrawList_19 rfl (Or.inr ⟨rfl, rfl⟩) rfl t19 (fun M21 e20 => ?_)
  exact B_vret rfl

-- Scroll_init
theorem ok_Scroll_init_0 : okb prog_10_method_1_code 0 [(.aload_n 0, 1), (.invokespecial 1, 3), (.return_, 1)] = true := by decide +kernel
set_option maxRecDepth 100000 in
def f_Scroll_init (G : GT) (l0 : Nat) (M : PH) : Option (PH) :=
  some M
set_option maxRecDepth 100000 in
set_option maxHeartbeats 4000000 in
theorem s_Scroll_init {G : GT} (l0 : Nat) (M : PH) : VX G mi_Scroll_init 1 12 0 [some (.ref l0)] [] M qV (f_Scroll_init G l0 M) := by
  unfold f_Scroll_init
  refine V_open ok_Scroll_init_0 ?_
  refine B_aload_n rfl ?_
  refine B_obj lj_Scroll_1 rfl ?_
  exact B_vret rfl

-- Panel_init
theorem ok_Panel_init_0 : okb prog_7_method_1_code 0 [(.aload_n 0, 1), (.invokespecial 3, 3), (.aload_n 0, 1), (.new 9, 3), (.dup, 1), (.invokespecial 11, 3), (.putfield 12, 3), (.aload_n 0, 1), (.new 18, 3), (.dup, 1), (.invokespecial 20, 3), (.putfield 21, 3), (.aload_n 0, 1), (.new 25, 3), (.dup, 1), (.invokespecial 27, 3), (.putfield 28, 3), (.aload_n 0, 1), (.iload_n 1, 1), (.putfield 32, 3), (.return_, 1)] = true := by decide +kernel
set_option maxRecDepth 100000 in
def f_Panel_init (G : GT) (l0 : Nat) (l1 : Int32) (M : PH) : Option (PH) :=
  if hZ M < gC G ∧ hU M + 4 ≤ gS G then hb (nO M 1 4) fun M2 => (bV (f_Rect_init G (hZ M) M2) fun M4 => (if hT M4 l0 = 7 then hb (sR M4 1401 l0 (some (hZ M))) fun M7 => if hZ M7 < gC G ∧ hU M7 + 2 ≤ gS G then hb (nO M7 6 2) fun M9 => (bV (f_Scroll_init G (hZ M7) M9) fun M11 => (if hT M11 l0 = 7 then hb (sR M11 1402 l0 (some (hZ M7))) fun M14 => if hZ M14 < gC G ∧ hU M14 + 3 ≤ gS G then hb (nO M14 4 3) fun M16 => (bV (f_DrawList_init G (hZ M14) M16) fun M18 => (if hT M18 l0 = 7 then hb (sR M18 1403 l0 (some (hZ M14))) fun M21 => hb (sI M21 1400 l0 l1) fun M24 => some M24 else none)) else none else none)) else none else none)) else none
set_option maxRecDepth 100000 in
set_option maxHeartbeats 4000000 in
theorem s_Panel_init {G : GT} (l0 : Nat) (l1 : Int32) (M : PH) : VX G mi_Panel_init 3 40 0 [some (.ref l0), some (.int l1)] [] M qV (f_Panel_init G l0 l1 M) := by
  unfold f_Panel_init
  refine V_open ok_Panel_init_0 ?_
  refine B_aload_n rfl ?_
  refine B_obj lj_Panel_3 rfl ?_
  refine B_aload_n rfl ?_
  refine K_new 1 4 rfl rfl lc_Panel_9 (fun M2 e1 => ?_)
  have t3 : hT M2 (hZ M) = 1 := by rw [e1]; exact nO_T
  refine B_dup rfl ?_
  refine C_V (vs := [.ref (hZ M)]) (st := [.ref (hZ M), .ref l0]) (ci_I li_Panel_11 rfl) rfl rfl rfl (s_Rect_init (hZ M) M2) (fun M4 => ?_)
  refine B_chk (fun t5 => ?_)
  refine K_putR 7 1 1401 lf_Panel_12 rfl (Or.inr ⟨rfl, rfl⟩) rfl t5 (fun M7 e6 => ?_)
  refine B_aload_n rfl ?_
  refine K_new 6 2 rfl rfl lc_Panel_18 (fun M9 e8 => ?_)
  have t10 : hT M9 (hZ M7) = 6 := by rw [e8]; exact nO_T
  refine B_dup rfl ?_
  refine C_V (vs := [.ref (hZ M7)]) (st := [.ref (hZ M7), .ref l0]) (ci_I li_Panel_20 rfl) rfl rfl rfl (s_Scroll_init (hZ M7) M9) (fun M11 => ?_)
  refine B_chk (fun t12 => ?_)
  refine K_putR 7 2 1402 lf_Panel_21 rfl (Or.inr ⟨rfl, rfl⟩) rfl t12 (fun M14 e13 => ?_)
  refine B_aload_n rfl ?_
  refine K_new 4 3 rfl rfl lc_Panel_25 (fun M16 e15 => ?_)
  have t17 : hT M16 (hZ M14) = 4 := by rw [e15]; exact nO_T
  refine B_dup rfl ?_
  refine C_V (vs := [.ref (hZ M14)]) (st := [.ref (hZ M14), .ref l0]) (ci_I li_Panel_27 rfl) rfl rfl rfl (s_DrawList_init (hZ M14) M16) (fun M18 => ?_)
  refine B_chk (fun t19 => ?_)
  refine K_putR 7 3 1403 lf_Panel_28 rfl (Or.inr ⟨rfl, rfl⟩) rfl t19 (fun M21 e20 => ?_)
  refine B_aload_n rfl ?_
  refine B_iload_n rfl ?_
  have h22 : hT M21 l0 = 7 := by rw [e20]; exact t19
  refine K_putI 7 0 1400 lf_Panel_32 rfl (Or.inr ⟨rfl, rfl⟩) rfl h22 (fun M24 e23 => ?_)
  exact B_vret rfl

-- Layout_init
theorem ok_Layout_init_0 : okb prog_5_method_1_code 0 [(.aload_n 0, 1), (.invokespecial 1, 3), (.return_, 1)] = true := by decide +kernel
set_option maxRecDepth 100000 in
def f_Layout_init (G : GT) (l0 : Nat) (M : PH) : Option (PH) :=
  some M
set_option maxRecDepth 100000 in
set_option maxHeartbeats 4000000 in
theorem s_Layout_init {G : GT} (l0 : Nat) (M : PH) : VX G mi_Layout_init 1 12 0 [some (.ref l0)] [] M qV (f_Layout_init G l0 M) := by
  unfold f_Layout_init
  refine V_open ok_Layout_init_0 ?_
  refine B_aload_n rfl ?_
  refine B_obj lj_Layout_1 rfl ?_
  exact B_vret rfl

-- Level_init
theorem ok_Level_init_0 : okb prog_6_method_1_code 0 [(.aload_n 0, 1), (.invokespecial 1, 3), (.aload_n 0, 1), (.new 7, 3), (.dup, 1), (.invokespecial 9, 3), (.putfield 10, 3), (.aload_n 0, 1), (.new 16, 3), (.dup, 1), (.invokespecial 18, 3), (.putfield 19, 3), (.return_, 1)] = true := by decide +kernel
set_option maxRecDepth 100000 in
def f_Level_init (G : GT) (l0 : Nat) (M : PH) : Option (PH) :=
  if hZ M < gC G ∧ hU M + 11 ≤ gS G then hb (nO M 5 11) fun M2 => (bV (f_Layout_init G (hZ M) M2) fun M4 => (if hT M4 l0 = 8 then hb (sR M4 1603 l0 (some (hZ M))) fun M7 => if hZ M7 < gC G ∧ hU M7 + 4 ≤ gS G then hb (nO M7 1 4) fun M9 => (bV (f_Rect_init G (hZ M7) M9) fun M11 => (if hT M11 l0 = 8 then hb (sR M11 1604 l0 (some (hZ M7))) fun M14 => some M14 else none)) else none else none)) else none
set_option maxRecDepth 100000 in
set_option maxHeartbeats 4000000 in
theorem s_Level_init {G : GT} (l0 : Nat) (M : PH) : VX G mi_Level_init 2 26 0 [some (.ref l0)] [] M qV (f_Level_init G l0 M) := by
  unfold f_Level_init
  refine V_open ok_Level_init_0 ?_
  refine B_aload_n rfl ?_
  refine B_obj lj_Level_1 rfl ?_
  refine B_aload_n rfl ?_
  refine K_new 5 11 rfl rfl lc_Level_7 (fun M2 e1 => ?_)
  have t3 : hT M2 (hZ M) = 5 := by rw [e1]; exact nO_T
  refine B_dup rfl ?_
  refine C_V (vs := [.ref (hZ M)]) (st := [.ref (hZ M), .ref l0]) (ci_I li_Level_9 rfl) rfl rfl rfl (s_Layout_init (hZ M) M2) (fun M4 => ?_)
  refine B_chk (fun t5 => ?_)
  refine K_putR 8 3 1603 lf_Level_10 rfl (Or.inr ⟨rfl, rfl⟩) rfl t5 (fun M7 e6 => ?_)
  refine B_aload_n rfl ?_
  refine K_new 1 4 rfl rfl lc_Level_16 (fun M9 e8 => ?_)
  have t10 : hT M9 (hZ M7) = 1 := by rw [e8]; exact nO_T
  refine B_dup rfl ?_
  refine C_V (vs := [.ref (hZ M7)]) (st := [.ref (hZ M7), .ref l0]) (ci_I li_Level_18 rfl) rfl rfl rfl (s_Rect_init (hZ M7) M9) (fun M11 => ?_)
  refine B_chk (fun t12 => ?_)
  refine K_putR 8 4 1604 lf_Level_19 rfl (Or.inr ⟨rfl, rfl⟩) rfl t12 (fun M14 e13 => ?_)
  exact B_vret rfl

-- Rect_be
theorem ok_Rect_be_0 : okb prog_8_method_2_code 0 [(.aload_n 0, 1), (.iload_n 1, 1), (.putfield 7, 3), (.aload_n 0, 1), (.iload_n 2, 1), (.putfield 13, 3), (.aload_n 0, 1), (.iload_n 3, 1), (.putfield 16, 3), (.aload_n 0, 1), (.iload 4, 2), (.putfield 19, 3), (.return_, 1)] = true := by decide +kernel
set_option maxRecDepth 100000 in
def f_Rect_be (G : GT) (l0 : Nat) (l1 : Int32) (l2 : Int32) (l3 : Int32) (l4 : Int32) (M : PH) : Option (PH) :=
  if hT M l0 = 1 then hb (sI M 200 l0 l1) fun M3 => hb (sI M3 201 l0 l2) fun M6 => hb (sI M6 202 l0 l3) fun M9 => hb (sI M9 203 l0 l4) fun M12 => some M12 else none
set_option maxRecDepth 100000 in
set_option maxHeartbeats 4000000 in
theorem s_Rect_be {G : GT} (l0 : Nat) (l1 : Int32) (l2 : Int32) (l3 : Int32) (l4 : Int32) (M : PH) : VX G mi_Rect_be 0 0 0 [some (.ref l0), some (.int l1), some (.int l2), some (.int l3), some (.int l4)] [] M qV (f_Rect_be G l0 l1 l2 l3 l4 M) := by
  unfold f_Rect_be
  refine V_open ok_Rect_be_0 ?_
  refine B_aload_n rfl ?_
  refine B_iload_n rfl ?_
  refine B_chk (fun t1 => ?_)
  refine K_putI 1 0 200 lf_Rect_7 rfl (Or.inl rfl) rfl t1 (fun M3 e2 => ?_)
  refine B_aload_n rfl ?_
  refine B_iload_n rfl ?_
  have h4 : hT M3 l0 = 1 := by rw [e2]; exact t1
  refine K_putI 1 1 201 lf_Rect_13 rfl (Or.inl rfl) rfl h4 (fun M6 e5 => ?_)
  refine B_aload_n rfl ?_
  refine B_iload_n rfl ?_
  have h7 : hT M6 l0 = 1 := by rw [e5]; exact h4
  refine K_putI 1 2 202 lf_Rect_16 rfl (Or.inl rfl) rfl h7 (fun M9 e8 => ?_)
  refine B_aload_n rfl ?_
  refine B_iload rfl ?_
  have h10 : hT M9 l0 = 1 := by rw [e8]; exact h7
  refine K_putI 1 3 203 lf_Rect_19 rfl (Or.inl rfl) rfl h10 (fun M12 e11 => ?_)
  exact B_vret rfl

-- PF_init
theorem ok_PF_init_0 : okb prog_1_method_1_code 0 [(.aload_n 0, 1), (.invokespecial 1, 3), (.aload_n 0, 1), (.new 7, 3), (.dup, 1), (.invokespecial 9, 3), (.putfield 10, 3), (.aload_n 0, 1), (.new 16, 3), (.dup, 1), (.invokespecial 18, 3), (.putfield 19, 3), (.aload_n 0, 1), (.new 23, 3), (.dup, 1), (.invokespecial 25, 3), (.putfield 26, 3), (.aload_n 0, 1), (.bipush 9, 2), (.anewarray 30, 3), (.putfield 32, 3), (.aload_n 0, 1), (.bipush 8, 2), (.newarray .int, 2), (.putfield 36, 3), (.aload_n 0, 1), (.bipush 41, 2), (.anewarray 40, 3), (.putfield 42, 3), (.aload_n 0, 1), (.iconst (-1), 1), (.putfield 46, 3), (.aload_n 0, 1), (.iconst (-1), 1), (.putfield 50, 3), (.aload_n 0, 1), (.bipush 8, 2), (.anewarray 53, 3), (.putfield 55, 3), (.aload_n 0, 1), (.bipush 8, 2), (.newarray .int, 2), (.putfield 59, 3), (.aload_n 0, 1), (.bipush 8, 2), (.anewarray 62, 3), (.putfield 64, 3), (.aload_n 0, 1), (.iconst (-1), 1), (.putfield 68, 3), (.aload_n 0, 1), (.new 62, 3), (.dup, 1), (.invokespecial 71, 3), (.putfield 72, 3), (.aload_n 0, 1), (.new 62, 3), (.dup, 1), (.invokespecial 71, 3), (.putfield 76, 3), (.aload_n 0, 1), (.new 62, 3), (.dup, 1), (.invokespecial 71, 3), (.putfield 79, 3), (.aload_n 0, 1), (.new 62, 3), (.dup, 1), (.invokespecial 71, 3), (.putfield 82, 3), (.aload_n 0, 1), (.new 85, 3), (.dup, 1), (.invokespecial 87, 3), (.putfield 88, 3), (.iconst 0, 1), (.istore_n 1, 1)] = true := by decide +kernel
theorem ok_PF_init_161 : okb prog_1_method_1_code 161 [(.iload_n 1, 1), (.bipush 8, 2), (.if_icmp .gt 23, 3), (.aload_n 0, 1), (.getfield 32, 3), (.iload_n 1, 1), (.new 30, 3), (.dup, 1), (.iload_n 1, 1), (.invokespecial 92, 3), (.aastore, 1), (.iinc 1 1, 3), (.goto (-23), 3)] = true := by decide +kernel
theorem ok_PF_init_187 : okb prog_1_method_1_code 187 [(.iconst 0, 1), (.istore_n 1, 1)] = true := by decide +kernel
theorem ok_PF_init_189 : okb prog_1_method_1_code 189 [(.iload_n 1, 1), (.bipush 8, 2), (.if_icmp .ge 16, 3), (.aload_n 0, 1), (.getfield 36, 3), (.iload_n 1, 1), (.iload_n 1, 1), (.iastore, 1), (.iinc 1 1, 3), (.goto (-16), 3)] = true := by decide +kernel
theorem ok_PF_init_208 : okb prog_1_method_1_code 208 [(.iconst 0, 1), (.istore_n 1, 1)] = true := by decide +kernel
theorem ok_PF_init_210 : okb prog_1_method_1_code 210 [(.iload_n 1, 1), (.bipush 40, 2), (.if_icmp .gt 22, 3), (.aload_n 0, 1), (.getfield 42, 3), (.iload_n 1, 1), (.new 40, 3), (.dup, 1), (.invokespecial 95, 3), (.aastore, 1), (.iinc 1 1, 3), (.goto (-22), 3)] = true := by decide +kernel
theorem ok_PF_init_235 : okb prog_1_method_1_code 235 [(.iconst 0, 1), (.istore_n 1, 1)] = true := by decide +kernel
theorem ok_PF_init_237 : okb prog_1_method_1_code 237 [(.iload_n 1, 1), (.bipush 8, 2), (.if_icmp .ge 35, 3), (.aload_n 0, 1), (.getfield 55, 3), (.iload_n 1, 1), (.new 53, 3), (.dup, 1), (.invokespecial 96, 3), (.aastore, 1), (.aload_n 0, 1), (.getfield 64, 3), (.iload_n 1, 1), (.new 62, 3), (.dup, 1), (.invokespecial 71, 3), (.aastore, 1), (.iinc 1 1, 3), (.goto (-35), 3)] = true := by decide +kernel
theorem ok_PF_init_275 : okb prog_1_method_1_code 275 [(.aload_n 0, 1), (.getfield 79, 3), (.iconst 0, 1), (.iconst 0, 1), (.sipush 1000, 3), (.sipush 1000, 3), (.invokevirtual 97, 3), (.return_, 1)] = true := by decide +kernel
set_option maxRecDepth 100000 in
def b_PF_init_237 (G : GT) (k237 : Nat → Int32 → PH → Option (PH)) (l0 : Nat) (l1 : Int32) (M : PH) : Option (PH) :=
  if (8 : Int32) ≤ l1 then (if hT M l0 = 10 then (hR M 2022 l0).bind fun a2 => if hT M a2 = 1 then bV (f_Rect_be G a2 (0 : Int32) (0 : Int32) (1000 : Int32) (1000 : Int32) M) fun M5 => (some M5) else none else none) else (if hT M l0 = 10 then (hR M 2015 l0).bind fun a7 => if hZ M < gC G ∧ hU M + 2 ≤ gS G then hb (nO M 6 2) fun M10 => (bV (f_Scroll_init G (hZ M) M10) fun M12 => (if hT M12 a7 = 22 then if hT M12 (hZ M) = 6 then if ib l1 (hN M12 a7) = true then hb (sX M12 a7 l1.toNatClampNeg (some (hZ M))) fun M16 => (if hT M16 l0 = 10 then (hR M16 2017 l0).bind fun a18 => if hZ M16 < gC G ∧ hU M16 + 4 ≤ gS G then hb (nO M16 1 4) fun M21 => (bV (f_Rect_init G (hZ M16) M21) fun M23 => (if hT M23 a18 = 23 then if hT M23 (hZ M16) = 1 then if ib l1 (hN M23 a18) = true then hb (sX M23 a18 l1.toNatClampNeg (some (hZ M16))) fun M27 => (k237 l0 (l1 + (1 : Int32)) M27) else none else none else none)) else none else none) else none else none else none)) else none else none)
set_option maxRecDepth 100000 in
set_option maxHeartbeats 4000000 in
theorem t_PF_init_237 {G : GT} {k237 : Nat → Int32 → PH → Option (PH)} (hk237 : ∀ (l0 : Nat) (l1 : Int32) (M : PH), VX G mi_PF_init 4 56 237 [some (.ref l0), some (.int l1)] [] M qV (k237 l0 l1 M)) (l0 : Nat) (l1 : Int32) (M : PH) : VX G mi_PF_init 4 56 237 [some (.ref l0), some (.int l1)] [] M qV (b_PF_init_237 G k237 l0 l1 M) := by
  unfold b_PF_init_237
  refine V_open ok_PF_init_237 ?_
  refine B_iload_n rfl ?_
  refine B_bipush (8 : Int32) bp_8 ?_
  refine B_ige (tgt := 275) (by decide) ?_ ?_
  · skip
    refine V_open ok_PF_init_275 ?_
    refine B_aload_n rfl ?_
    refine B_chk (fun t1 => ?_)
    refine K_getR 10 22 2022 lf_PF_79 rfl rfl t1 (fun a2 r3 => ?_)
    refine B_iconst (0 : Int32) ic_0 ?_
    refine B_iconst (0 : Int32) ic_0 ?_
    refine B_sipush (1000 : Int32) sp_1000 ?_
    refine B_sipush (1000 : Int32) sp_1000 ?_
    refine B_chk (fun t4 => ?_)
    refine C_V (vs := [.ref a2, .int (0 : Int32), .int (0 : Int32), .int (1000 : Int32), .int (1000 : Int32)]) (st := []) (ci_V lv_PF_97 rfl rfl t4) rfl rfl rfl (s_Rect_be a2 (0 : Int32) (0 : Int32) (1000 : Int32) (1000 : Int32) M) (fun M5 => ?_)
    exact B_vret rfl
  · skip
    refine B_aload_n rfl ?_
    refine B_chk (fun t6 => ?_)
    refine K_getR 10 15 2015 lf_PF_55 rfl rfl t6 (fun a7 r8 => ?_)
    refine B_iload_n rfl ?_
    refine K_new 6 2 rfl rfl lc_PF_53 (fun M10 e9 => ?_)
    have t11 : hT M10 (hZ M) = 6 := by rw [e9]; exact nO_T
    refine B_dup rfl ?_
    refine C_V (vs := [.ref (hZ M)]) (st := [.ref (hZ M), .int l1, .ref a7]) (ci_I li_PF_96 rfl) rfl rfl rfl (s_Scroll_init (hZ M) M10) (fun M12 => ?_)
    refine B_chk (fun t13 => ?_)
    refine B_chk (fun t14 => ?_)
    refine K_aast 22 6 rfl rfl t13 t14 (fun M16 e15 => ?_)
    refine B_aload_n rfl ?_
    refine B_chk (fun t17 => ?_)
    refine K_getR 10 17 2017 lf_PF_64 rfl rfl t17 (fun a18 r19 => ?_)
    refine B_iload_n rfl ?_
    refine K_new 1 4 rfl rfl lc_PF_62 (fun M21 e20 => ?_)
    have t22 : hT M21 (hZ M16) = 1 := by rw [e20]; exact nO_T
    refine B_dup rfl ?_
    refine C_V (vs := [.ref (hZ M16)]) (st := [.ref (hZ M16), .int l1, .ref a18]) (ci_I li_PF_71 rfl) rfl rfl rfl (s_Rect_init (hZ M16) M21) (fun M23 => ?_)
    refine B_chk (fun t24 => ?_)
    refine B_chk (fun t25 => ?_)
    refine K_aast 23 1 rfl rfl t24 t25 (fun M27 e26 => ?_)
    refine S_inc (1 : Int32) [some (.ref l0), some (.int (l1 + (1 : Int32)))] ic_1 rfl (by decide) rfl ?_
    refine B_goto (tgt := 237) (by decide) ?_
    exact V_weak (ls' := [some (.ref l0), some (.int (l1 + (1 : Int32)))]) ⟨rfl, ⟨rfl, trivial⟩⟩ (hk237 l0 (l1 + (1 : Int32)) M27)
set_option maxRecDepth 100000 in
def w_PF_init_237 (G : GT) : Nat → Nat → Int32 → PH → Option (PH)
  | 0 => fun _ _ _ => none
  | n + 1 => b_PF_init_237 G (w_PF_init_237 G n)
set_option maxRecDepth 100000 in
set_option maxHeartbeats 4000000 in
theorem tw_PF_init_237 {G : GT} : ∀ (n : Nat) (l0 : Nat) (l1 : Int32) (M : PH), VX G mi_PF_init 4 56 237 [some (.ref l0), some (.int l1)] [] M qV (w_PF_init_237 G n l0 l1 M)
  | 0, _, _, _ => X_none
  | n + 1, l0, l1, M => t_PF_init_237 (tw_PF_init_237 n) l0 l1 M
set_option maxRecDepth 100000 in
def b_PF_init_210 (G : GT) (k210 : Nat → Int32 → PH → Option (PH)) (l0 : Nat) (l1 : Int32) (M : PH) : Option (PH) :=
  if (40 : Int32) < l1 then (w_PF_init_237 G FU l0 (0 : Int32) M) else (if hT M l0 = 10 then (hR M 2005 l0).bind fun a2 => if hZ M < gC G ∧ hU M + 6 ≤ gS G then hb (nO M 8 6) fun M5 => (bV (f_Level_init G (hZ M) M5) fun M7 => (if hT M7 a2 = 21 then if hT M7 (hZ M) = 8 then if ib l1 (hN M7 a2) = true then hb (sX M7 a2 l1.toNatClampNeg (some (hZ M))) fun M11 => (k210 l0 (l1 + (1 : Int32)) M11) else none else none else none)) else none else none)
set_option maxRecDepth 100000 in
set_option maxHeartbeats 4000000 in
theorem t_PF_init_210 {G : GT} {k210 : Nat → Int32 → PH → Option (PH)} (hk210 : ∀ (l0 : Nat) (l1 : Int32) (M : PH), VX G mi_PF_init 4 56 210 [some (.ref l0), some (.int l1)] [] M qV (k210 l0 l1 M)) (l0 : Nat) (l1 : Int32) (M : PH) : VX G mi_PF_init 4 56 210 [some (.ref l0), some (.int l1)] [] M qV (b_PF_init_210 G k210 l0 l1 M) := by
  unfold b_PF_init_210
  refine V_open ok_PF_init_210 ?_
  refine B_iload_n rfl ?_
  refine B_bipush (40 : Int32) bp_40 ?_
  refine B_igt (tgt := 235) (by decide) ?_ ?_
  · skip
    refine V_open ok_PF_init_235 ?_
    refine B_iconst (0 : Int32) ic_0 ?_
    refine S_in [some (.ref l0), some (.int (0 : Int32))] (by decide) rfl ?_
    refine V_close ?_
    exact V_weak (ls' := [some (.ref l0), some (.int (0 : Int32))]) ⟨rfl, ⟨rfl, trivial⟩⟩ (tw_PF_init_237 FU l0 (0 : Int32) M)
  · skip
    refine B_aload_n rfl ?_
    refine B_chk (fun t1 => ?_)
    refine K_getR 10 5 2005 lf_PF_42 rfl rfl t1 (fun a2 r3 => ?_)
    refine B_iload_n rfl ?_
    refine K_new 8 6 rfl rfl lc_PF_40 (fun M5 e4 => ?_)
    have t6 : hT M5 (hZ M) = 8 := by rw [e4]; exact nO_T
    refine B_dup rfl ?_
    refine C_V (vs := [.ref (hZ M)]) (st := [.ref (hZ M), .int l1, .ref a2]) (ci_I li_PF_95 rfl) rfl rfl rfl (s_Level_init (hZ M) M5) (fun M7 => ?_)
    refine B_chk (fun t8 => ?_)
    refine B_chk (fun t9 => ?_)
    refine K_aast 21 8 rfl rfl t8 t9 (fun M11 e10 => ?_)
    refine S_inc (1 : Int32) [some (.ref l0), some (.int (l1 + (1 : Int32)))] ic_1 rfl (by decide) rfl ?_
    refine B_goto (tgt := 210) (by decide) ?_
    exact V_weak (ls' := [some (.ref l0), some (.int (l1 + (1 : Int32)))]) ⟨rfl, ⟨rfl, trivial⟩⟩ (hk210 l0 (l1 + (1 : Int32)) M11)
set_option maxRecDepth 100000 in
def w_PF_init_210 (G : GT) : Nat → Nat → Int32 → PH → Option (PH)
  | 0 => fun _ _ _ => none
  | n + 1 => b_PF_init_210 G (w_PF_init_210 G n)
set_option maxRecDepth 100000 in
set_option maxHeartbeats 4000000 in
theorem tw_PF_init_210 {G : GT} : ∀ (n : Nat) (l0 : Nat) (l1 : Int32) (M : PH), VX G mi_PF_init 4 56 210 [some (.ref l0), some (.int l1)] [] M qV (w_PF_init_210 G n l0 l1 M)
  | 0, _, _, _ => X_none
  | n + 1, l0, l1, M => t_PF_init_210 (tw_PF_init_210 n) l0 l1 M
set_option maxRecDepth 100000 in
def b_PF_init_189 (G : GT) (k189 : Nat → Int32 → PH → Option (PH)) (l0 : Nat) (l1 : Int32) (M : PH) : Option (PH) :=
  if (8 : Int32) ≤ l1 then (w_PF_init_210 G FU l0 (0 : Int32) M) else (if hT M l0 = 10 then (hR M 2004 l0).bind fun a2 => if hT M a2 = 16 then if ib l1 (hN M a2) = true then hb (sA M a2 l1.toNatClampNeg l1) fun M6 => (k189 l0 (l1 + (1 : Int32)) M6) else none else none else none)
set_option maxRecDepth 100000 in
set_option maxHeartbeats 4000000 in
theorem t_PF_init_189 {G : GT} {k189 : Nat → Int32 → PH → Option (PH)} (hk189 : ∀ (l0 : Nat) (l1 : Int32) (M : PH), VX G mi_PF_init 4 56 189 [some (.ref l0), some (.int l1)] [] M qV (k189 l0 l1 M)) (l0 : Nat) (l1 : Int32) (M : PH) : VX G mi_PF_init 4 56 189 [some (.ref l0), some (.int l1)] [] M qV (b_PF_init_189 G k189 l0 l1 M) := by
  unfold b_PF_init_189
  refine V_open ok_PF_init_189 ?_
  refine B_iload_n rfl ?_
  refine B_bipush (8 : Int32) bp_8 ?_
  refine B_ige (tgt := 208) (by decide) ?_ ?_
  · skip
    refine V_open ok_PF_init_208 ?_
    refine B_iconst (0 : Int32) ic_0 ?_
    refine S_in [some (.ref l0), some (.int (0 : Int32))] (by decide) rfl ?_
    refine V_close ?_
    exact V_weak (ls' := [some (.ref l0), some (.int (0 : Int32))]) ⟨rfl, ⟨rfl, trivial⟩⟩ (tw_PF_init_210 FU l0 (0 : Int32) M)
  · skip
    refine B_aload_n rfl ?_
    refine B_chk (fun t1 => ?_)
    refine K_getR 10 4 2004 lf_PF_36 rfl rfl t1 (fun a2 r3 => ?_)
    refine B_iload_n rfl ?_
    refine B_iload_n rfl ?_
    refine B_chk (fun t4 => ?_)
    refine K_iast t4 (fun M6 e5 => ?_)
    refine S_inc (1 : Int32) [some (.ref l0), some (.int (l1 + (1 : Int32)))] ic_1 rfl (by decide) rfl ?_
    refine B_goto (tgt := 189) (by decide) ?_
    exact V_weak (ls' := [some (.ref l0), some (.int (l1 + (1 : Int32)))]) ⟨rfl, ⟨rfl, trivial⟩⟩ (hk189 l0 (l1 + (1 : Int32)) M6)
set_option maxRecDepth 100000 in
def w_PF_init_189 (G : GT) : Nat → Nat → Int32 → PH → Option (PH)
  | 0 => fun _ _ _ => none
  | n + 1 => b_PF_init_189 G (w_PF_init_189 G n)
set_option maxRecDepth 100000 in
set_option maxHeartbeats 4000000 in
theorem tw_PF_init_189 {G : GT} : ∀ (n : Nat) (l0 : Nat) (l1 : Int32) (M : PH), VX G mi_PF_init 4 56 189 [some (.ref l0), some (.int l1)] [] M qV (w_PF_init_189 G n l0 l1 M)
  | 0, _, _, _ => X_none
  | n + 1, l0, l1, M => t_PF_init_189 (tw_PF_init_189 n) l0 l1 M
set_option maxRecDepth 100000 in
def b_PF_init_161 (G : GT) (k161 : Nat → Int32 → PH → Option (PH)) (l0 : Nat) (l1 : Int32) (M : PH) : Option (PH) :=
  if (8 : Int32) < l1 then (w_PF_init_189 G FU l0 (0 : Int32) M) else (if hT M l0 = 10 then (hR M 2003 l0).bind fun a2 => if hZ M < gC G ∧ hU M + 10 ≤ gS G then hb (nO M 7 10) fun M5 => (bV (f_Panel_init G (hZ M) l1 M5) fun M7 => (if hT M7 a2 = 20 then if hT M7 (hZ M) = 7 then if ib l1 (hN M7 a2) = true then hb (sX M7 a2 l1.toNatClampNeg (some (hZ M))) fun M11 => (k161 l0 (l1 + (1 : Int32)) M11) else none else none else none)) else none else none)
set_option maxRecDepth 100000 in
set_option maxHeartbeats 4000000 in
theorem t_PF_init_161 {G : GT} {k161 : Nat → Int32 → PH → Option (PH)} (hk161 : ∀ (l0 : Nat) (l1 : Int32) (M : PH), VX G mi_PF_init 4 56 161 [some (.ref l0), some (.int l1)] [] M qV (k161 l0 l1 M)) (l0 : Nat) (l1 : Int32) (M : PH) : VX G mi_PF_init 4 56 161 [some (.ref l0), some (.int l1)] [] M qV (b_PF_init_161 G k161 l0 l1 M) := by
  unfold b_PF_init_161
  refine V_open ok_PF_init_161 ?_
  refine B_iload_n rfl ?_
  refine B_bipush (8 : Int32) bp_8 ?_
  refine B_igt (tgt := 187) (by decide) ?_ ?_
  · skip
    refine V_open ok_PF_init_187 ?_
    refine B_iconst (0 : Int32) ic_0 ?_
    refine S_in [some (.ref l0), some (.int (0 : Int32))] (by decide) rfl ?_
    refine V_close ?_
    exact V_weak (ls' := [some (.ref l0), some (.int (0 : Int32))]) ⟨rfl, ⟨rfl, trivial⟩⟩ (tw_PF_init_189 FU l0 (0 : Int32) M)
  · skip
    refine B_aload_n rfl ?_
    refine B_chk (fun t1 => ?_)
    refine K_getR 10 3 2003 lf_PF_32 rfl rfl t1 (fun a2 r3 => ?_)
    refine B_iload_n rfl ?_
    refine K_new 7 10 rfl rfl lc_PF_30 (fun M5 e4 => ?_)
    have t6 : hT M5 (hZ M) = 7 := by rw [e4]; exact nO_T
    refine B_dup rfl ?_
    refine B_iload_n rfl ?_
    refine C_V (vs := [.ref (hZ M), .int l1]) (st := [.ref (hZ M), .int l1, .ref a2]) (ci_I li_PF_92 rfl) rfl rfl rfl (s_Panel_init (hZ M) l1 M5) (fun M7 => ?_)
    refine B_chk (fun t8 => ?_)
    refine B_chk (fun t9 => ?_)
    refine K_aast 20 7 rfl rfl t8 t9 (fun M11 e10 => ?_)
    refine S_inc (1 : Int32) [some (.ref l0), some (.int (l1 + (1 : Int32)))] ic_1 rfl (by decide) rfl ?_
    refine B_goto (tgt := 161) (by decide) ?_
    exact V_weak (ls' := [some (.ref l0), some (.int (l1 + (1 : Int32)))]) ⟨rfl, ⟨rfl, trivial⟩⟩ (hk161 l0 (l1 + (1 : Int32)) M11)
set_option maxRecDepth 100000 in
def w_PF_init_161 (G : GT) : Nat → Nat → Int32 → PH → Option (PH)
  | 0 => fun _ _ _ => none
  | n + 1 => b_PF_init_161 G (w_PF_init_161 G n)
set_option maxRecDepth 100000 in
set_option maxHeartbeats 4000000 in
theorem tw_PF_init_161 {G : GT} : ∀ (n : Nat) (l0 : Nat) (l1 : Int32) (M : PH), VX G mi_PF_init 4 56 161 [some (.ref l0), some (.int l1)] [] M qV (w_PF_init_161 G n l0 l1 M)
  | 0, _, _, _ => X_none
  | n + 1, l0, l1, M => t_PF_init_161 (tw_PF_init_161 n) l0 l1 M
set_option maxRecDepth 100000 in
def f_PF_init (G : GT) (l0 : Nat) (M : PH) : Option (PH) :=
  if hZ M < gC G ∧ hU M + 16 ≤ gS G then hb (nO M 2 16) fun M2 => (bV (f_Input_init G (hZ M) M2) fun M4 => (if hT M4 l0 = 10 then hb (sR M4 2000 l0 (some (hZ M))) fun M7 => if hZ M7 < gC G ∧ hU M7 + 6 ≤ gS G then hb (nO M7 3 6) fun M9 => (bV (f_Store_init G (hZ M7) M9) fun M11 => (if hT M11 l0 = 10 then hb (sR M11 2001 l0 (some (hZ M7))) fun M14 => if hZ M14 < gC G ∧ hU M14 + 9 ≤ gS G then hb (nO M14 9 9) fun M16 => (bV (f_Att_init G (hZ M14) M16) fun M18 => (if hT M18 l0 = 10 then hb (sR M18 2002 l0 (some (hZ M14))) fun M21 => if hZ M21 < gC G ∧ hU M21 + 9 ≤ gS G then hb (nA M21 20 9) fun M23 => (if hT M23 l0 = 10 then hb (sR M23 2003 l0 (some (hZ M21))) fun M27 => if hZ M27 < gC G ∧ hU M27 + 8 ≤ gS G then hb (nA M27 16 8) fun M29 => (if hT M29 l0 = 10 then hb (sR M29 2004 l0 (some (hZ M27))) fun M33 => if hZ M33 < gC G ∧ hU M33 + 41 ≤ gS G then hb (nA M33 21 41) fun M35 => (if hT M35 l0 = 10 then hb (sR M35 2005 l0 (some (hZ M33))) fun M39 => hb (sI M39 2008 l0 (-1 : Int32)) fun M42 => hb (sI M42 2013 l0 (-1 : Int32)) fun M45 => if hZ M45 < gC G ∧ hU M45 + 8 ≤ gS G then hb (nA M45 22 8) fun M47 => (if hT M47 l0 = 10 then hb (sR M47 2015 l0 (some (hZ M45))) fun M51 => if hZ M51 < gC G ∧ hU M51 + 8 ≤ gS G then hb (nA M51 16 8) fun M53 => (if hT M53 l0 = 10 then hb (sR M53 2016 l0 (some (hZ M51))) fun M57 => if hZ M57 < gC G ∧ hU M57 + 8 ≤ gS G then hb (nA M57 23 8) fun M59 => (if hT M59 l0 = 10 then hb (sR M59 2017 l0 (some (hZ M57))) fun M63 => hb (sI M63 2019 l0 (-1 : Int32)) fun M66 => if hZ M66 < gC G ∧ hU M66 + 4 ≤ gS G then hb (nO M66 1 4) fun M68 => (bV (f_Rect_init G (hZ M66) M68) fun M70 => (if hT M70 l0 = 10 then hb (sR M70 2020 l0 (some (hZ M66))) fun M73 => if hZ M73 < gC G ∧ hU M73 + 4 ≤ gS G then hb (nO M73 1 4) fun M75 => (bV (f_Rect_init G (hZ M73) M75) fun M77 => (if hT M77 l0 = 10 then hb (sR M77 2021 l0 (some (hZ M73))) fun M80 => if hZ M80 < gC G ∧ hU M80 + 4 ≤ gS G then hb (nO M80 1 4) fun M82 => (bV (f_Rect_init G (hZ M80) M82) fun M84 => (if hT M84 l0 = 10 then hb (sR M84 2022 l0 (some (hZ M80))) fun M87 => if hZ M87 < gC G ∧ hU M87 + 4 ≤ gS G then hb (nO M87 1 4) fun M89 => (bV (f_Rect_init G (hZ M87) M89) fun M91 => (if hT M91 l0 = 10 then hb (sR M91 2023 l0 (some (hZ M87))) fun M94 => if hZ M94 < gC G ∧ hU M94 + 3 ≤ gS G then hb (nO M94 4 3) fun M96 => (bV (f_DrawList_init G (hZ M94) M96) fun M98 => (if hT M98 l0 = 10 then hb (sR M98 2024 l0 (some (hZ M94))) fun M101 => w_PF_init_161 G FU l0 (0 : Int32) M101 else none)) else none else none)) else none else none)) else none else none)) else none else none)) else none else none) else none else none) else none else none) else none else none) else none else none) else none else none) else none else none)) else none else none)) else none else none)) else none
set_option maxRecDepth 100000 in
set_option maxHeartbeats 4000000 in
theorem s_PF_init {G : GT} (l0 : Nat) (M : PH) : VX G mi_PF_init 4 56 0 [some (.ref l0), none] [] M qV (f_PF_init G l0 M) := by
  unfold f_PF_init
  refine V_open ok_PF_init_0 ?_
  refine B_aload_n rfl ?_
  refine B_obj lj_PF_1 rfl ?_
  refine B_aload_n rfl ?_
  refine K_new 2 16 rfl rfl lc_PF_7 (fun M2 e1 => ?_)
  have t3 : hT M2 (hZ M) = 2 := by rw [e1]; exact nO_T
  refine B_dup rfl ?_
  refine C_V (vs := [.ref (hZ M)]) (st := [.ref (hZ M), .ref l0]) (ci_I li_PF_9 rfl) rfl rfl rfl (s_Input_init (hZ M) M2) (fun M4 => ?_)
  refine B_chk (fun t5 => ?_)
  refine K_putR 10 0 2000 lf_PF_10 rfl (Or.inr ⟨rfl, rfl⟩) rfl t5 (fun M7 e6 => ?_)
  refine B_aload_n rfl ?_
  refine K_new 3 6 rfl rfl lc_PF_16 (fun M9 e8 => ?_)
  have t10 : hT M9 (hZ M7) = 3 := by rw [e8]; exact nO_T
  refine B_dup rfl ?_
  refine C_V (vs := [.ref (hZ M7)]) (st := [.ref (hZ M7), .ref l0]) (ci_I li_PF_18 rfl) rfl rfl rfl (s_Store_init (hZ M7) M9) (fun M11 => ?_)
  refine B_chk (fun t12 => ?_)
  refine K_putR 10 1 2001 lf_PF_19 rfl (Or.inr ⟨rfl, rfl⟩) rfl t12 (fun M14 e13 => ?_)
  refine B_aload_n rfl ?_
  refine K_new 9 9 rfl rfl lc_PF_23 (fun M16 e15 => ?_)
  have t17 : hT M16 (hZ M14) = 9 := by rw [e15]; exact nO_T
  refine B_dup rfl ?_
  refine C_V (vs := [.ref (hZ M14)]) (st := [.ref (hZ M14), .ref l0]) (ci_I li_PF_25 rfl) rfl rfl rfl (s_Att_init (hZ M14) M16) (fun M18 => ?_)
  refine B_chk (fun t19 => ?_)
  refine K_putR 10 2 2002 lf_PF_26 rfl (Or.inr ⟨rfl, rfl⟩) rfl t19 (fun M21 e20 => ?_)
  refine B_aload_n rfl ?_
  refine B_bipush (9 : Int32) bp_9 ?_
  refine K_anewc 20 9 rfl rfl lc_PF_30 lo_20 (fun M23 e22 => ?_)
  have t24 : hT M23 (hZ M21) = 20 := by rw [e22]; exact nA_T
  refine B_chk (fun t25 => ?_)
  refine K_putR 10 3 2003 lf_PF_32 rfl (Or.inr ⟨rfl, rfl⟩) rfl t25 (fun M27 e26 => ?_)
  refine B_aload_n rfl ?_
  refine B_bipush (8 : Int32) bp_8 ?_
  refine K_newac 16 8 rfl rfl la_16 (fun M29 e28 => ?_)
  have t30 : hT M29 (hZ M27) = 16 := by rw [e28]; exact nA_T
  refine B_chk (fun t31 => ?_)
  refine K_putR 10 4 2004 lf_PF_36 rfl (Or.inr ⟨rfl, rfl⟩) rfl t31 (fun M33 e32 => ?_)
  refine B_aload_n rfl ?_
  refine B_bipush (41 : Int32) bp_41 ?_
  refine K_anewc 21 41 rfl rfl lc_PF_40 lo_21 (fun M35 e34 => ?_)
  have t36 : hT M35 (hZ M33) = 21 := by rw [e34]; exact nA_T
  refine B_chk (fun t37 => ?_)
  refine K_putR 10 5 2005 lf_PF_42 rfl (Or.inr ⟨rfl, rfl⟩) rfl t37 (fun M39 e38 => ?_)
  refine B_aload_n rfl ?_
  refine B_iconst (-1 : Int32) ic_m1 ?_
  have h40 : hT M39 l0 = 10 := by rw [e38]; exact t37
  refine K_putI 10 8 2008 lf_PF_46 rfl (Or.inl rfl) rfl h40 (fun M42 e41 => ?_)
  refine B_aload_n rfl ?_
  refine B_iconst (-1 : Int32) ic_m1 ?_
  have h43 : hT M42 l0 = 10 := by rw [e41]; exact h40
  refine K_putI 10 13 2013 lf_PF_50 rfl (Or.inl rfl) rfl h43 (fun M45 e44 => ?_)
  refine B_aload_n rfl ?_
  refine B_bipush (8 : Int32) bp_8 ?_
  refine K_anewc 22 8 rfl rfl lc_PF_53 lo_22 (fun M47 e46 => ?_)
  have t48 : hT M47 (hZ M45) = 22 := by rw [e46]; exact nA_T
  refine B_chk (fun t49 => ?_)
  refine K_putR 10 15 2015 lf_PF_55 rfl (Or.inr ⟨rfl, rfl⟩) rfl t49 (fun M51 e50 => ?_)
  refine B_aload_n rfl ?_
  refine B_bipush (8 : Int32) bp_8 ?_
  refine K_newac 16 8 rfl rfl la_16 (fun M53 e52 => ?_)
  have t54 : hT M53 (hZ M51) = 16 := by rw [e52]; exact nA_T
  refine B_chk (fun t55 => ?_)
  refine K_putR 10 16 2016 lf_PF_59 rfl (Or.inr ⟨rfl, rfl⟩) rfl t55 (fun M57 e56 => ?_)
  refine B_aload_n rfl ?_
  refine B_bipush (8 : Int32) bp_8 ?_
  refine K_anewc 23 8 rfl rfl lc_PF_62 lo_23 (fun M59 e58 => ?_)
  have t60 : hT M59 (hZ M57) = 23 := by rw [e58]; exact nA_T
  refine B_chk (fun t61 => ?_)
  refine K_putR 10 17 2017 lf_PF_64 rfl (Or.inr ⟨rfl, rfl⟩) rfl t61 (fun M63 e62 => ?_)
  refine B_aload_n rfl ?_
  refine B_iconst (-1 : Int32) ic_m1 ?_
  have h64 : hT M63 l0 = 10 := by rw [e62]; exact t61
  refine K_putI 10 19 2019 lf_PF_68 rfl (Or.inl rfl) rfl h64 (fun M66 e65 => ?_)
  refine B_aload_n rfl ?_
  refine K_new 1 4 rfl rfl lc_PF_62 (fun M68 e67 => ?_)
  have t69 : hT M68 (hZ M66) = 1 := by rw [e67]; exact nO_T
  refine B_dup rfl ?_
  refine C_V (vs := [.ref (hZ M66)]) (st := [.ref (hZ M66), .ref l0]) (ci_I li_PF_71 rfl) rfl rfl rfl (s_Rect_init (hZ M66) M68) (fun M70 => ?_)
  refine B_chk (fun t71 => ?_)
  refine K_putR 10 20 2020 lf_PF_72 rfl (Or.inr ⟨rfl, rfl⟩) rfl t71 (fun M73 e72 => ?_)
  refine B_aload_n rfl ?_
  refine K_new 1 4 rfl rfl lc_PF_62 (fun M75 e74 => ?_)
  have t76 : hT M75 (hZ M73) = 1 := by rw [e74]; exact nO_T
  refine B_dup rfl ?_
  refine C_V (vs := [.ref (hZ M73)]) (st := [.ref (hZ M73), .ref l0]) (ci_I li_PF_71 rfl) rfl rfl rfl (s_Rect_init (hZ M73) M75) (fun M77 => ?_)
  refine B_chk (fun t78 => ?_)
  refine K_putR 10 21 2021 lf_PF_76 rfl (Or.inr ⟨rfl, rfl⟩) rfl t78 (fun M80 e79 => ?_)
  refine B_aload_n rfl ?_
  refine K_new 1 4 rfl rfl lc_PF_62 (fun M82 e81 => ?_)
  have t83 : hT M82 (hZ M80) = 1 := by rw [e81]; exact nO_T
  refine B_dup rfl ?_
  refine C_V (vs := [.ref (hZ M80)]) (st := [.ref (hZ M80), .ref l0]) (ci_I li_PF_71 rfl) rfl rfl rfl (s_Rect_init (hZ M80) M82) (fun M84 => ?_)
  refine B_chk (fun t85 => ?_)
  refine K_putR 10 22 2022 lf_PF_79 rfl (Or.inr ⟨rfl, rfl⟩) rfl t85 (fun M87 e86 => ?_)
  refine B_aload_n rfl ?_
  refine K_new 1 4 rfl rfl lc_PF_62 (fun M89 e88 => ?_)
  have t90 : hT M89 (hZ M87) = 1 := by rw [e88]; exact nO_T
  refine B_dup rfl ?_
  refine C_V (vs := [.ref (hZ M87)]) (st := [.ref (hZ M87), .ref l0]) (ci_I li_PF_71 rfl) rfl rfl rfl (s_Rect_init (hZ M87) M89) (fun M91 => ?_)
  refine B_chk (fun t92 => ?_)
  refine K_putR 10 23 2023 lf_PF_82 rfl (Or.inr ⟨rfl, rfl⟩) rfl t92 (fun M94 e93 => ?_)
  refine B_aload_n rfl ?_
  refine K_new 4 3 rfl rfl lc_PF_85 (fun M96 e95 => ?_)
  have t97 : hT M96 (hZ M94) = 4 := by rw [e95]; exact nO_T
  refine B_dup rfl ?_
  refine C_V (vs := [.ref (hZ M94)]) (st := [.ref (hZ M94), .ref l0]) (ci_I li_PF_87 rfl) rfl rfl rfl (s_DrawList_init (hZ M94) M96) (fun M98 => ?_)
  refine B_chk (fun t99 => ?_)
  refine K_putR 10 24 2024 lf_PF_88 rfl (Or.inr ⟨rfl, rfl⟩) rfl t99 (fun M101 e100 => ?_)
  refine B_iconst (0 : Int32) ic_0 ?_
  refine S_in [some (.ref l0), some (.int (0 : Int32))] (by decide) rfl ?_
  refine V_close ?_
  exact V_weak (ls' := [some (.ref l0), some (.int (0 : Int32))]) ⟨rfl, ⟨rfl, trivial⟩⟩ (tw_PF_init_161 FU l0 (0 : Int32) M101)

-- Mo_init
theorem ok_Mo_init_0 : okb prog_13_method_1_code 0 [(.aload_n 0, 1), (.invokespecial 1, 3), (.aload_n 0, 1), (.sipush 192, 3), (.newarray .int, 2), (.putfield 7, 3), (.aload_n 0, 1), (.bipush 6, 2), (.newarray .boolean, 2), (.putfield 13, 3), (.aload_n 0, 1), (.bipush 6, 2), (.newarray .boolean, 2), (.putfield 17, 3), (.aload_n 0, 1), (.bipush 6, 2), (.newarray .boolean, 2), (.putfield 20, 3), (.aload_n 0, 1), (.bipush 16, 2), (.newarray .int, 2), (.putfield 23, 3), (.aload_n 0, 1), (.iconst (-1), 1), (.putfield 26, 3), (.aload_n 0, 1), (.sipush 600, 3), (.newarray .int, 2), (.putfield 30, 3), (.aload_n 0, 1), (.sipush 600, 3), (.newarray .int, 2), (.putfield 33, 3), (.aload_n 0, 1), (.bipush 9, 2), (.newarray .int, 2), (.putfield 36, 3), (.aload_n 0, 1), (.bipush 9, 2), (.newarray .int, 2), (.putfield 39, 3), (.aload_n 0, 1), (.bipush 9, 2), (.newarray .int, 2), (.putfield 42, 3), (.aload_n 0, 1), (.bipush 9, 2), (.newarray .int, 2), (.putfield 45, 3), (.aload_n 0, 1), (.bipush 9, 2), (.newarray .int, 2), (.putfield 48, 3), (.aload_n 0, 1), (.bipush 9, 2), (.newarray .int, 2), (.putfield 51, 3), (.aload_n 0, 1), (.bipush 9, 2), (.newarray .int, 2), (.putfield 54, 3), (.aload_n 0, 1), (.bipush 9, 2), (.newarray .boolean, 2), (.putfield 57, 3), (.aload_n 0, 1), (.bipush 9, 2), (.newarray .boolean, 2), (.putfield 60, 3), (.aload_n 0, 1), (.bipush 9, 2), (.newarray .boolean, 2), (.putfield 63, 3), (.aload_n 0, 1), (.bipush 9, 2), (.newarray .boolean, 2), (.putfield 66, 3), (.aload_n 0, 1), (.iconst (-1), 1), (.putfield 69, 3), (.aload_n 0, 1), (.bipush 8, 2), (.newarray .int, 2), (.putfield 72, 3), (.aload_n 0, 1), (.bipush 32, 2), (.newarray .int, 2), (.putfield 75, 3), (.aload_n 0, 1), (.bipush 8, 2), (.newarray .int, 2), (.putfield 78, 3), (.aload_n 0, 1), (.bipush 32, 2), (.newarray .int, 2), (.putfield 81, 3), (.aload_n 0, 1), (.bipush 8, 2), (.newarray .int, 2), (.putfield 84, 3), (.aload_n 0, 1), (.bipush 8, 2), (.newarray .int, 2), (.putfield 87, 3), (.aload_n 0, 1), (.iconst (-1), 1), (.putfield 90, 3), (.aload_n 0, 1), (.bipush 40, 2), (.newarray .int, 2), (.putfield 93, 3), (.aload_n 0, 1), (.bipush 40, 2), (.newarray .int, 2), (.putfield 96, 3), (.aload_n 0, 1), (.sipush 160, 3), (.newarray .int, 2), (.putfield 99, 3), (.aload_n 0, 1), (.bipush 40, 2), (.newarray .int, 2), (.putfield 102, 3), (.aload_n 0, 1), (.bipush 40, 2), (.newarray .int, 2), (.putfield 105, 3), (.aload_n 0, 1), (.bipush 64, 2), (.newarray .int, 2), (.putfield 108, 3), (.aload_n 0, 1), (.bipush 40, 2), (.newarray .int, 2), (.putfield 111, 3), (.aload_n 0, 1), (.bipush 40, 2), (.newarray .int, 2), (.putfield 114, 3), (.aload_n 0, 1), (.bipush 40, 2), (.newarray .int, 2), (.putfield 117, 3), (.aload_n 0, 1), (.bipush 40, 2), (.newarray .int, 2), (.putfield 120, 3), (.aload_n 0, 1), (.bipush 40, 2), (.newarray .int, 2), (.putfield 123, 3), (.aload_n 0, 1), (.bipush 40, 2), (.newarray .int, 2), (.putfield 126, 3), (.aload_n 0, 1), (.bipush 40, 2), (.newarray .int, 2), (.putfield 129, 3), (.aload_n 0, 1), (.bipush 40, 2), (.newarray .int, 2), (.putfield 132, 3), (.aload_n 0, 1), (.bipush 40, 2), (.newarray .boolean, 2), (.putfield 135, 3), (.aload_n 0, 1), (.bipush 40, 2), (.newarray .boolean, 2), (.putfield 138, 3), (.aload_n 0, 1), (.bipush 40, 2), (.newarray .boolean, 2), (.putfield 141, 3), (.aload_n 0, 1), (.iconst (-1), 1), (.putfield 144, 3), (.aload_n 0, 1), (.iconst 4, 1), (.newarray .int, 2), (.putfield 147, 3), (.aload_n 0, 1), (.iconst 4, 1), (.newarray .int, 2), (.putfield 150, 3), (.aload_n 0, 1), (.bipush 40, 2), (.newarray .int, 2), (.putfield 153, 3), (.aload_n 0, 1), (.bipush 40, 2), (.newarray .int, 2), (.putfield 156, 3), (.aload_n 0, 1), (.sipush 480, 3), (.newarray .int, 2), (.putfield 159, 3), (.aload_n 0, 1), (.bipush 40, 2), (.newarray .int, 2), (.putfield 162, 3), (.aload_n 0, 1), (.bipush 40, 2), (.newarray .int, 2), (.putfield 165, 3), (.aload_n 0, 1), (.ldc 168, 2), (.newarray .int, 2), (.putfield 169, 3), (.aload_n 0, 1), (.ldc 168, 2), (.newarray .int, 2), (.putfield 172, 3), (.iconst 0, 1), (.istore_n 1, 1)] = true := by decide +kernel
theorem ok_Mo_init_429 : okb prog_13_method_1_code 429 [(.iload_n 1, 1), (.bipush 9, 2), (.if_icmp .ge 16, 3), (.aload_n 0, 1), (.getfield 54, 3), (.iload_n 1, 1), (.iload_n 1, 1), (.iastore, 1), (.iinc 1 1, 3), (.goto (-16), 3)] = true := by decide +kernel
theorem ok_Mo_init_448 : okb prog_13_method_1_code 448 [(.return_, 1)] = true := by decide +kernel
set_option maxRecDepth 100000 in
def b_Mo_init_429 (G : GT) (k429 : Nat → Int32 → PH → Option (PH)) (l0 : Nat) (l1 : Int32) (M : PH) : Option (PH) :=
  if (9 : Int32) ≤ l1 then (some M) else (if hT M l0 = 11 then (hR M 2235 l0).bind fun a2 => if hT M a2 = 16 then if ib l1 (hN M a2) = true then hb (sA M a2 l1.toNatClampNeg l1) fun M6 => (k429 l0 (l1 + (1 : Int32)) M6) else none else none else none)
set_option maxRecDepth 100000 in
set_option maxHeartbeats 4000000 in
theorem t_Mo_init_429 {G : GT} {k429 : Nat → Int32 → PH → Option (PH)} (hk429 : ∀ (l0 : Nat) (l1 : Int32) (M : PH), VX G mi_Mo_init 1 12 429 [some (.ref l0), some (.int l1)] [] M qV (k429 l0 l1 M)) (l0 : Nat) (l1 : Int32) (M : PH) : VX G mi_Mo_init 1 12 429 [some (.ref l0), some (.int l1)] [] M qV (b_Mo_init_429 G k429 l0 l1 M) := by
  unfold b_Mo_init_429
  refine V_open ok_Mo_init_429 ?_
  refine B_iload_n rfl ?_
  refine B_bipush (9 : Int32) bp_9 ?_
  refine B_ige (tgt := 448) (by decide) ?_ ?_
  · skip
    refine V_open ok_Mo_init_448 ?_
    exact B_vret rfl
  · skip
    refine B_aload_n rfl ?_
    refine B_chk (fun t1 => ?_)
    refine K_getR 11 35 2235 lf_Mo_54 rfl rfl t1 (fun a2 r3 => ?_)
    refine B_iload_n rfl ?_
    refine B_iload_n rfl ?_
    refine B_chk (fun t4 => ?_)
    refine K_iast t4 (fun M6 e5 => ?_)
    refine S_inc (1 : Int32) [some (.ref l0), some (.int (l1 + (1 : Int32)))] ic_1 rfl (by decide) rfl ?_
    refine B_goto (tgt := 429) (by decide) ?_
    exact V_weak (ls' := [some (.ref l0), some (.int (l1 + (1 : Int32)))]) ⟨rfl, ⟨rfl, trivial⟩⟩ (hk429 l0 (l1 + (1 : Int32)) M6)
set_option maxRecDepth 100000 in
def w_Mo_init_429 (G : GT) : Nat → Nat → Int32 → PH → Option (PH)
  | 0 => fun _ _ _ => none
  | n + 1 => b_Mo_init_429 G (w_Mo_init_429 G n)
set_option maxRecDepth 100000 in
set_option maxHeartbeats 4000000 in
theorem tw_Mo_init_429 {G : GT} : ∀ (n : Nat) (l0 : Nat) (l1 : Int32) (M : PH), VX G mi_Mo_init 1 12 429 [some (.ref l0), some (.int l1)] [] M qV (w_Mo_init_429 G n l0 l1 M)
  | 0, _, _, _ => X_none
  | n + 1, l0, l1, M => t_Mo_init_429 (tw_Mo_init_429 n) l0 l1 M
set_option maxRecDepth 100000 in
def f_Mo_init (G : GT) (l0 : Nat) (M : PH) : Option (PH) :=
  if hZ M < gC G ∧ hU M + 192 ≤ gS G then hb (nA M 16 192) fun M2 => (if hT M2 l0 = 11 then hb (sR M2 2201 l0 (some (hZ M))) fun M6 => if hZ M6 < gC G ∧ hU M6 + 6 ≤ gS G then hb (nA M6 17 6) fun M8 => (if hT M8 l0 = 11 then hb (sR M8 2210 l0 (some (hZ M6))) fun M12 => if hZ M12 < gC G ∧ hU M12 + 6 ≤ gS G then hb (nA M12 17 6) fun M14 => (if hT M14 l0 = 11 then hb (sR M14 2211 l0 (some (hZ M12))) fun M18 => if hZ M18 < gC G ∧ hU M18 + 6 ≤ gS G then hb (nA M18 17 6) fun M20 => (if hT M20 l0 = 11 then hb (sR M20 2212 l0 (some (hZ M18))) fun M24 => if hZ M24 < gC G ∧ hU M24 + 16 ≤ gS G then hb (nA M24 16 16) fun M26 => (if hT M26 l0 = 11 then hb (sR M26 2217 l0 (some (hZ M24))) fun M30 => hb (sI M30 2223 l0 (-1 : Int32)) fun M33 => if hZ M33 < gC G ∧ hU M33 + 600 ≤ gS G then hb (nA M33 16 600) fun M35 => (if hT M35 l0 = 11 then hb (sR M35 2224 l0 (some (hZ M33))) fun M39 => if hZ M39 < gC G ∧ hU M39 + 600 ≤ gS G then hb (nA M39 16 600) fun M41 => (if hT M41 l0 = 11 then hb (sR M41 2226 l0 (some (hZ M39))) fun M45 => if hZ M45 < gC G ∧ hU M45 + 9 ≤ gS G then hb (nA M45 16 9) fun M47 => (if hT M47 l0 = 11 then hb (sR M47 2229 l0 (some (hZ M45))) fun M51 => if hZ M51 < gC G ∧ hU M51 + 9 ≤ gS G then hb (nA M51 16 9) fun M53 => (if hT M53 l0 = 11 then hb (sR M53 2230 l0 (some (hZ M51))) fun M57 => if hZ M57 < gC G ∧ hU M57 + 9 ≤ gS G then hb (nA M57 16 9) fun M59 => (if hT M59 l0 = 11 then hb (sR M59 2231 l0 (some (hZ M57))) fun M63 => if hZ M63 < gC G ∧ hU M63 + 9 ≤ gS G then hb (nA M63 16 9) fun M65 => (if hT M65 l0 = 11 then hb (sR M65 2232 l0 (some (hZ M63))) fun M69 => if hZ M69 < gC G ∧ hU M69 + 9 ≤ gS G then hb (nA M69 16 9) fun M71 => (if hT M71 l0 = 11 then hb (sR M71 2233 l0 (some (hZ M69))) fun M75 => if hZ M75 < gC G ∧ hU M75 + 9 ≤ gS G then hb (nA M75 16 9) fun M77 => (if hT M77 l0 = 11 then hb (sR M77 2234 l0 (some (hZ M75))) fun M81 => if hZ M81 < gC G ∧ hU M81 + 9 ≤ gS G then hb (nA M81 16 9) fun M83 => (if hT M83 l0 = 11 then hb (sR M83 2235 l0 (some (hZ M81))) fun M87 => if hZ M87 < gC G ∧ hU M87 + 9 ≤ gS G then hb (nA M87 17 9) fun M89 => (if hT M89 l0 = 11 then hb (sR M89 2236 l0 (some (hZ M87))) fun M93 => if hZ M93 < gC G ∧ hU M93 + 9 ≤ gS G then hb (nA M93 17 9) fun M95 => (if hT M95 l0 = 11 then hb (sR M95 2237 l0 (some (hZ M93))) fun M99 => if hZ M99 < gC G ∧ hU M99 + 9 ≤ gS G then hb (nA M99 17 9) fun M101 => (if hT M101 l0 = 11 then hb (sR M101 2238 l0 (some (hZ M99))) fun M105 => if hZ M105 < gC G ∧ hU M105 + 9 ≤ gS G then hb (nA M105 17 9) fun M107 => (if hT M107 l0 = 11 then hb (sR M107 2239 l0 (some (hZ M105))) fun M111 => hb (sI M111 2240 l0 (-1 : Int32)) fun M114 => if hZ M114 < gC G ∧ hU M114 + 8 ≤ gS G then hb (nA M114 16 8) fun M116 => (if hT M116 l0 = 11 then hb (sR M116 2242 l0 (some (hZ M114))) fun M120 => if hZ M120 < gC G ∧ hU M120 + 32 ≤ gS G then hb (nA M120 16 32) fun M122 => (if hT M122 l0 = 11 then hb (sR M122 2243 l0 (some (hZ M120))) fun M126 => if hZ M126 < gC G ∧ hU M126 + 8 ≤ gS G then hb (nA M126 16 8) fun M128 => (if hT M128 l0 = 11 then hb (sR M128 2244 l0 (some (hZ M126))) fun M132 => if hZ M132 < gC G ∧ hU M132 + 32 ≤ gS G then hb (nA M132 16 32) fun M134 => (if hT M134 l0 = 11 then hb (sR M134 2245 l0 (some (hZ M132))) fun M138 => if hZ M138 < gC G ∧ hU M138 + 8 ≤ gS G then hb (nA M138 16 8) fun M140 => (if hT M140 l0 = 11 then hb (sR M140 2246 l0 (some (hZ M138))) fun M144 => if hZ M144 < gC G ∧ hU M144 + 8 ≤ gS G then hb (nA M144 16 8) fun M146 => (if hT M146 l0 = 11 then hb (sR M146 2247 l0 (some (hZ M144))) fun M150 => hb (sI M150 2250 l0 (-1 : Int32)) fun M153 => if hZ M153 < gC G ∧ hU M153 + 40 ≤ gS G then hb (nA M153 16 40) fun M155 => (if hT M155 l0 = 11 then hb (sR M155 2251 l0 (some (hZ M153))) fun M159 => if hZ M159 < gC G ∧ hU M159 + 40 ≤ gS G then hb (nA M159 16 40) fun M161 => (if hT M161 l0 = 11 then hb (sR M161 2252 l0 (some (hZ M159))) fun M165 => if hZ M165 < gC G ∧ hU M165 + 160 ≤ gS G then hb (nA M165 16 160) fun M167 => (if hT M167 l0 = 11 then hb (sR M167 2253 l0 (some (hZ M165))) fun M171 => if hZ M171 < gC G ∧ hU M171 + 40 ≤ gS G then hb (nA M171 16 40) fun M173 => (if hT M173 l0 = 11 then hb (sR M173 2254 l0 (some (hZ M171))) fun M177 => if hZ M177 < gC G ∧ hU M177 + 40 ≤ gS G then hb (nA M177 16 40) fun M179 => (if hT M179 l0 = 11 then hb (sR M179 2255 l0 (some (hZ M177))) fun M183 => if hZ M183 < gC G ∧ hU M183 + 64 ≤ gS G then hb (nA M183 16 64) fun M185 => (if hT M185 l0 = 11 then hb (sR M185 2257 l0 (some (hZ M183))) fun M189 => if hZ M189 < gC G ∧ hU M189 + 40 ≤ gS G then hb (nA M189 16 40) fun M191 => (if hT M191 l0 = 11 then hb (sR M191 2259 l0 (some (hZ M189))) fun M195 => if hZ M195 < gC G ∧ hU M195 + 40 ≤ gS G then hb (nA M195 16 40) fun M197 => (if hT M197 l0 = 11 then hb (sR M197 2260 l0 (some (hZ M195))) fun M201 => if hZ M201 < gC G ∧ hU M201 + 40 ≤ gS G then hb (nA M201 16 40) fun M203 => (if hT M203 l0 = 11 then hb (sR M203 2261 l0 (some (hZ M201))) fun M207 => if hZ M207 < gC G ∧ hU M207 + 40 ≤ gS G then hb (nA M207 16 40) fun M209 => (if hT M209 l0 = 11 then hb (sR M209 2262 l0 (some (hZ M207))) fun M213 => if hZ M213 < gC G ∧ hU M213 + 40 ≤ gS G then hb (nA M213 16 40) fun M215 => (if hT M215 l0 = 11 then hb (sR M215 2263 l0 (some (hZ M213))) fun M219 => if hZ M219 < gC G ∧ hU M219 + 40 ≤ gS G then hb (nA M219 16 40) fun M221 => (if hT M221 l0 = 11 then hb (sR M221 2264 l0 (some (hZ M219))) fun M225 => if hZ M225 < gC G ∧ hU M225 + 40 ≤ gS G then hb (nA M225 16 40) fun M227 => (if hT M227 l0 = 11 then hb (sR M227 2265 l0 (some (hZ M225))) fun M231 => if hZ M231 < gC G ∧ hU M231 + 40 ≤ gS G then hb (nA M231 16 40) fun M233 => (if hT M233 l0 = 11 then hb (sR M233 2266 l0 (some (hZ M231))) fun M237 => if hZ M237 < gC G ∧ hU M237 + 40 ≤ gS G then hb (nA M237 17 40) fun M239 => (if hT M239 l0 = 11 then hb (sR M239 2267 l0 (some (hZ M237))) fun M243 => if hZ M243 < gC G ∧ hU M243 + 40 ≤ gS G then hb (nA M243 17 40) fun M245 => (if hT M245 l0 = 11 then hb (sR M245 2268 l0 (some (hZ M243))) fun M249 => if hZ M249 < gC G ∧ hU M249 + 40 ≤ gS G then hb (nA M249 17 40) fun M251 => (if hT M251 l0 = 11 then hb (sR M251 2269 l0 (some (hZ M249))) fun M255 => hb (sI M255 2271 l0 (-1 : Int32)) fun M258 => if hZ M258 < gC G ∧ hU M258 + 4 ≤ gS G then hb (nA M258 16 4) fun M260 => (if hT M260 l0 = 11 then hb (sR M260 2272 l0 (some (hZ M258))) fun M264 => if hZ M264 < gC G ∧ hU M264 + 4 ≤ gS G then hb (nA M264 16 4) fun M266 => (if hT M266 l0 = 11 then hb (sR M266 2273 l0 (some (hZ M264))) fun M270 => if hZ M270 < gC G ∧ hU M270 + 40 ≤ gS G then hb (nA M270 16 40) fun M272 => (if hT M272 l0 = 11 then hb (sR M272 2274 l0 (some (hZ M270))) fun M276 => if hZ M276 < gC G ∧ hU M276 + 40 ≤ gS G then hb (nA M276 16 40) fun M278 => (if hT M278 l0 = 11 then hb (sR M278 2275 l0 (some (hZ M276))) fun M282 => if hZ M282 < gC G ∧ hU M282 + 480 ≤ gS G then hb (nA M282 16 480) fun M284 => (if hT M284 l0 = 11 then hb (sR M284 2276 l0 (some (hZ M282))) fun M288 => if hZ M288 < gC G ∧ hU M288 + 40 ≤ gS G then hb (nA M288 16 40) fun M290 => (if hT M290 l0 = 11 then hb (sR M290 2277 l0 (some (hZ M288))) fun M294 => if hZ M294 < gC G ∧ hU M294 + 40 ≤ gS G then hb (nA M294 16 40) fun M296 => (if hT M296 l0 = 11 then hb (sR M296 2278 l0 (some (hZ M294))) fun M300 => if hZ M300 < gC G ∧ hU M300 + 77000 ≤ gS G then hb (nA M300 16 77000) fun M302 => (if hT M302 l0 = 11 then hb (sR M302 2280 l0 (some (hZ M300))) fun M306 => if hZ M306 < gC G ∧ hU M306 + 77000 ≤ gS G then hb (nA M306 16 77000) fun M308 => (if hT M308 l0 = 11 then hb (sR M308 2281 l0 (some (hZ M306))) fun M312 => w_Mo_init_429 G FU l0 (0 : Int32) M312 else none) else none else none) else none else none) else none else none) else none else none) else none else none) else none else none) else none else none) else none else none) else none else none) else none else none) else none else none) else none else none) else none else none) else none else none) else none else none) else none else none) else none else none) else none else none) else none else none) else none else none) else none else none) else none else none) else none else none) else none else none) else none else none) else none else none) else none else none) else none else none) else none else none) else none else none) else none else none) else none else none) else none else none) else none else none) else none else none) else none else none) else none else none) else none else none) else none else none) else none else none) else none else none) else none else none) else none else none) else none else none) else none else none) else none else none) else none else none) else none else none) else none else none) else none
set_option maxRecDepth 100000 in
set_option maxHeartbeats 4000000 in
theorem s_Mo_init {G : GT} (l0 : Nat) (M : PH) : VX G mi_Mo_init 1 12 0 [some (.ref l0), none] [] M qV (f_Mo_init G l0 M) := by
  unfold f_Mo_init
  refine V_open ok_Mo_init_0 ?_
  refine B_aload_n rfl ?_
  refine B_obj lj_Mo_1 rfl ?_
  refine B_aload_n rfl ?_
  refine B_sipush (192 : Int32) sp_192 ?_
  refine K_newac 16 192 rfl rfl la_16 (fun M2 e1 => ?_)
  have t3 : hT M2 (hZ M) = 16 := by rw [e1]; exact nA_T
  refine B_chk (fun t4 => ?_)
  refine K_putR 11 1 2201 lf_Mo_7 rfl (Or.inr ⟨rfl, rfl⟩) rfl t4 (fun M6 e5 => ?_)
  refine B_aload_n rfl ?_
  refine B_bipush (6 : Int32) bp_6 ?_
  refine K_newac 17 6 rfl rfl la_17 (fun M8 e7 => ?_)
  have t9 : hT M8 (hZ M6) = 17 := by rw [e7]; exact nA_T
  refine B_chk (fun t10 => ?_)
  refine K_putR 11 10 2210 lf_Mo_13 rfl (Or.inr ⟨rfl, rfl⟩) rfl t10 (fun M12 e11 => ?_)
  refine B_aload_n rfl ?_
  refine B_bipush (6 : Int32) bp_6 ?_
  refine K_newac 17 6 rfl rfl la_17 (fun M14 e13 => ?_)
  have t15 : hT M14 (hZ M12) = 17 := by rw [e13]; exact nA_T
  refine B_chk (fun t16 => ?_)
  refine K_putR 11 11 2211 lf_Mo_17 rfl (Or.inr ⟨rfl, rfl⟩) rfl t16 (fun M18 e17 => ?_)
  refine B_aload_n rfl ?_
  refine B_bipush (6 : Int32) bp_6 ?_
  refine K_newac 17 6 rfl rfl la_17 (fun M20 e19 => ?_)
  have t21 : hT M20 (hZ M18) = 17 := by rw [e19]; exact nA_T
  refine B_chk (fun t22 => ?_)
  refine K_putR 11 12 2212 lf_Mo_20 rfl (Or.inr ⟨rfl, rfl⟩) rfl t22 (fun M24 e23 => ?_)
  refine B_aload_n rfl ?_
  refine B_bipush (16 : Int32) bp_16 ?_
  refine K_newac 16 16 rfl rfl la_16 (fun M26 e25 => ?_)
  have t27 : hT M26 (hZ M24) = 16 := by rw [e25]; exact nA_T
  refine B_chk (fun t28 => ?_)
  refine K_putR 11 17 2217 lf_Mo_23 rfl (Or.inr ⟨rfl, rfl⟩) rfl t28 (fun M30 e29 => ?_)
  refine B_aload_n rfl ?_
  refine B_iconst (-1 : Int32) ic_m1 ?_
  have h31 : hT M30 l0 = 11 := by rw [e29]; exact t28
  refine K_putI 11 23 2223 lf_Mo_26 rfl (Or.inl rfl) rfl h31 (fun M33 e32 => ?_)
  refine B_aload_n rfl ?_
  refine B_sipush (600 : Int32) sp_600 ?_
  refine K_newac 16 600 rfl rfl la_16 (fun M35 e34 => ?_)
  have t36 : hT M35 (hZ M33) = 16 := by rw [e34]; exact nA_T
  refine B_chk (fun t37 => ?_)
  refine K_putR 11 24 2224 lf_Mo_30 rfl (Or.inr ⟨rfl, rfl⟩) rfl t37 (fun M39 e38 => ?_)
  refine B_aload_n rfl ?_
  refine B_sipush (600 : Int32) sp_600 ?_
  refine K_newac 16 600 rfl rfl la_16 (fun M41 e40 => ?_)
  have t42 : hT M41 (hZ M39) = 16 := by rw [e40]; exact nA_T
  refine B_chk (fun t43 => ?_)
  refine K_putR 11 26 2226 lf_Mo_33 rfl (Or.inr ⟨rfl, rfl⟩) rfl t43 (fun M45 e44 => ?_)
  refine B_aload_n rfl ?_
  refine B_bipush (9 : Int32) bp_9 ?_
  refine K_newac 16 9 rfl rfl la_16 (fun M47 e46 => ?_)
  have t48 : hT M47 (hZ M45) = 16 := by rw [e46]; exact nA_T
  refine B_chk (fun t49 => ?_)
  refine K_putR 11 29 2229 lf_Mo_36 rfl (Or.inr ⟨rfl, rfl⟩) rfl t49 (fun M51 e50 => ?_)
  refine B_aload_n rfl ?_
  refine B_bipush (9 : Int32) bp_9 ?_
  refine K_newac 16 9 rfl rfl la_16 (fun M53 e52 => ?_)
  have t54 : hT M53 (hZ M51) = 16 := by rw [e52]; exact nA_T
  refine B_chk (fun t55 => ?_)
  refine K_putR 11 30 2230 lf_Mo_39 rfl (Or.inr ⟨rfl, rfl⟩) rfl t55 (fun M57 e56 => ?_)
  refine B_aload_n rfl ?_
  refine B_bipush (9 : Int32) bp_9 ?_
  refine K_newac 16 9 rfl rfl la_16 (fun M59 e58 => ?_)
  have t60 : hT M59 (hZ M57) = 16 := by rw [e58]; exact nA_T
  refine B_chk (fun t61 => ?_)
  refine K_putR 11 31 2231 lf_Mo_42 rfl (Or.inr ⟨rfl, rfl⟩) rfl t61 (fun M63 e62 => ?_)
  refine B_aload_n rfl ?_
  refine B_bipush (9 : Int32) bp_9 ?_
  refine K_newac 16 9 rfl rfl la_16 (fun M65 e64 => ?_)
  have t66 : hT M65 (hZ M63) = 16 := by rw [e64]; exact nA_T
  refine B_chk (fun t67 => ?_)
  refine K_putR 11 32 2232 lf_Mo_45 rfl (Or.inr ⟨rfl, rfl⟩) rfl t67 (fun M69 e68 => ?_)
  refine B_aload_n rfl ?_
  refine B_bipush (9 : Int32) bp_9 ?_
  refine K_newac 16 9 rfl rfl la_16 (fun M71 e70 => ?_)
  have t72 : hT M71 (hZ M69) = 16 := by rw [e70]; exact nA_T
  refine B_chk (fun t73 => ?_)
  refine K_putR 11 33 2233 lf_Mo_48 rfl (Or.inr ⟨rfl, rfl⟩) rfl t73 (fun M75 e74 => ?_)
  refine B_aload_n rfl ?_
  refine B_bipush (9 : Int32) bp_9 ?_
  refine K_newac 16 9 rfl rfl la_16 (fun M77 e76 => ?_)
  have t78 : hT M77 (hZ M75) = 16 := by rw [e76]; exact nA_T
  refine B_chk (fun t79 => ?_)
  refine K_putR 11 34 2234 lf_Mo_51 rfl (Or.inr ⟨rfl, rfl⟩) rfl t79 (fun M81 e80 => ?_)
  refine B_aload_n rfl ?_
  refine B_bipush (9 : Int32) bp_9 ?_
  refine K_newac 16 9 rfl rfl la_16 (fun M83 e82 => ?_)
  have t84 : hT M83 (hZ M81) = 16 := by rw [e82]; exact nA_T
  refine B_chk (fun t85 => ?_)
  refine K_putR 11 35 2235 lf_Mo_54 rfl (Or.inr ⟨rfl, rfl⟩) rfl t85 (fun M87 e86 => ?_)
  refine B_aload_n rfl ?_
  refine B_bipush (9 : Int32) bp_9 ?_
  refine K_newac 17 9 rfl rfl la_17 (fun M89 e88 => ?_)
  have t90 : hT M89 (hZ M87) = 17 := by rw [e88]; exact nA_T
  refine B_chk (fun t91 => ?_)
  refine K_putR 11 36 2236 lf_Mo_57 rfl (Or.inr ⟨rfl, rfl⟩) rfl t91 (fun M93 e92 => ?_)
  refine B_aload_n rfl ?_
  refine B_bipush (9 : Int32) bp_9 ?_
  refine K_newac 17 9 rfl rfl la_17 (fun M95 e94 => ?_)
  have t96 : hT M95 (hZ M93) = 17 := by rw [e94]; exact nA_T
  refine B_chk (fun t97 => ?_)
  refine K_putR 11 37 2237 lf_Mo_60 rfl (Or.inr ⟨rfl, rfl⟩) rfl t97 (fun M99 e98 => ?_)
  refine B_aload_n rfl ?_
  refine B_bipush (9 : Int32) bp_9 ?_
  refine K_newac 17 9 rfl rfl la_17 (fun M101 e100 => ?_)
  have t102 : hT M101 (hZ M99) = 17 := by rw [e100]; exact nA_T
  refine B_chk (fun t103 => ?_)
  refine K_putR 11 38 2238 lf_Mo_63 rfl (Or.inr ⟨rfl, rfl⟩) rfl t103 (fun M105 e104 => ?_)
  refine B_aload_n rfl ?_
  refine B_bipush (9 : Int32) bp_9 ?_
  refine K_newac 17 9 rfl rfl la_17 (fun M107 e106 => ?_)
  have t108 : hT M107 (hZ M105) = 17 := by rw [e106]; exact nA_T
  refine B_chk (fun t109 => ?_)
  refine K_putR 11 39 2239 lf_Mo_66 rfl (Or.inr ⟨rfl, rfl⟩) rfl t109 (fun M111 e110 => ?_)
  refine B_aload_n rfl ?_
  refine B_iconst (-1 : Int32) ic_m1 ?_
  have h112 : hT M111 l0 = 11 := by rw [e110]; exact t109
  refine K_putI 11 40 2240 lf_Mo_69 rfl (Or.inl rfl) rfl h112 (fun M114 e113 => ?_)
  refine B_aload_n rfl ?_
  refine B_bipush (8 : Int32) bp_8 ?_
  refine K_newac 16 8 rfl rfl la_16 (fun M116 e115 => ?_)
  have t117 : hT M116 (hZ M114) = 16 := by rw [e115]; exact nA_T
  refine B_chk (fun t118 => ?_)
  refine K_putR 11 42 2242 lf_Mo_72 rfl (Or.inr ⟨rfl, rfl⟩) rfl t118 (fun M120 e119 => ?_)
  refine B_aload_n rfl ?_
  refine B_bipush (32 : Int32) bp_32 ?_
  refine K_newac 16 32 rfl rfl la_16 (fun M122 e121 => ?_)
  have t123 : hT M122 (hZ M120) = 16 := by rw [e121]; exact nA_T
  refine B_chk (fun t124 => ?_)
  refine K_putR 11 43 2243 lf_Mo_75 rfl (Or.inr ⟨rfl, rfl⟩) rfl t124 (fun M126 e125 => ?_)
  refine B_aload_n rfl ?_
  refine B_bipush (8 : Int32) bp_8 ?_
  refine K_newac 16 8 rfl rfl la_16 (fun M128 e127 => ?_)
  have t129 : hT M128 (hZ M126) = 16 := by rw [e127]; exact nA_T
  refine B_chk (fun t130 => ?_)
  refine K_putR 11 44 2244 lf_Mo_78 rfl (Or.inr ⟨rfl, rfl⟩) rfl t130 (fun M132 e131 => ?_)
  refine B_aload_n rfl ?_
  refine B_bipush (32 : Int32) bp_32 ?_
  refine K_newac 16 32 rfl rfl la_16 (fun M134 e133 => ?_)
  have t135 : hT M134 (hZ M132) = 16 := by rw [e133]; exact nA_T
  refine B_chk (fun t136 => ?_)
  refine K_putR 11 45 2245 lf_Mo_81 rfl (Or.inr ⟨rfl, rfl⟩) rfl t136 (fun M138 e137 => ?_)
  refine B_aload_n rfl ?_
  refine B_bipush (8 : Int32) bp_8 ?_
  refine K_newac 16 8 rfl rfl la_16 (fun M140 e139 => ?_)
  have t141 : hT M140 (hZ M138) = 16 := by rw [e139]; exact nA_T
  refine B_chk (fun t142 => ?_)
  refine K_putR 11 46 2246 lf_Mo_84 rfl (Or.inr ⟨rfl, rfl⟩) rfl t142 (fun M144 e143 => ?_)
  refine B_aload_n rfl ?_
  refine B_bipush (8 : Int32) bp_8 ?_
  refine K_newac 16 8 rfl rfl la_16 (fun M146 e145 => ?_)
  have t147 : hT M146 (hZ M144) = 16 := by rw [e145]; exact nA_T
  refine B_chk (fun t148 => ?_)
  refine K_putR 11 47 2247 lf_Mo_87 rfl (Or.inr ⟨rfl, rfl⟩) rfl t148 (fun M150 e149 => ?_)
  refine B_aload_n rfl ?_
  refine B_iconst (-1 : Int32) ic_m1 ?_
  have h151 : hT M150 l0 = 11 := by rw [e149]; exact t148
  refine K_putI 11 50 2250 lf_Mo_90 rfl (Or.inl rfl) rfl h151 (fun M153 e152 => ?_)
  refine B_aload_n rfl ?_
  refine B_bipush (40 : Int32) bp_40 ?_
  refine K_newac 16 40 rfl rfl la_16 (fun M155 e154 => ?_)
  have t156 : hT M155 (hZ M153) = 16 := by rw [e154]; exact nA_T
  refine B_chk (fun t157 => ?_)
  refine K_putR 11 51 2251 lf_Mo_93 rfl (Or.inr ⟨rfl, rfl⟩) rfl t157 (fun M159 e158 => ?_)
  refine B_aload_n rfl ?_
  refine B_bipush (40 : Int32) bp_40 ?_
  refine K_newac 16 40 rfl rfl la_16 (fun M161 e160 => ?_)
  have t162 : hT M161 (hZ M159) = 16 := by rw [e160]; exact nA_T
  refine B_chk (fun t163 => ?_)
  refine K_putR 11 52 2252 lf_Mo_96 rfl (Or.inr ⟨rfl, rfl⟩) rfl t163 (fun M165 e164 => ?_)
  refine B_aload_n rfl ?_
  refine B_sipush (160 : Int32) sp_160 ?_
  refine K_newac 16 160 rfl rfl la_16 (fun M167 e166 => ?_)
  have t168 : hT M167 (hZ M165) = 16 := by rw [e166]; exact nA_T
  refine B_chk (fun t169 => ?_)
  refine K_putR 11 53 2253 lf_Mo_99 rfl (Or.inr ⟨rfl, rfl⟩) rfl t169 (fun M171 e170 => ?_)
  refine B_aload_n rfl ?_
  refine B_bipush (40 : Int32) bp_40 ?_
  refine K_newac 16 40 rfl rfl la_16 (fun M173 e172 => ?_)
  have t174 : hT M173 (hZ M171) = 16 := by rw [e172]; exact nA_T
  refine B_chk (fun t175 => ?_)
  refine K_putR 11 54 2254 lf_Mo_102 rfl (Or.inr ⟨rfl, rfl⟩) rfl t175 (fun M177 e176 => ?_)
  refine B_aload_n rfl ?_
  refine B_bipush (40 : Int32) bp_40 ?_
  refine K_newac 16 40 rfl rfl la_16 (fun M179 e178 => ?_)
  have t180 : hT M179 (hZ M177) = 16 := by rw [e178]; exact nA_T
  refine B_chk (fun t181 => ?_)
  refine K_putR 11 55 2255 lf_Mo_105 rfl (Or.inr ⟨rfl, rfl⟩) rfl t181 (fun M183 e182 => ?_)
  refine B_aload_n rfl ?_
  refine B_bipush (64 : Int32) bp_64 ?_
  refine K_newac 16 64 rfl rfl la_16 (fun M185 e184 => ?_)
  have t186 : hT M185 (hZ M183) = 16 := by rw [e184]; exact nA_T
  refine B_chk (fun t187 => ?_)
  refine K_putR 11 57 2257 lf_Mo_108 rfl (Or.inr ⟨rfl, rfl⟩) rfl t187 (fun M189 e188 => ?_)
  refine B_aload_n rfl ?_
  refine B_bipush (40 : Int32) bp_40 ?_
  refine K_newac 16 40 rfl rfl la_16 (fun M191 e190 => ?_)
  have t192 : hT M191 (hZ M189) = 16 := by rw [e190]; exact nA_T
  refine B_chk (fun t193 => ?_)
  refine K_putR 11 59 2259 lf_Mo_111 rfl (Or.inr ⟨rfl, rfl⟩) rfl t193 (fun M195 e194 => ?_)
  refine B_aload_n rfl ?_
  refine B_bipush (40 : Int32) bp_40 ?_
  refine K_newac 16 40 rfl rfl la_16 (fun M197 e196 => ?_)
  have t198 : hT M197 (hZ M195) = 16 := by rw [e196]; exact nA_T
  refine B_chk (fun t199 => ?_)
  refine K_putR 11 60 2260 lf_Mo_114 rfl (Or.inr ⟨rfl, rfl⟩) rfl t199 (fun M201 e200 => ?_)
  refine B_aload_n rfl ?_
  refine B_bipush (40 : Int32) bp_40 ?_
  refine K_newac 16 40 rfl rfl la_16 (fun M203 e202 => ?_)
  have t204 : hT M203 (hZ M201) = 16 := by rw [e202]; exact nA_T
  refine B_chk (fun t205 => ?_)
  refine K_putR 11 61 2261 lf_Mo_117 rfl (Or.inr ⟨rfl, rfl⟩) rfl t205 (fun M207 e206 => ?_)
  refine B_aload_n rfl ?_
  refine B_bipush (40 : Int32) bp_40 ?_
  refine K_newac 16 40 rfl rfl la_16 (fun M209 e208 => ?_)
  have t210 : hT M209 (hZ M207) = 16 := by rw [e208]; exact nA_T
  refine B_chk (fun t211 => ?_)
  refine K_putR 11 62 2262 lf_Mo_120 rfl (Or.inr ⟨rfl, rfl⟩) rfl t211 (fun M213 e212 => ?_)
  refine B_aload_n rfl ?_
  refine B_bipush (40 : Int32) bp_40 ?_
  refine K_newac 16 40 rfl rfl la_16 (fun M215 e214 => ?_)
  have t216 : hT M215 (hZ M213) = 16 := by rw [e214]; exact nA_T
  refine B_chk (fun t217 => ?_)
  refine K_putR 11 63 2263 lf_Mo_123 rfl (Or.inr ⟨rfl, rfl⟩) rfl t217 (fun M219 e218 => ?_)
  refine B_aload_n rfl ?_
  refine B_bipush (40 : Int32) bp_40 ?_
  refine K_newac 16 40 rfl rfl la_16 (fun M221 e220 => ?_)
  have t222 : hT M221 (hZ M219) = 16 := by rw [e220]; exact nA_T
  refine B_chk (fun t223 => ?_)
  refine K_putR 11 64 2264 lf_Mo_126 rfl (Or.inr ⟨rfl, rfl⟩) rfl t223 (fun M225 e224 => ?_)
  refine B_aload_n rfl ?_
  refine B_bipush (40 : Int32) bp_40 ?_
  refine K_newac 16 40 rfl rfl la_16 (fun M227 e226 => ?_)
  have t228 : hT M227 (hZ M225) = 16 := by rw [e226]; exact nA_T
  refine B_chk (fun t229 => ?_)
  refine K_putR 11 65 2265 lf_Mo_129 rfl (Or.inr ⟨rfl, rfl⟩) rfl t229 (fun M231 e230 => ?_)
  refine B_aload_n rfl ?_
  refine B_bipush (40 : Int32) bp_40 ?_
  refine K_newac 16 40 rfl rfl la_16 (fun M233 e232 => ?_)
  have t234 : hT M233 (hZ M231) = 16 := by rw [e232]; exact nA_T
  refine B_chk (fun t235 => ?_)
  refine K_putR 11 66 2266 lf_Mo_132 rfl (Or.inr ⟨rfl, rfl⟩) rfl t235 (fun M237 e236 => ?_)
  refine B_aload_n rfl ?_
  refine B_bipush (40 : Int32) bp_40 ?_
  refine K_newac 17 40 rfl rfl la_17 (fun M239 e238 => ?_)
  have t240 : hT M239 (hZ M237) = 17 := by rw [e238]; exact nA_T
  refine B_chk (fun t241 => ?_)
  refine K_putR 11 67 2267 lf_Mo_135 rfl (Or.inr ⟨rfl, rfl⟩) rfl t241 (fun M243 e242 => ?_)
  refine B_aload_n rfl ?_
  refine B_bipush (40 : Int32) bp_40 ?_
  refine K_newac 17 40 rfl rfl la_17 (fun M245 e244 => ?_)
  have t246 : hT M245 (hZ M243) = 17 := by rw [e244]; exact nA_T
  refine B_chk (fun t247 => ?_)
  refine K_putR 11 68 2268 lf_Mo_138 rfl (Or.inr ⟨rfl, rfl⟩) rfl t247 (fun M249 e248 => ?_)
  refine B_aload_n rfl ?_
  refine B_bipush (40 : Int32) bp_40 ?_
  refine K_newac 17 40 rfl rfl la_17 (fun M251 e250 => ?_)
  have t252 : hT M251 (hZ M249) = 17 := by rw [e250]; exact nA_T
  refine B_chk (fun t253 => ?_)
  refine K_putR 11 69 2269 lf_Mo_141 rfl (Or.inr ⟨rfl, rfl⟩) rfl t253 (fun M255 e254 => ?_)
  refine B_aload_n rfl ?_
  refine B_iconst (-1 : Int32) ic_m1 ?_
  have h256 : hT M255 l0 = 11 := by rw [e254]; exact t253
  refine K_putI 11 71 2271 lf_Mo_144 rfl (Or.inl rfl) rfl h256 (fun M258 e257 => ?_)
  refine B_aload_n rfl ?_
  refine B_iconst (4 : Int32) ic_4 ?_
  refine K_newac 16 4 rfl rfl la_16 (fun M260 e259 => ?_)
  have t261 : hT M260 (hZ M258) = 16 := by rw [e259]; exact nA_T
  refine B_chk (fun t262 => ?_)
  refine K_putR 11 72 2272 lf_Mo_147 rfl (Or.inr ⟨rfl, rfl⟩) rfl t262 (fun M264 e263 => ?_)
  refine B_aload_n rfl ?_
  refine B_iconst (4 : Int32) ic_4 ?_
  refine K_newac 16 4 rfl rfl la_16 (fun M266 e265 => ?_)
  have t267 : hT M266 (hZ M264) = 16 := by rw [e265]; exact nA_T
  refine B_chk (fun t268 => ?_)
  refine K_putR 11 73 2273 lf_Mo_150 rfl (Or.inr ⟨rfl, rfl⟩) rfl t268 (fun M270 e269 => ?_)
  refine B_aload_n rfl ?_
  refine B_bipush (40 : Int32) bp_40 ?_
  refine K_newac 16 40 rfl rfl la_16 (fun M272 e271 => ?_)
  have t273 : hT M272 (hZ M270) = 16 := by rw [e271]; exact nA_T
  refine B_chk (fun t274 => ?_)
  refine K_putR 11 74 2274 lf_Mo_153 rfl (Or.inr ⟨rfl, rfl⟩) rfl t274 (fun M276 e275 => ?_)
  refine B_aload_n rfl ?_
  refine B_bipush (40 : Int32) bp_40 ?_
  refine K_newac 16 40 rfl rfl la_16 (fun M278 e277 => ?_)
  have t279 : hT M278 (hZ M276) = 16 := by rw [e277]; exact nA_T
  refine B_chk (fun t280 => ?_)
  refine K_putR 11 75 2275 lf_Mo_156 rfl (Or.inr ⟨rfl, rfl⟩) rfl t280 (fun M282 e281 => ?_)
  refine B_aload_n rfl ?_
  refine B_sipush (480 : Int32) sp_480 ?_
  refine K_newac 16 480 rfl rfl la_16 (fun M284 e283 => ?_)
  have t285 : hT M284 (hZ M282) = 16 := by rw [e283]; exact nA_T
  refine B_chk (fun t286 => ?_)
  refine K_putR 11 76 2276 lf_Mo_159 rfl (Or.inr ⟨rfl, rfl⟩) rfl t286 (fun M288 e287 => ?_)
  refine B_aload_n rfl ?_
  refine B_bipush (40 : Int32) bp_40 ?_
  refine K_newac 16 40 rfl rfl la_16 (fun M290 e289 => ?_)
  have t291 : hT M290 (hZ M288) = 16 := by rw [e289]; exact nA_T
  refine B_chk (fun t292 => ?_)
  refine K_putR 11 77 2277 lf_Mo_162 rfl (Or.inr ⟨rfl, rfl⟩) rfl t292 (fun M294 e293 => ?_)
  refine B_aload_n rfl ?_
  refine B_bipush (40 : Int32) bp_40 ?_
  refine K_newac 16 40 rfl rfl la_16 (fun M296 e295 => ?_)
  have t297 : hT M296 (hZ M294) = 16 := by rw [e295]; exact nA_T
  refine B_chk (fun t298 => ?_)
  refine K_putR 11 78 2278 lf_Mo_165 rfl (Or.inr ⟨rfl, rfl⟩) rfl t298 (fun M300 e299 => ?_)
  refine B_aload_n rfl ?_
  refine B_ldc ld_Mo_168 ?_
  refine K_newac 16 77000 rfl rfl la_16 (fun M302 e301 => ?_)
  have t303 : hT M302 (hZ M300) = 16 := by rw [e301]; exact nA_T
  refine B_chk (fun t304 => ?_)
  refine K_putR 11 80 2280 lf_Mo_169 rfl (Or.inr ⟨rfl, rfl⟩) rfl t304 (fun M306 e305 => ?_)
  refine B_aload_n rfl ?_
  refine B_ldc ld_Mo_168 ?_
  refine K_newac 16 77000 rfl rfl la_16 (fun M308 e307 => ?_)
  have t309 : hT M308 (hZ M306) = 16 := by rw [e307]; exact nA_T
  refine B_chk (fun t310 => ?_)
  refine K_putR 11 81 2281 lf_Mo_172 rfl (Or.inr ⟨rfl, rfl⟩) rfl t310 (fun M312 e311 => ?_)
  refine B_iconst (0 : Int32) ic_0 ?_
  refine S_in [some (.ref l0), some (.int (0 : Int32))] (by decide) rfl ?_
  refine V_close ?_
  exact V_weak (ls' := [some (.ref l0), some (.int (0 : Int32))]) ⟨rfl, ⟨rfl, trivial⟩⟩ (tw_Mo_init_429 FU l0 (0 : Int32) M312)

-- Input_add
theorem ok_Input_add_0 : okb prog_4_method_2_code 0 [(.aload_n 0, 1), (.getfield 34, 3), (.bipush 64, 2), (.if_icmp .ne 5, 3), (.iconst 0, 1), (.ireturn, 1)] = true := by decide +kernel
theorem ok_Input_add_11 : okb prog_4_method_2_code 11 [(.aload_n 0, 1), (.getfield 38, 3), (.aload_n 0, 1), (.getfield 34, 3), (.iadd, 1), (.bipush 64, 2), (.irem, 1), (.istore 4, 2), (.aload_n 0, 1), (.getfield 11, 3), (.iload 4, 2), (.iload_n 1, 1), (.iastore, 1), (.aload_n 0, 1), (.getfield 15, 3), (.iload 4, 2), (.iload_n 2, 1), (.iastore, 1), (.aload_n 0, 1), (.getfield 18, 3), (.iload 4, 2), (.iload_n 3, 1), (.iastore, 1), (.aload_n 0, 1), (.dup, 1), (.getfield 34, 3), (.iconst 1, 1), (.iadd, 1), (.putfield 34, 3), (.iconst 1, 1), (.ireturn, 1)] = true := by decide +kernel
set_option maxRecDepth 100000 in
def f_Input_add (G : GT) (l0 : Nat) (l1 : Int32) (l2 : Int32) (l3 : Int32) (M : PH) : Option (Int32 × PH) :=
  if hT M l0 = 2 then if ¬ hI M 404 l0 = (64 : Int32) then (if (64 : Int32) = 0 then none else vb (((hI M 403 l0) + (hI M 404 l0)) - ((hI M 403 l0) + (hI M 404 l0)) / (64 : Int32) * (64 : Int32)) fun v2 => (hR M 400 l0).bind fun a3 => if hT M a3 = 16 then if ib v2 (hN M a3) = true then hb (sA M a3 v2.toNatClampNeg l1) fun M7 => ((hR M7 401 l0).bind fun a9 => if hT M7 a9 = 16 then if ib v2 (hN M7 a9) = true then hb (sA M7 a9 v2.toNatClampNeg l2) fun M13 => ((hR M13 402 l0).bind fun a15 => if hT M13 a15 = 16 then if ib v2 (hN M13 a15) = true then hb (sA M13 a15 v2.toNatClampNeg l3) fun M19 => (hb (sI M19 404 l0 ((hI M19 404 l0) + (1 : Int32))) fun M22 => some ((1 : Int32), M22)) else none else none) else none else none) else none else none) else (some ((0 : Int32), M)) else none
set_option maxRecDepth 100000 in
set_option maxHeartbeats 4000000 in
theorem s_Input_add {G : GT} (l0 : Nat) (l1 : Int32) (l2 : Int32) (l3 : Int32) (M : PH) : VX G mi_Input_add 0 0 0 [some (.ref l0), some (.int l1), some (.int l2), some (.int l3), none] [] M qI (f_Input_add G l0 l1 l2 l3 M) := by
  unfold f_Input_add
  refine V_open ok_Input_add_0 ?_
  refine B_aload_n rfl ?_
  refine B_chk (fun t1 => ?_)
  refine K_getI 2 4 404 lf_Input_34 rfl rfl t1 ?_
  refine B_bipush (64 : Int32) bp_64 ?_
  refine B_ine (tgt := 11) (by decide) ?_ ?_
  · skip
    refine V_open ok_Input_add_11 ?_
    refine B_aload_n rfl ?_
    refine K_getI 2 3 403 lf_Input_38 rfl rfl t1 ?_
    refine B_aload_n rfl ?_
    refine K_getI 2 4 404 lf_Input_34 rfl rfl t1 ?_
    refine B_iadd ?_
    refine B_bipush (64 : Int32) bp_64 ?_
    refine B_irem ?_
    refine B_vb (fun v2 => ?_)
    refine S_i [some (.ref l0), some (.int l1), some (.int l2), some (.int l3), some (.int v2)] (by decide) rfl ?_
    refine B_aload_n rfl ?_
    refine K_getR 2 0 400 lf_Input_11 rfl rfl t1 (fun a3 r4 => ?_)
    refine B_iload rfl ?_
    refine B_iload_n rfl ?_
    refine B_chk (fun t5 => ?_)
    refine K_iast t5 (fun M7 e6 => ?_)
    refine B_aload_n rfl ?_
    have h8 : hT M7 l0 = 2 := by rw [e6]; exact t1
    refine K_getR 2 1 401 lf_Input_15 rfl rfl h8 (fun a9 r10 => ?_)
    refine B_iload rfl ?_
    refine B_iload_n rfl ?_
    refine B_chk (fun t11 => ?_)
    refine K_iast t11 (fun M13 e12 => ?_)
    refine B_aload_n rfl ?_
    have h14 : hT M13 l0 = 2 := by rw [e12]; exact h8
    refine K_getR 2 2 402 lf_Input_18 rfl rfl h14 (fun a15 r16 => ?_)
    refine B_iload rfl ?_
    refine B_iload_n rfl ?_
    refine B_chk (fun t17 => ?_)
    refine K_iast t17 (fun M19 e18 => ?_)
    refine B_aload_n rfl ?_
    refine B_dup rfl ?_
    have h20 : hT M19 l0 = 2 := by rw [e18]; exact h14
    refine K_getI 2 4 404 lf_Input_34 rfl rfl h20 ?_
    refine B_iconst (1 : Int32) ic_1 ?_
    refine B_iadd ?_
    refine K_putI 2 4 404 lf_Input_34 rfl (Or.inl rfl) rfl h20 (fun M22 e21 => ?_)
    refine B_iconst (1 : Int32) ic_1 ?_
    exact Z_ret rfl (Or.inr rfl)
  · skip
    refine B_iconst (0 : Int32) ic_0 ?_
    exact Z_ret rfl (Or.inl rfl)

-- PF_point
theorem ok_PF_point_0 : okb prog_1_method_5_code 0 [(.iload_n 1, 1), (.ifCond .lt 38, 3), (.iload_n 1, 1), (.sipush 1000, 3), (.if_icmp .ge 31, 3), (.iload_n 2, 1), (.ifCond .lt 27, 3), (.iload_n 2, 1), (.sipush 1000, 3), (.if_icmp .ge 20, 3), (.aload_n 0, 1), (.getfield 10, 3), (.iconst 0, 1), (.iload_n 1, 1), (.iload_n 2, 1), (.invokevirtual 126, 3), (.ifCond .eq 7, 3), (.iconst 1, 1), (.goto 4, 3)] = true := by decide +kernel
theorem ok_PF_point_39 : okb prog_1_method_5_code 39 [(.iconst 0, 1), (.ireturn, 1)] = true := by decide +kernel
theorem ok_PF_point_40 : okb prog_1_method_5_code 40 [(.ireturn, 1)] = true := by decide +kernel
set_option maxRecDepth 100000 in
def f_PF_point (G : GT) (l0 : Nat) (l1 : Int32) (l2 : Int32) (M : PH) : Option (Int32 × PH) :=
  if l1 < 0 then (some ((0 : Int32), M)) else (if (1000 : Int32) ≤ l1 then (some ((0 : Int32), M)) else (if l2 < 0 then (some ((0 : Int32), M)) else (if (1000 : Int32) ≤ l2 then (some ((0 : Int32), M)) else (if hT M l0 = 10 then (hR M 2000 l0).bind fun a2 => if hT M a2 = 2 then bI (f_Input_add G a2 (0 : Int32) l1 l2 M) fun v6 M5 => (if v6 = 0 then (some ((0 : Int32), M5)) else (some ((1 : Int32), M5))) else none else none))))
set_option maxRecDepth 100000 in
set_option maxHeartbeats 4000000 in
theorem s_PF_point {G : GT} (l0 : Nat) (l1 : Int32) (l2 : Int32) (M : PH) : VX G mi_PF_point 1 16 0 [some (.ref l0), some (.int l1), some (.int l2)] [] M qI (f_PF_point G l0 l1 l2 M) := by
  unfold f_PF_point
  refine V_open ok_PF_point_0 ?_
  refine B_iload_n rfl ?_
  refine B_lt (tgt := 39) (by decide) ?_ ?_
  · skip
    refine V_open ok_PF_point_39 ?_
    refine B_iconst (0 : Int32) ic_0 ?_
    exact Z_ret rfl (Or.inl rfl)
  · skip
    refine B_iload_n rfl ?_
    refine B_sipush (1000 : Int32) sp_1000 ?_
    refine B_ige (tgt := 39) (by decide) ?_ ?_
    · skip
      refine V_open ok_PF_point_39 ?_
      refine B_iconst (0 : Int32) ic_0 ?_
      exact Z_ret rfl (Or.inl rfl)
    · skip
      refine B_iload_n rfl ?_
      refine B_lt (tgt := 39) (by decide) ?_ ?_
      · skip
        refine V_open ok_PF_point_39 ?_
        refine B_iconst (0 : Int32) ic_0 ?_
        exact Z_ret rfl (Or.inl rfl)
      · skip
        refine B_iload_n rfl ?_
        refine B_sipush (1000 : Int32) sp_1000 ?_
        refine B_ige (tgt := 39) (by decide) ?_ ?_
        · skip
          refine V_open ok_PF_point_39 ?_
          refine B_iconst (0 : Int32) ic_0 ?_
          exact Z_ret rfl (Or.inl rfl)
        · skip
          refine B_aload_n rfl ?_
          refine B_chk (fun t1 => ?_)
          refine K_getR 10 0 2000 lf_PF_10 rfl rfl t1 (fun a2 r3 => ?_)
          refine B_iconst (0 : Int32) ic_0 ?_
          refine B_iload_n rfl ?_
          refine B_iload_n rfl ?_
          refine B_chk (fun t4 => ?_)
          refine C_I (vs := [.ref a2, .int (0 : Int32), .int l1, .int l2]) (st := []) (ci_V lv_PF_126 rfl rfl t4) rfl rfl rfl (s_Input_add a2 (0 : Int32) l1 l2 M) (fun v6 M5 => ?_)
          refine B_eq (tgt := 39) (by decide) ?_ ?_
          · skip
            refine V_open ok_PF_point_39 ?_
            refine B_iconst (0 : Int32) ic_0 ?_
            exact Z_ret rfl (Or.inl rfl)
          · skip
            refine B_iconst (1 : Int32) ic_1 ?_
            refine B_goto (tgt := 40) (by decide) ?_
            refine V_open ok_PF_point_40 ?_
            exact Z_ret rfl (Or.inr rfl)

-- Mo_event
theorem ok_Mo_event_0 : okb prog_13_method_6_code 0 [(.aload_n 0, 1), (.iconst 0, 1), (.putfield 175, 3), (.iload_n 1, 1), (.ifCond .eq 12, 3), (.aload_n 0, 1), (.getfield 185, 3), (.bipush 64, 2), (.if_icmp .ne 5, 3), (.iconst 0, 1), (.ireturn, 1)] = true := by decide +kernel
theorem ok_Mo_event_18 : okb prog_13_method_6_code 18 [(.iconst 0, 1), (.ireturn, 1)] = true := by decide +kernel
theorem ok_Mo_event_20 : okb prog_13_method_6_code 20 [(.aload_n 0, 1), (.getfield 7, 3), (.iconst 3, 1), (.aload_n 0, 1), (.getfield 185, 3), (.imul, 1), (.iload_n 2, 1), (.iastore, 1), (.aload_n 0, 1), (.getfield 7, 3), (.iconst 3, 1), (.aload_n 0, 1), (.getfield 185, 3), (.imul, 1), (.iconst 1, 1), (.iadd, 1), (.iload_n 3, 1), (.iastore, 1), (.aload_n 0, 1), (.getfield 7, 3), (.iconst 3, 1), (.aload_n 0, 1), (.getfield 185, 3), (.imul, 1), (.iconst 2, 1), (.iadd, 1), (.iload 4, 2), (.iastore, 1), (.aload_n 0, 1), (.dup, 1), (.getfield 185, 3), (.iconst 1, 1), (.iadd, 1), (.putfield 185, 3), (.iconst 1, 1), (.ireturn, 1)] = true := by decide +kernel
set_option maxRecDepth 100000 in
def f_Mo_event (G : GT) (l0 : Nat) (l1 : Int32) (l2 : Int32) (l3 : Int32) (l4 : Int32) (M : PH) : Option (Int32 × PH) :=
  if hT M l0 = 11 then hb (sI M 2200 l0 (0 : Int32)) fun M3 => if l1 = 0 then (some ((0 : Int32), M3)) else (if ¬ hI M3 2202 l0 = (64 : Int32) then ((hR M3 2201 l0).bind fun a5 => if hT M3 a5 = 16 then if ib ((3 : Int32) * (hI M3 2202 l0)) (hN M3 a5) = true then hb (sA M3 a5 ((3 : Int32) * (hI M3 2202 l0)).toNatClampNeg l2) fun M9 => (if ib (((3 : Int32) * (hI M9 2202 l0)) + (1 : Int32)) (hN M9 a5) = true then hb (sA M9 a5 (((3 : Int32) * (hI M9 2202 l0)) + (1 : Int32)).toNatClampNeg l3) fun M14 => (if ib (((3 : Int32) * (hI M14 2202 l0)) + (2 : Int32)) (hN M14 a5) = true then hb (sA M14 a5 (((3 : Int32) * (hI M14 2202 l0)) + (2 : Int32)).toNatClampNeg l4) fun M19 => (hb (sI M19 2202 l0 ((hI M19 2202 l0) + (1 : Int32))) fun M22 => some ((1 : Int32), M22)) else none) else none) else none else none) else (some ((0 : Int32), M3))) else none
set_option maxRecDepth 100000 in
set_option maxHeartbeats 4000000 in
theorem s_Mo_event {G : GT} (l0 : Nat) (l1 : Int32) (l2 : Int32) (l3 : Int32) (l4 : Int32) (M : PH) : VX G mi_Mo_event 0 0 0 [some (.ref l0), some (.int l1), some (.int l2), some (.int l3), some (.int l4)] [] M qI (f_Mo_event G l0 l1 l2 l3 l4 M) := by
  unfold f_Mo_event
  refine V_open ok_Mo_event_0 ?_
  refine B_aload_n rfl ?_
  refine B_iconst (0 : Int32) ic_0 ?_
  refine B_chk (fun t1 => ?_)
  refine K_putI 11 0 2200 lf_Mo_175 rfl (Or.inl rfl) rfl t1 (fun M3 e2 => ?_)
  refine B_iload_n rfl ?_
  refine B_eq (tgt := 18) (by decide) ?_ ?_
  · skip
    refine V_open ok_Mo_event_18 ?_
    refine B_iconst (0 : Int32) ic_0 ?_
    exact Z_ret rfl (Or.inl rfl)
  · skip
    refine B_aload_n rfl ?_
    have h4 : hT M3 l0 = 11 := by rw [e2]; exact t1
    refine K_getI 11 2 2202 lf_Mo_185 rfl rfl h4 ?_
    refine B_bipush (64 : Int32) bp_64 ?_
    refine B_ine (tgt := 20) (by decide) ?_ ?_
    · skip
      refine V_open ok_Mo_event_20 ?_
      refine B_aload_n rfl ?_
      refine K_getR 11 1 2201 lf_Mo_7 rfl rfl h4 (fun a5 r6 => ?_)
      refine B_iconst (3 : Int32) ic_3 ?_
      refine B_aload_n rfl ?_
      refine K_getI 11 2 2202 lf_Mo_185 rfl rfl h4 ?_
      refine B_imul ?_
      refine B_iload_n rfl ?_
      refine B_chk (fun t7 => ?_)
      refine K_iast t7 (fun M9 e8 => ?_)
      refine B_aload_n rfl ?_
      have h10 : hT M9 l0 = 11 := by rw [e8]; exact h4
      have h11 : hR M9 2201 l0 = some a5 := by rw [e8]; exact r6
      refine K_getRk 11 1 2201 lf_Mo_7 rfl rfl h10 h11 ?_
      refine B_iconst (3 : Int32) ic_3 ?_
      refine B_aload_n rfl ?_
      refine K_getI 11 2 2202 lf_Mo_185 rfl rfl h10 ?_
      refine B_imul ?_
      refine B_iconst (1 : Int32) ic_1 ?_
      refine B_iadd ?_
      refine B_iload_n rfl ?_
      have h12 : hT M9 a5 = 16 := by rw [e8]; exact t7
      refine K_iast h12 (fun M14 e13 => ?_)
      refine B_aload_n rfl ?_
      have h15 : hT M14 l0 = 11 := by rw [e13]; exact h10
      have h16 : hR M14 2201 l0 = some a5 := by rw [e13]; exact h11
      refine K_getRk 11 1 2201 lf_Mo_7 rfl rfl h15 h16 ?_
      refine B_iconst (3 : Int32) ic_3 ?_
      refine B_aload_n rfl ?_
      refine K_getI 11 2 2202 lf_Mo_185 rfl rfl h15 ?_
      refine B_imul ?_
      refine B_iconst (2 : Int32) ic_2 ?_
      refine B_iadd ?_
      refine B_iload rfl ?_
      have h17 : hT M14 a5 = 16 := by rw [e13]; exact h12
      refine K_iast h17 (fun M19 e18 => ?_)
      refine B_aload_n rfl ?_
      refine B_dup rfl ?_
      have h20 : hT M19 l0 = 11 := by rw [e18]; exact h15
      refine K_getI 11 2 2202 lf_Mo_185 rfl rfl h20 ?_
      refine B_iconst (1 : Int32) ic_1 ?_
      refine B_iadd ?_
      refine K_putI 11 2 2202 lf_Mo_185 rfl (Or.inl rfl) rfl h20 (fun M22 e21 => ?_)
      refine B_iconst (1 : Int32) ic_1 ?_
      exact Z_ret rfl (Or.inr rfl)
    · skip
      refine B_iconst (0 : Int32) ic_0 ?_
      exact Z_ret rfl (Or.inl rfl)

-- Mo_point
theorem ok_Mo_point_0 : okb prog_13_method_7_code 0 [(.aload_n 0, 1), (.iload_n 1, 1), (.ifCond .lt 25, 3), (.iload_n 1, 1), (.sipush 1000, 3), (.if_icmp .ge 18, 3), (.iload_n 2, 1), (.ifCond .lt 14, 3), (.iload_n 2, 1), (.sipush 1000, 3), (.if_icmp .ge 7, 3), (.iconst 1, 1), (.goto 4, 3)] = true := by decide +kernel
theorem ok_Mo_point_27 : okb prog_13_method_7_code 27 [(.iconst 0, 1)] = true := by decide +kernel
theorem ok_Mo_point_28 : okb prog_13_method_7_code 28 [(.iconst 0, 1), (.iload_n 1, 1), (.iload_n 2, 1), (.invokevirtual 188, 3), (.ireturn, 1)] = true := by decide +kernel
set_option maxRecDepth 100000 in
def b_Mo_point_28 (G : GT) (l1 : Int32) (l2 : Int32) (s0 : Nat) (s1 : Int32) (M : PH) : Option (Int32 × PH) :=
  if hT M s0 = 11 then bI (f_Mo_event G s0 s1 (0 : Int32) l1 l2 M) fun v3 M2 => (if v3 = 0 ∨ v3 = 1 then some (v3, M2) else none) else none
set_option maxRecDepth 100000 in
set_option maxHeartbeats 4000000 in
theorem t_Mo_point_28 {G : GT} (l1 : Int32) (l2 : Int32) (s0 : Nat) (s1 : Int32) (M : PH) : VX G mi_Mo_point 1 16 28 [none, some (.int l1), some (.int l2)] [.int s1, .ref s0] M qI (b_Mo_point_28 G l1 l2 s0 s1 M) := by
  unfold b_Mo_point_28
  refine V_open ok_Mo_point_28 ?_
  refine B_iconst (0 : Int32) ic_0 ?_
  refine B_iload_n rfl ?_
  refine B_iload_n rfl ?_
  refine B_chk (fun t1 => ?_)
  refine C_I (vs := [.ref s0, .int s1, .int (0 : Int32), .int l1, .int l2]) (st := []) (ci_V lv_Mo_188 rfl rfl t1) rfl rfl rfl (s_Mo_event s0 s1 (0 : Int32) l1 l2 M) (fun v3 M2 => ?_)
  refine B_chk (fun z4 => ?_)
  exact Z_ret rfl z4
set_option maxRecDepth 100000 in
def b_Mo_point_27 (G : GT) (l1 : Int32) (l2 : Int32) (s0 : Nat) (M : PH) : Option (Int32 × PH) :=
  b_Mo_point_28 G l1 l2 s0 (0 : Int32) M
set_option maxRecDepth 100000 in
set_option maxHeartbeats 4000000 in
theorem t_Mo_point_27 {G : GT} (l1 : Int32) (l2 : Int32) (s0 : Nat) (M : PH) : VX G mi_Mo_point 1 16 27 [none, some (.int l1), some (.int l2)] [.ref s0] M qI (b_Mo_point_27 G l1 l2 s0 M) := by
  unfold b_Mo_point_27
  refine V_open ok_Mo_point_27 ?_
  refine B_iconst (0 : Int32) ic_0 ?_
  refine V_close ?_
  exact V_weak (ls' := [none, some (.int l1), some (.int l2)]) ⟨rfl, ⟨rfl, trivial⟩⟩ (t_Mo_point_28 l1 l2 s0 (0 : Int32) M)
set_option maxRecDepth 100000 in
def f_Mo_point (G : GT) (l0 : Nat) (l1 : Int32) (l2 : Int32) (M : PH) : Option (Int32 × PH) :=
  if l1 < 0 then (b_Mo_point_27 G l1 l2 l0 M) else (if (1000 : Int32) ≤ l1 then (b_Mo_point_27 G l1 l2 l0 M) else (if l2 < 0 then (b_Mo_point_27 G l1 l2 l0 M) else (if (1000 : Int32) ≤ l2 then (b_Mo_point_27 G l1 l2 l0 M) else (b_Mo_point_28 G l1 l2 l0 (1 : Int32) M))))
set_option maxRecDepth 100000 in
set_option maxHeartbeats 4000000 in
theorem s_Mo_point {G : GT} (l0 : Nat) (l1 : Int32) (l2 : Int32) (M : PH) : VX G mi_Mo_point 1 16 0 [some (.ref l0), some (.int l1), some (.int l2)] [] M qI (f_Mo_point G l0 l1 l2 M) := by
  unfold f_Mo_point
  refine V_open ok_Mo_point_0 ?_
  refine B_aload_n rfl ?_
  refine B_iload_n rfl ?_
  refine B_lt (tgt := 27) (by decide) ?_ ?_
  · skip
    exact V_weak (ls' := [none, some (.int l1), some (.int l2)]) ⟨rfl, ⟨rfl, trivial⟩⟩ (t_Mo_point_27 l1 l2 l0 M)
  · skip
    refine B_iload_n rfl ?_
    refine B_sipush (1000 : Int32) sp_1000 ?_
    refine B_ige (tgt := 27) (by decide) ?_ ?_
    · skip
      exact V_weak (ls' := [none, some (.int l1), some (.int l2)]) ⟨rfl, ⟨rfl, trivial⟩⟩ (t_Mo_point_27 l1 l2 l0 M)
    · skip
      refine B_iload_n rfl ?_
      refine B_lt (tgt := 27) (by decide) ?_ ?_
      · skip
        exact V_weak (ls' := [none, some (.int l1), some (.int l2)]) ⟨rfl, ⟨rfl, trivial⟩⟩ (t_Mo_point_27 l1 l2 l0 M)
      · skip
        refine B_iload_n rfl ?_
        refine B_sipush (1000 : Int32) sp_1000 ?_
        refine B_ige (tgt := 27) (by decide) ?_ ?_
        · skip
          exact V_weak (ls' := [none, some (.int l1), some (.int l2)]) ⟨rfl, ⟨rfl, trivial⟩⟩ (t_Mo_point_27 l1 l2 l0 M)
        · skip
          refine B_iconst (1 : Int32) ic_1 ?_
          refine B_goto (tgt := 28) (by decide) ?_
          exact V_weak (ls' := [none, some (.int l1), some (.int l2)]) ⟨rfl, ⟨rfl, trivial⟩⟩ (t_Mo_point_28 l1 l2 l0 (1 : Int32) M)

-- PF_press
theorem ok_PF_press_0 : okb prog_1_method_6_code 0 [(.aload_n 0, 1), (.getfield 10, 3), (.iconst 1, 1), (.iload_n 1, 1), (.ifCond .eq 7, 3), (.iconst 1, 1), (.goto 4, 3)] = true := by decide +kernel
theorem ok_PF_press_13 : okb prog_1_method_6_code 13 [(.iconst 0, 1)] = true := by decide +kernel
theorem ok_PF_press_14 : okb prog_1_method_6_code 14 [(.iconst 0, 1), (.invokevirtual 126, 3), (.ireturn, 1)] = true := by decide +kernel
set_option maxRecDepth 100000 in
def b_PF_press_14 (G : GT) (s0 : Nat) (s1 : Int32) (s2 : Int32) (M : PH) : Option (Int32 × PH) :=
  if hT M s0 = 2 then bI (f_Input_add G s0 s1 s2 (0 : Int32) M) fun v3 M2 => (if v3 = 0 ∨ v3 = 1 then some (v3, M2) else none) else none
set_option maxRecDepth 100000 in
set_option maxHeartbeats 4000000 in
theorem t_PF_press_14 {G : GT} (s0 : Nat) (s1 : Int32) (s2 : Int32) (M : PH) : VX G mi_PF_press 1 16 14 [none, none] [.int s2, .int s1, .ref s0] M qI (b_PF_press_14 G s0 s1 s2 M) := by
  unfold b_PF_press_14
  refine V_open ok_PF_press_14 ?_
  refine B_iconst (0 : Int32) ic_0 ?_
  refine B_chk (fun t1 => ?_)
  refine C_I (vs := [.ref s0, .int s1, .int s2, .int (0 : Int32)]) (st := []) (ci_V lv_PF_126 rfl rfl t1) rfl rfl rfl (s_Input_add s0 s1 s2 (0 : Int32) M) (fun v3 M2 => ?_)
  refine B_chk (fun z4 => ?_)
  exact Z_ret rfl z4
set_option maxRecDepth 100000 in
def f_PF_press (G : GT) (l0 : Nat) (l1 : Int32) (M : PH) : Option (Int32 × PH) :=
  if hT M l0 = 10 then (hR M 2000 l0).bind fun a2 => if l1 = 0 then (b_PF_press_14 G a2 (1 : Int32) (0 : Int32) M) else (b_PF_press_14 G a2 (1 : Int32) (1 : Int32) M) else none
set_option maxRecDepth 100000 in
set_option maxHeartbeats 4000000 in
theorem s_PF_press {G : GT} (l0 : Nat) (l1 : Int32) (M : PH) : VX G mi_PF_press 1 16 0 [some (.ref l0), some (.int l1)] [] M qI (f_PF_press G l0 l1 M) := by
  unfold f_PF_press
  refine V_open ok_PF_press_0 ?_
  refine B_aload_n rfl ?_
  refine B_chk (fun t1 => ?_)
  refine K_getR 10 0 2000 lf_PF_10 rfl rfl t1 (fun a2 r3 => ?_)
  refine B_iconst (1 : Int32) ic_1 ?_
  refine B_iload_n rfl ?_
  refine B_eq (tgt := 13) (by decide) ?_ ?_
  · skip
    refine V_open ok_PF_press_13 ?_
    refine B_iconst (0 : Int32) ic_0 ?_
    refine V_close ?_
    exact V_weak (ls' := [none, none]) trivial (t_PF_press_14 a2 (1 : Int32) (0 : Int32) M)
  · skip
    refine B_iconst (1 : Int32) ic_1 ?_
    refine B_goto (tgt := 14) (by decide) ?_
    exact V_weak (ls' := [none, none]) trivial (t_PF_press_14 a2 (1 : Int32) (1 : Int32) M)

-- Mo_press
theorem ok_Mo_press_0 : okb prog_13_method_8_code 0 [(.aload_n 0, 1), (.iconst 1, 1), (.iconst 1, 1), (.iload_n 1, 1), (.ifCond .eq 7, 3), (.iconst 1, 1), (.goto 4, 3)] = true := by decide +kernel
theorem ok_Mo_press_11 : okb prog_13_method_8_code 11 [(.iconst 0, 1)] = true := by decide +kernel
theorem ok_Mo_press_12 : okb prog_13_method_8_code 12 [(.iconst 0, 1), (.invokevirtual 188, 3), (.ireturn, 1)] = true := by decide +kernel
set_option maxRecDepth 100000 in
def b_Mo_press_12 (G : GT) (s0 : Nat) (s1 : Int32) (s2 : Int32) (s3 : Int32) (M : PH) : Option (Int32 × PH) :=
  if hT M s0 = 11 then bI (f_Mo_event G s0 s1 s2 s3 (0 : Int32) M) fun v3 M2 => (if v3 = 0 ∨ v3 = 1 then some (v3, M2) else none) else none
set_option maxRecDepth 100000 in
set_option maxHeartbeats 4000000 in
theorem t_Mo_press_12 {G : GT} (s0 : Nat) (s1 : Int32) (s2 : Int32) (s3 : Int32) (M : PH) : VX G mi_Mo_press 1 16 12 [none, none] [.int s3, .int s2, .int s1, .ref s0] M qI (b_Mo_press_12 G s0 s1 s2 s3 M) := by
  unfold b_Mo_press_12
  refine V_open ok_Mo_press_12 ?_
  refine B_iconst (0 : Int32) ic_0 ?_
  refine B_chk (fun t1 => ?_)
  refine C_I (vs := [.ref s0, .int s1, .int s2, .int s3, .int (0 : Int32)]) (st := []) (ci_V lv_Mo_188 rfl rfl t1) rfl rfl rfl (s_Mo_event s0 s1 s2 s3 (0 : Int32) M) (fun v3 M2 => ?_)
  refine B_chk (fun z4 => ?_)
  exact Z_ret rfl z4
set_option maxRecDepth 100000 in
def f_Mo_press (G : GT) (l0 : Nat) (l1 : Int32) (M : PH) : Option (Int32 × PH) :=
  if l1 = 0 then (b_Mo_press_12 G l0 (1 : Int32) (1 : Int32) (0 : Int32) M) else (b_Mo_press_12 G l0 (1 : Int32) (1 : Int32) (1 : Int32) M)
set_option maxRecDepth 100000 in
set_option maxHeartbeats 4000000 in
theorem s_Mo_press {G : GT} (l0 : Nat) (l1 : Int32) (M : PH) : VX G mi_Mo_press 1 16 0 [some (.ref l0), some (.int l1)] [] M qI (f_Mo_press G l0 l1 M) := by
  unfold f_Mo_press
  refine V_open ok_Mo_press_0 ?_
  refine B_aload_n rfl ?_
  refine B_iconst (1 : Int32) ic_1 ?_
  refine B_iconst (1 : Int32) ic_1 ?_
  refine B_iload_n rfl ?_
  refine B_eq (tgt := 11) (by decide) ?_ ?_
  · skip
    refine V_open ok_Mo_press_11 ?_
    refine B_iconst (0 : Int32) ic_0 ?_
    refine V_close ?_
    exact V_weak (ls' := [none, none]) trivial (t_Mo_press_12 l0 (1 : Int32) (1 : Int32) (0 : Int32) M)
  · skip
    refine B_iconst (1 : Int32) ic_1 ?_
    refine B_goto (tgt := 12) (by decide) ?_
    exact V_weak (ls' := [none, none]) trivial (t_Mo_press_12 l0 (1 : Int32) (1 : Int32) (1 : Int32) M)

-- PF_wheel
theorem ok_PF_wheel_0 : okb prog_1_method_7_code 0 [(.iload_n 1, 1), (.bipush (-9), 2), (.if_icmp .lt 26, 3), (.iload_n 1, 1), (.bipush 9, 2), (.if_icmp .gt 20, 3), (.aload_n 0, 1), (.getfield 10, 3), (.iconst 2, 1), (.iload_n 1, 1), (.iconst 0, 1), (.invokevirtual 126, 3), (.ifCond .eq 7, 3), (.iconst 1, 1), (.goto 4, 3)] = true := by decide +kernel
theorem ok_PF_wheel_29 : okb prog_1_method_7_code 29 [(.iconst 0, 1), (.ireturn, 1)] = true := by decide +kernel
theorem ok_PF_wheel_30 : okb prog_1_method_7_code 30 [(.ireturn, 1)] = true := by decide +kernel
set_option maxRecDepth 100000 in
def f_PF_wheel (G : GT) (l0 : Nat) (l1 : Int32) (M : PH) : Option (Int32 × PH) :=
  if l1 < (-9 : Int32) then (some ((0 : Int32), M)) else (if (9 : Int32) < l1 then (some ((0 : Int32), M)) else (if hT M l0 = 10 then (hR M 2000 l0).bind fun a2 => if hT M a2 = 2 then bI (f_Input_add G a2 (2 : Int32) l1 (0 : Int32) M) fun v6 M5 => (if v6 = 0 then (some ((0 : Int32), M5)) else (some ((1 : Int32), M5))) else none else none))
set_option maxRecDepth 100000 in
set_option maxHeartbeats 4000000 in
theorem s_PF_wheel {G : GT} (l0 : Nat) (l1 : Int32) (M : PH) : VX G mi_PF_wheel 1 16 0 [some (.ref l0), some (.int l1)] [] M qI (f_PF_wheel G l0 l1 M) := by
  unfold f_PF_wheel
  refine V_open ok_PF_wheel_0 ?_
  refine B_iload_n rfl ?_
  refine B_bipush (-9 : Int32) bp_m9 ?_
  refine B_ilt (tgt := 29) (by decide) ?_ ?_
  · skip
    refine V_open ok_PF_wheel_29 ?_
    refine B_iconst (0 : Int32) ic_0 ?_
    exact Z_ret rfl (Or.inl rfl)
  · skip
    refine B_iload_n rfl ?_
    refine B_bipush (9 : Int32) bp_9 ?_
    refine B_igt (tgt := 29) (by decide) ?_ ?_
    · skip
      refine V_open ok_PF_wheel_29 ?_
      refine B_iconst (0 : Int32) ic_0 ?_
      exact Z_ret rfl (Or.inl rfl)
    · skip
      refine B_aload_n rfl ?_
      refine B_chk (fun t1 => ?_)
      refine K_getR 10 0 2000 lf_PF_10 rfl rfl t1 (fun a2 r3 => ?_)
      refine B_iconst (2 : Int32) ic_2 ?_
      refine B_iload_n rfl ?_
      refine B_iconst (0 : Int32) ic_0 ?_
      refine B_chk (fun t4 => ?_)
      refine C_I (vs := [.ref a2, .int (2 : Int32), .int l1, .int (0 : Int32)]) (st := []) (ci_V lv_PF_126 rfl rfl t4) rfl rfl rfl (s_Input_add a2 (2 : Int32) l1 (0 : Int32) M) (fun v6 M5 => ?_)
      refine B_eq (tgt := 29) (by decide) ?_ ?_
      · skip
        refine V_open ok_PF_wheel_29 ?_
        refine B_iconst (0 : Int32) ic_0 ?_
        exact Z_ret rfl (Or.inl rfl)
      · skip
        refine B_iconst (1 : Int32) ic_1 ?_
        refine B_goto (tgt := 30) (by decide) ?_
        refine V_open ok_PF_wheel_30 ?_
        exact Z_ret rfl (Or.inr rfl)

-- Mo_wheel
theorem ok_Mo_wheel_0 : okb prog_13_method_9_code 0 [(.aload_n 0, 1), (.iload_n 1, 1), (.bipush (-9), 2), (.if_icmp .lt 13, 3), (.iload_n 1, 1), (.bipush 9, 2), (.if_icmp .gt 7, 3), (.iconst 1, 1), (.goto 4, 3)] = true := by decide +kernel
theorem ok_Mo_wheel_17 : okb prog_13_method_9_code 17 [(.iconst 0, 1)] = true := by decide +kernel
theorem ok_Mo_wheel_18 : okb prog_13_method_9_code 18 [(.iconst 2, 1), (.iload_n 1, 1), (.iconst 0, 1), (.invokevirtual 188, 3), (.ireturn, 1)] = true := by decide +kernel
set_option maxRecDepth 100000 in
def b_Mo_wheel_18 (G : GT) (l1 : Int32) (s0 : Nat) (s1 : Int32) (M : PH) : Option (Int32 × PH) :=
  if hT M s0 = 11 then bI (f_Mo_event G s0 s1 (2 : Int32) l1 (0 : Int32) M) fun v3 M2 => (if v3 = 0 ∨ v3 = 1 then some (v3, M2) else none) else none
set_option maxRecDepth 100000 in
set_option maxHeartbeats 4000000 in
theorem t_Mo_wheel_18 {G : GT} (l1 : Int32) (s0 : Nat) (s1 : Int32) (M : PH) : VX G mi_Mo_wheel 1 16 18 [none, some (.int l1)] [.int s1, .ref s0] M qI (b_Mo_wheel_18 G l1 s0 s1 M) := by
  unfold b_Mo_wheel_18
  refine V_open ok_Mo_wheel_18 ?_
  refine B_iconst (2 : Int32) ic_2 ?_
  refine B_iload_n rfl ?_
  refine B_iconst (0 : Int32) ic_0 ?_
  refine B_chk (fun t1 => ?_)
  refine C_I (vs := [.ref s0, .int s1, .int (2 : Int32), .int l1, .int (0 : Int32)]) (st := []) (ci_V lv_Mo_188 rfl rfl t1) rfl rfl rfl (s_Mo_event s0 s1 (2 : Int32) l1 (0 : Int32) M) (fun v3 M2 => ?_)
  refine B_chk (fun z4 => ?_)
  exact Z_ret rfl z4
set_option maxRecDepth 100000 in
def b_Mo_wheel_17 (G : GT) (l1 : Int32) (s0 : Nat) (M : PH) : Option (Int32 × PH) :=
  b_Mo_wheel_18 G l1 s0 (0 : Int32) M
set_option maxRecDepth 100000 in
set_option maxHeartbeats 4000000 in
theorem t_Mo_wheel_17 {G : GT} (l1 : Int32) (s0 : Nat) (M : PH) : VX G mi_Mo_wheel 1 16 17 [none, some (.int l1)] [.ref s0] M qI (b_Mo_wheel_17 G l1 s0 M) := by
  unfold b_Mo_wheel_17
  refine V_open ok_Mo_wheel_17 ?_
  refine B_iconst (0 : Int32) ic_0 ?_
  refine V_close ?_
  exact V_weak (ls' := [none, some (.int l1)]) ⟨rfl, trivial⟩ (t_Mo_wheel_18 l1 s0 (0 : Int32) M)
set_option maxRecDepth 100000 in
def f_Mo_wheel (G : GT) (l0 : Nat) (l1 : Int32) (M : PH) : Option (Int32 × PH) :=
  if l1 < (-9 : Int32) then (b_Mo_wheel_17 G l1 l0 M) else (if (9 : Int32) < l1 then (b_Mo_wheel_17 G l1 l0 M) else (b_Mo_wheel_18 G l1 l0 (1 : Int32) M))
set_option maxRecDepth 100000 in
set_option maxHeartbeats 4000000 in
theorem s_Mo_wheel {G : GT} (l0 : Nat) (l1 : Int32) (M : PH) : VX G mi_Mo_wheel 1 16 0 [some (.ref l0), some (.int l1)] [] M qI (f_Mo_wheel G l0 l1 M) := by
  unfold f_Mo_wheel
  refine V_open ok_Mo_wheel_0 ?_
  refine B_aload_n rfl ?_
  refine B_iload_n rfl ?_
  refine B_bipush (-9 : Int32) bp_m9 ?_
  refine B_ilt (tgt := 17) (by decide) ?_ ?_
  · skip
    exact V_weak (ls' := [none, some (.int l1)]) ⟨rfl, trivial⟩ (t_Mo_wheel_17 l1 l0 M)
  · skip
    refine B_iload_n rfl ?_
    refine B_bipush (9 : Int32) bp_9 ?_
    refine B_igt (tgt := 17) (by decide) ?_ ?_
    · skip
      exact V_weak (ls' := [none, some (.int l1)]) ⟨rfl, trivial⟩ (t_Mo_wheel_17 l1 l0 M)
    · skip
      refine B_iconst (1 : Int32) ic_1 ?_
      refine B_goto (tgt := 18) (by decide) ?_
      exact V_weak (ls' := [none, some (.int l1)]) ⟨rfl, trivial⟩ (t_Mo_wheel_18 l1 l0 (1 : Int32) M)

-- PF_key
theorem ok_PF_key_0 : okb prog_1_method_8_code 0 [(.iload_n 1, 1), (.ifCond .lt 34, 3), (.iload_n 1, 1), (.bipush 6, 2), (.if_icmp .ge 28, 3), (.aload_n 0, 1), (.getfield 10, 3), (.iconst 3, 1), (.iload_n 1, 1), (.iload_n 2, 1), (.ifCond .eq 7, 3), (.iconst 1, 1), (.goto 4, 3)] = true := by decide +kernel
theorem ok_PF_key_24 : okb prog_1_method_8_code 24 [(.iconst 0, 1)] = true := by decide +kernel
theorem ok_PF_key_25 : okb prog_1_method_8_code 25 [(.invokevirtual 126, 3), (.ifCond .eq 7, 3), (.iconst 1, 1), (.goto 4, 3)] = true := by decide +kernel
theorem ok_PF_key_35 : okb prog_1_method_8_code 35 [(.iconst 0, 1), (.ireturn, 1)] = true := by decide +kernel
theorem ok_PF_key_36 : okb prog_1_method_8_code 36 [(.ireturn, 1)] = true := by decide +kernel
set_option maxRecDepth 100000 in
def b_PF_key_25 (G : GT) (s0 : Nat) (s1 : Int32) (s2 : Int32) (s3 : Int32) (M : PH) : Option (Int32 × PH) :=
  if hT M s0 = 2 then bI (f_Input_add G s0 s1 s2 s3 M) fun v3 M2 => (if v3 = 0 then (some ((0 : Int32), M2)) else (some ((1 : Int32), M2))) else none
set_option maxRecDepth 100000 in
set_option maxHeartbeats 4000000 in
theorem t_PF_key_25 {G : GT} (s0 : Nat) (s1 : Int32) (s2 : Int32) (s3 : Int32) (M : PH) : VX G mi_PF_key 1 16 25 [none, none, none] [.int s3, .int s2, .int s1, .ref s0] M qI (b_PF_key_25 G s0 s1 s2 s3 M) := by
  unfold b_PF_key_25
  refine V_open ok_PF_key_25 ?_
  refine B_chk (fun t1 => ?_)
  refine C_I (vs := [.ref s0, .int s1, .int s2, .int s3]) (st := []) (ci_V lv_PF_126 rfl rfl t1) rfl rfl rfl (s_Input_add s0 s1 s2 s3 M) (fun v3 M2 => ?_)
  refine B_eq (tgt := 35) (by decide) ?_ ?_
  · skip
    refine V_open ok_PF_key_35 ?_
    refine B_iconst (0 : Int32) ic_0 ?_
    exact Z_ret rfl (Or.inl rfl)
  · skip
    refine B_iconst (1 : Int32) ic_1 ?_
    refine B_goto (tgt := 36) (by decide) ?_
    refine V_open ok_PF_key_36 ?_
    exact Z_ret rfl (Or.inr rfl)
set_option maxRecDepth 100000 in
def f_PF_key (G : GT) (l0 : Nat) (l1 : Int32) (l2 : Int32) (M : PH) : Option (Int32 × PH) :=
  if l1 < 0 then (some ((0 : Int32), M)) else (if (6 : Int32) ≤ l1 then (some ((0 : Int32), M)) else (if hT M l0 = 10 then (hR M 2000 l0).bind fun a2 => if l2 = 0 then (b_PF_key_25 G a2 (3 : Int32) l1 (0 : Int32) M) else (b_PF_key_25 G a2 (3 : Int32) l1 (1 : Int32) M) else none))
set_option maxRecDepth 100000 in
set_option maxHeartbeats 4000000 in
theorem s_PF_key {G : GT} (l0 : Nat) (l1 : Int32) (l2 : Int32) (M : PH) : VX G mi_PF_key 1 16 0 [some (.ref l0), some (.int l1), some (.int l2)] [] M qI (f_PF_key G l0 l1 l2 M) := by
  unfold f_PF_key
  refine V_open ok_PF_key_0 ?_
  refine B_iload_n rfl ?_
  refine B_lt (tgt := 35) (by decide) ?_ ?_
  · skip
    refine V_open ok_PF_key_35 ?_
    refine B_iconst (0 : Int32) ic_0 ?_
    exact Z_ret rfl (Or.inl rfl)
  · skip
    refine B_iload_n rfl ?_
    refine B_bipush (6 : Int32) bp_6 ?_
    refine B_ige (tgt := 35) (by decide) ?_ ?_
    · skip
      refine V_open ok_PF_key_35 ?_
      refine B_iconst (0 : Int32) ic_0 ?_
      exact Z_ret rfl (Or.inl rfl)
    · skip
      refine B_aload_n rfl ?_
      refine B_chk (fun t1 => ?_)
      refine K_getR 10 0 2000 lf_PF_10 rfl rfl t1 (fun a2 r3 => ?_)
      refine B_iconst (3 : Int32) ic_3 ?_
      refine B_iload_n rfl ?_
      refine B_iload_n rfl ?_
      refine B_eq (tgt := 24) (by decide) ?_ ?_
      · skip
        refine V_open ok_PF_key_24 ?_
        refine B_iconst (0 : Int32) ic_0 ?_
        refine V_close ?_
        exact V_weak (ls' := [none, none, none]) trivial (t_PF_key_25 a2 (3 : Int32) l1 (0 : Int32) M)
      · skip
        refine B_iconst (1 : Int32) ic_1 ?_
        refine B_goto (tgt := 25) (by decide) ?_
        exact V_weak (ls' := [none, none, none]) trivial (t_PF_key_25 a2 (3 : Int32) l1 (1 : Int32) M)

-- Mo_key
theorem ok_Mo_key_0 : okb prog_13_method_10_code 0 [(.aload_n 0, 1), (.iload_n 1, 1), (.ifCond .lt 13, 3), (.iload_n 1, 1), (.bipush 6, 2), (.if_icmp .ge 7, 3), (.iconst 1, 1), (.goto 4, 3)] = true := by decide +kernel
theorem ok_Mo_key_15 : okb prog_13_method_10_code 15 [(.iconst 0, 1)] = true := by decide +kernel
theorem ok_Mo_key_16 : okb prog_13_method_10_code 16 [(.iconst 3, 1), (.iload_n 1, 1), (.iload_n 2, 1), (.ifCond .eq 7, 3), (.iconst 1, 1), (.goto 4, 3)] = true := by decide +kernel
theorem ok_Mo_key_26 : okb prog_13_method_10_code 26 [(.iconst 0, 1)] = true := by decide +kernel
theorem ok_Mo_key_27 : okb prog_13_method_10_code 27 [(.invokevirtual 188, 3), (.ireturn, 1)] = true := by decide +kernel
set_option maxRecDepth 100000 in
def b_Mo_key_27 (G : GT) (s0 : Nat) (s1 : Int32) (s2 : Int32) (s3 : Int32) (s4 : Int32) (M : PH) : Option (Int32 × PH) :=
  if hT M s0 = 11 then bI (f_Mo_event G s0 s1 s2 s3 s4 M) fun v3 M2 => (if v3 = 0 ∨ v3 = 1 then some (v3, M2) else none) else none
set_option maxRecDepth 100000 in
set_option maxHeartbeats 4000000 in
theorem t_Mo_key_27 {G : GT} (s0 : Nat) (s1 : Int32) (s2 : Int32) (s3 : Int32) (s4 : Int32) (M : PH) : VX G mi_Mo_key 1 16 27 [none, none, none] [.int s4, .int s3, .int s2, .int s1, .ref s0] M qI (b_Mo_key_27 G s0 s1 s2 s3 s4 M) := by
  unfold b_Mo_key_27
  refine V_open ok_Mo_key_27 ?_
  refine B_chk (fun t1 => ?_)
  refine C_I (vs := [.ref s0, .int s1, .int s2, .int s3, .int s4]) (st := []) (ci_V lv_Mo_188 rfl rfl t1) rfl rfl rfl (s_Mo_event s0 s1 s2 s3 s4 M) (fun v3 M2 => ?_)
  refine B_chk (fun z4 => ?_)
  exact Z_ret rfl z4
set_option maxRecDepth 100000 in
def b_Mo_key_16 (G : GT) (l1 : Int32) (l2 : Int32) (s0 : Nat) (s1 : Int32) (M : PH) : Option (Int32 × PH) :=
  if l2 = 0 then (b_Mo_key_27 G s0 s1 (3 : Int32) l1 (0 : Int32) M) else (b_Mo_key_27 G s0 s1 (3 : Int32) l1 (1 : Int32) M)
set_option maxRecDepth 100000 in
set_option maxHeartbeats 4000000 in
theorem t_Mo_key_16 {G : GT} (l1 : Int32) (l2 : Int32) (s0 : Nat) (s1 : Int32) (M : PH) : VX G mi_Mo_key 1 16 16 [none, some (.int l1), some (.int l2)] [.int s1, .ref s0] M qI (b_Mo_key_16 G l1 l2 s0 s1 M) := by
  unfold b_Mo_key_16
  refine V_open ok_Mo_key_16 ?_
  refine B_iconst (3 : Int32) ic_3 ?_
  refine B_iload_n rfl ?_
  refine B_iload_n rfl ?_
  refine B_eq (tgt := 26) (by decide) ?_ ?_
  · skip
    refine V_open ok_Mo_key_26 ?_
    refine B_iconst (0 : Int32) ic_0 ?_
    refine V_close ?_
    exact V_weak (ls' := [none, none, none]) trivial (t_Mo_key_27 s0 s1 (3 : Int32) l1 (0 : Int32) M)
  · skip
    refine B_iconst (1 : Int32) ic_1 ?_
    refine B_goto (tgt := 27) (by decide) ?_
    exact V_weak (ls' := [none, none, none]) trivial (t_Mo_key_27 s0 s1 (3 : Int32) l1 (1 : Int32) M)
set_option maxRecDepth 100000 in
def b_Mo_key_15 (G : GT) (l1 : Int32) (l2 : Int32) (s0 : Nat) (M : PH) : Option (Int32 × PH) :=
  b_Mo_key_16 G l1 l2 s0 (0 : Int32) M
set_option maxRecDepth 100000 in
set_option maxHeartbeats 4000000 in
theorem t_Mo_key_15 {G : GT} (l1 : Int32) (l2 : Int32) (s0 : Nat) (M : PH) : VX G mi_Mo_key 1 16 15 [none, some (.int l1), some (.int l2)] [.ref s0] M qI (b_Mo_key_15 G l1 l2 s0 M) := by
  unfold b_Mo_key_15
  refine V_open ok_Mo_key_15 ?_
  refine B_iconst (0 : Int32) ic_0 ?_
  refine V_close ?_
  exact V_weak (ls' := [none, some (.int l1), some (.int l2)]) ⟨rfl, ⟨rfl, trivial⟩⟩ (t_Mo_key_16 l1 l2 s0 (0 : Int32) M)
set_option maxRecDepth 100000 in
def f_Mo_key (G : GT) (l0 : Nat) (l1 : Int32) (l2 : Int32) (M : PH) : Option (Int32 × PH) :=
  if l1 < 0 then (b_Mo_key_15 G l1 l2 l0 M) else (if (6 : Int32) ≤ l1 then (b_Mo_key_15 G l1 l2 l0 M) else (b_Mo_key_16 G l1 l2 l0 (1 : Int32) M))
set_option maxRecDepth 100000 in
set_option maxHeartbeats 4000000 in
theorem s_Mo_key {G : GT} (l0 : Nat) (l1 : Int32) (l2 : Int32) (M : PH) : VX G mi_Mo_key 1 16 0 [some (.ref l0), some (.int l1), some (.int l2)] [] M qI (f_Mo_key G l0 l1 l2 M) := by
  unfold f_Mo_key
  refine V_open ok_Mo_key_0 ?_
  refine B_aload_n rfl ?_
  refine B_iload_n rfl ?_
  refine B_lt (tgt := 15) (by decide) ?_ ?_
  · skip
    exact V_weak (ls' := [none, some (.int l1), some (.int l2)]) ⟨rfl, ⟨rfl, trivial⟩⟩ (t_Mo_key_15 l1 l2 l0 M)
  · skip
    refine B_iload_n rfl ?_
    refine B_bipush (6 : Int32) bp_6 ?_
    refine B_ige (tgt := 15) (by decide) ?_ ?_
    · skip
      exact V_weak (ls' := [none, some (.int l1), some (.int l2)]) ⟨rfl, ⟨rfl, trivial⟩⟩ (t_Mo_key_15 l1 l2 l0 M)
    · skip
      refine B_iconst (1 : Int32) ic_1 ?_
      refine B_goto (tgt := 16) (by decide) ?_
      exact V_weak (ls' := [none, some (.int l1), some (.int l2)]) ⟨rfl, ⟨rfl, trivial⟩⟩ (t_Mo_key_16 l1 l2 l0 (1 : Int32) M)

-- PF_letter
theorem ok_PF_letter_0 : okb prog_1_method_9_code 0 [(.iload_n 1, 1), (.bipush 32, 2), (.if_icmp .lt 26, 3), (.iload_n 1, 1), (.bipush 126, 2), (.if_icmp .gt 20, 3), (.aload_n 0, 1), (.getfield 10, 3), (.iconst 4, 1), (.iload_n 1, 1), (.iconst 0, 1), (.invokevirtual 126, 3), (.ifCond .eq 7, 3), (.iconst 1, 1), (.goto 4, 3)] = true := by decide +kernel
theorem ok_PF_letter_29 : okb prog_1_method_9_code 29 [(.iconst 0, 1), (.ireturn, 1)] = true := by decide +kernel
theorem ok_PF_letter_30 : okb prog_1_method_9_code 30 [(.ireturn, 1)] = true := by decide +kernel
set_option maxRecDepth 100000 in
def f_PF_letter (G : GT) (l0 : Nat) (l1 : Int32) (M : PH) : Option (Int32 × PH) :=
  if l1 < (32 : Int32) then (some ((0 : Int32), M)) else (if (126 : Int32) < l1 then (some ((0 : Int32), M)) else (if hT M l0 = 10 then (hR M 2000 l0).bind fun a2 => if hT M a2 = 2 then bI (f_Input_add G a2 (4 : Int32) l1 (0 : Int32) M) fun v6 M5 => (if v6 = 0 then (some ((0 : Int32), M5)) else (some ((1 : Int32), M5))) else none else none))
set_option maxRecDepth 100000 in
set_option maxHeartbeats 4000000 in
theorem s_PF_letter {G : GT} (l0 : Nat) (l1 : Int32) (M : PH) : VX G mi_PF_letter 1 16 0 [some (.ref l0), some (.int l1)] [] M qI (f_PF_letter G l0 l1 M) := by
  unfold f_PF_letter
  refine V_open ok_PF_letter_0 ?_
  refine B_iload_n rfl ?_
  refine B_bipush (32 : Int32) bp_32 ?_
  refine B_ilt (tgt := 29) (by decide) ?_ ?_
  · skip
    refine V_open ok_PF_letter_29 ?_
    refine B_iconst (0 : Int32) ic_0 ?_
    exact Z_ret rfl (Or.inl rfl)
  · skip
    refine B_iload_n rfl ?_
    refine B_bipush (126 : Int32) bp_126 ?_
    refine B_igt (tgt := 29) (by decide) ?_ ?_
    · skip
      refine V_open ok_PF_letter_29 ?_
      refine B_iconst (0 : Int32) ic_0 ?_
      exact Z_ret rfl (Or.inl rfl)
    · skip
      refine B_aload_n rfl ?_
      refine B_chk (fun t1 => ?_)
      refine K_getR 10 0 2000 lf_PF_10 rfl rfl t1 (fun a2 r3 => ?_)
      refine B_iconst (4 : Int32) ic_4 ?_
      refine B_iload_n rfl ?_
      refine B_iconst (0 : Int32) ic_0 ?_
      refine B_chk (fun t4 => ?_)
      refine C_I (vs := [.ref a2, .int (4 : Int32), .int l1, .int (0 : Int32)]) (st := []) (ci_V lv_PF_126 rfl rfl t4) rfl rfl rfl (s_Input_add a2 (4 : Int32) l1 (0 : Int32) M) (fun v6 M5 => ?_)
      refine B_eq (tgt := 29) (by decide) ?_ ?_
      · skip
        refine V_open ok_PF_letter_29 ?_
        refine B_iconst (0 : Int32) ic_0 ?_
        exact Z_ret rfl (Or.inl rfl)
      · skip
        refine B_iconst (1 : Int32) ic_1 ?_
        refine B_goto (tgt := 30) (by decide) ?_
        refine V_open ok_PF_letter_30 ?_
        exact Z_ret rfl (Or.inr rfl)

-- Mo_letter
theorem ok_Mo_letter_0 : okb prog_13_method_11_code 0 [(.aload_n 0, 1), (.iload_n 1, 1), (.bipush 32, 2), (.if_icmp .lt 13, 3), (.iload_n 1, 1), (.bipush 126, 2), (.if_icmp .gt 7, 3), (.iconst 1, 1), (.goto 4, 3)] = true := by decide +kernel
theorem ok_Mo_letter_17 : okb prog_13_method_11_code 17 [(.iconst 0, 1)] = true := by decide +kernel
theorem ok_Mo_letter_18 : okb prog_13_method_11_code 18 [(.iconst 4, 1), (.iload_n 1, 1), (.iconst 0, 1), (.invokevirtual 188, 3), (.ireturn, 1)] = true := by decide +kernel
set_option maxRecDepth 100000 in
def b_Mo_letter_18 (G : GT) (l1 : Int32) (s0 : Nat) (s1 : Int32) (M : PH) : Option (Int32 × PH) :=
  if hT M s0 = 11 then bI (f_Mo_event G s0 s1 (4 : Int32) l1 (0 : Int32) M) fun v3 M2 => (if v3 = 0 ∨ v3 = 1 then some (v3, M2) else none) else none
set_option maxRecDepth 100000 in
set_option maxHeartbeats 4000000 in
theorem t_Mo_letter_18 {G : GT} (l1 : Int32) (s0 : Nat) (s1 : Int32) (M : PH) : VX G mi_Mo_letter 1 16 18 [none, some (.int l1)] [.int s1, .ref s0] M qI (b_Mo_letter_18 G l1 s0 s1 M) := by
  unfold b_Mo_letter_18
  refine V_open ok_Mo_letter_18 ?_
  refine B_iconst (4 : Int32) ic_4 ?_
  refine B_iload_n rfl ?_
  refine B_iconst (0 : Int32) ic_0 ?_
  refine B_chk (fun t1 => ?_)
  refine C_I (vs := [.ref s0, .int s1, .int (4 : Int32), .int l1, .int (0 : Int32)]) (st := []) (ci_V lv_Mo_188 rfl rfl t1) rfl rfl rfl (s_Mo_event s0 s1 (4 : Int32) l1 (0 : Int32) M) (fun v3 M2 => ?_)
  refine B_chk (fun z4 => ?_)
  exact Z_ret rfl z4
set_option maxRecDepth 100000 in
def b_Mo_letter_17 (G : GT) (l1 : Int32) (s0 : Nat) (M : PH) : Option (Int32 × PH) :=
  b_Mo_letter_18 G l1 s0 (0 : Int32) M
set_option maxRecDepth 100000 in
set_option maxHeartbeats 4000000 in
theorem t_Mo_letter_17 {G : GT} (l1 : Int32) (s0 : Nat) (M : PH) : VX G mi_Mo_letter 1 16 17 [none, some (.int l1)] [.ref s0] M qI (b_Mo_letter_17 G l1 s0 M) := by
  unfold b_Mo_letter_17
  refine V_open ok_Mo_letter_17 ?_
  refine B_iconst (0 : Int32) ic_0 ?_
  refine V_close ?_
  exact V_weak (ls' := [none, some (.int l1)]) ⟨rfl, trivial⟩ (t_Mo_letter_18 l1 s0 (0 : Int32) M)
set_option maxRecDepth 100000 in
def f_Mo_letter (G : GT) (l0 : Nat) (l1 : Int32) (M : PH) : Option (Int32 × PH) :=
  if l1 < (32 : Int32) then (b_Mo_letter_17 G l1 l0 M) else (if (126 : Int32) < l1 then (b_Mo_letter_17 G l1 l0 M) else (b_Mo_letter_18 G l1 l0 (1 : Int32) M))
set_option maxRecDepth 100000 in
set_option maxHeartbeats 4000000 in
theorem s_Mo_letter {G : GT} (l0 : Nat) (l1 : Int32) (M : PH) : VX G mi_Mo_letter 1 16 0 [some (.ref l0), some (.int l1)] [] M qI (f_Mo_letter G l0 l1 M) := by
  unfold f_Mo_letter
  refine V_open ok_Mo_letter_0 ?_
  refine B_aload_n rfl ?_
  refine B_iload_n rfl ?_
  refine B_bipush (32 : Int32) bp_32 ?_
  refine B_ilt (tgt := 17) (by decide) ?_ ?_
  · skip
    exact V_weak (ls' := [none, some (.int l1)]) ⟨rfl, trivial⟩ (t_Mo_letter_17 l1 l0 M)
  · skip
    refine B_iload_n rfl ?_
    refine B_bipush (126 : Int32) bp_126 ?_
    refine B_igt (tgt := 17) (by decide) ?_ ?_
    · skip
      exact V_weak (ls' := [none, some (.int l1)]) ⟨rfl, trivial⟩ (t_Mo_letter_17 l1 l0 M)
    · skip
      refine B_iconst (1 : Int32) ic_1 ?_
      refine B_goto (tgt := 18) (by decide) ?_
      exact V_weak (ls' := [none, some (.int l1)]) ⟨rfl, trivial⟩ (t_Mo_letter_18 l1 l0 (1 : Int32) M)
