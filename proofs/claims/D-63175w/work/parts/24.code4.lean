-- PF_holdTitle
theorem ok_PF_holdTitle_0 : okb prog_1_method_24_code 0 [(.aload_n 0, 1), (.getfield 26, 3), (.aload_n 1, 1), (.invokevirtual 277, 3), (.invokevirtual 279, 3), (.aload_n 0, 1), (.getfield 76, 3), (.aload_n 1, 1), (.getfield 182, 3), (.getfield 191, 3), (.aload_n 1, 1), (.getfield 182, 3), (.getfield 194, 3), (.aload_n 1, 1), (.getfield 182, 3), (.getfield 191, 3), (.iload_n 2, 1), (.iadd, 1), (.aload_n 1, 1), (.getfield 182, 3), (.getfield 194, 3), (.bipush 12, 2), (.iadd, 1), (.invokevirtual 97, 3), (.aload_n 0, 1), (.getfield 46, 3), (.aload_n 1, 1), (.getfield 281, 3), (.if_icmp .ne 31, 3), (.aload_n 0, 1), (.getfield 76, 3), (.aload_n 0, 1), (.getfield 10, 3), (.getfield 141, 3), (.aload_n 0, 1), (.getfield 10, 3), (.getfield 147, 3), (.invokevirtual 162, 3), (.ifCond .eq 7, 3), (.iconst 1, 1), (.goto 4, 3)] = true := by decide +kernel
theorem ok_PF_holdTitle_90 : okb prog_1_method_24_code 90 [(.iconst 0, 1)] = true := by decide +kernel
theorem ok_PF_holdTitle_91 : okb prog_1_method_24_code 91 [(.istore_n 3, 1), (.iload_n 3, 1), (.ifCond .eq 34, 3), (.aload_n 0, 1), (.getfield 10, 3), (.getfield 138, 3), (.ifCond .eq 24, 3), (.aload_n 0, 1), (.getfield 26, 3), (.getfield 185, 3), (.ifCond .ne 14, 3), (.aload_n 0, 1), (.getfield 26, 3), (.aload_n 1, 1), (.invokevirtual 277, 3), (.invokevirtual 282, 3)] = true := by decide +kernel
theorem ok_PF_holdTitle_127 : okb prog_1_method_24_code 127 [(.aload_n 0, 1), (.getfield 26, 3), (.getfield 185, 3), (.aload_n 1, 1), (.invokevirtual 277, 3), (.if_icmp .ne 13, 3), (.aload_n 0, 1), (.getfield 10, 3), (.getfield 285, 3), (.ifCond .ne 4, 3), (.return_, 1)] = true := by decide +kernel
theorem ok_PF_holdTitle_151 : okb prog_1_method_24_code 151 [(.return_, 1)] = true := by decide +kernel
theorem ok_PF_holdTitle_152 : okb prog_1_method_24_code 152 [(.aload_n 0, 1), (.getfield 26, 3), (.iconst 0, 1), (.putfield 185, 3), (.aload_n 0, 1), (.getfield 10, 3), (.getfield 141, 3), (.aload_n 0, 1), (.getfield 144, 3), (.if_icmp .ne 33, 3), (.aload_n 0, 1), (.getfield 10, 3), (.getfield 147, 3), (.aload_n 0, 1), (.getfield 150, 3), (.if_icmp .ne 19, 3), (.aload_n 1, 1), (.aload_n 1, 1), (.getfield 274, 3), (.ifCond .ne 7, 3), (.iconst 1, 1), (.goto 4, 3)] = true := by decide +kernel
theorem ok_PF_holdTitle_200 : okb prog_1_method_24_code 200 [(.iconst 0, 1), (.putfield 274, 3), (.return_, 1)] = true := by decide +kernel
theorem ok_PF_holdTitle_201 : okb prog_1_method_24_code 201 [(.putfield 274, 3), (.return_, 1)] = true := by decide +kernel
theorem ok_PF_holdTitle_204 : okb prog_1_method_24_code 204 [(.return_, 1)] = true := by decide +kernel
set_option maxRecDepth 100000 in
def b_PF_holdTitle_127 (G : GT) (l0 : Nat) (l1 : Nat) (M : PH) : Option (PH) :=
  if hT M l0 = 10 then (hR M 2002 l0).bind fun a2 => if hT M a2 = 9 then if hT M l1 = 7 then bI (f_Panel_id G l1 M) fun v7 M6 => (if ¬ hI M 1800 a2 = v7 then (some M6) else (if hT M6 l0 = 10 then (hR M6 2000 l0).bind fun a9 => if hT M6 a9 = 2 then if ¬ hI M6 411 a9 = 0 then ((hR M6 2002 l0).bind fun a12 => if hT M6 a12 = 9 then hb (sI M6 1800 a12 (0 : Int32)) fun M16 => if ¬ hI M16 405 a9 = hI M16 2009 l0 then (some M16) else (if ¬ hI M16 406 a9 = hI M16 2010 l0 then (some M16) else (if hT M16 l1 = 7 then if ¬ hI M16 1408 l1 = 0 then (hb (sI M16 1408 l1 (0 : Int32)) fun M22 => some M22) else (hb (sI M16 1408 l1 (1 : Int32)) fun M24 => some M24) else none)) else none) else (some M6) else none else none)) else none else none else none
set_option maxRecDepth 100000 in
set_option maxHeartbeats 4000000 in
theorem t_PF_holdTitle_127 {G : GT} (l0 : Nat) (l1 : Nat) (M : PH) : VX G mi_PF_holdTitle 1 16 127 [some (.ref l0), some (.ref l1), none, none] [] M qV (b_PF_holdTitle_127 G l0 l1 M) := by
  unfold b_PF_holdTitle_127
  refine V_open ok_PF_holdTitle_127 ?_
  refine B_aload_n rfl ?_
  refine B_chk (fun t1 => ?_)
  refine K_getR 10 2 2002 lf_PF_26 rfl rfl t1 (fun a2 r3 => ?_)
  refine B_chk (fun t4 => ?_)
  refine K_getI 9 0 1800 lf_PF_185 rfl rfl t4 ?_
  refine B_aload_n rfl ?_
  refine B_chk (fun t5 => ?_)
  refine C_I (vs := [.ref l1]) (st := [.int (hI M 1800 a2)]) (ci_V lv_PF_277 rfl rfl t5) rfl rfl rfl (s_Panel_id l1 M) (fun v7 M6 => ?_)
  refine B_ine (tgt := 151) (by decide) ?_ ?_
  · skip
    refine V_open ok_PF_holdTitle_151 ?_
    exact B_vret rfl
  · skip
    refine B_aload_n rfl ?_
    refine B_chk (fun t8 => ?_)
    refine K_getR 10 0 2000 lf_PF_10 rfl rfl t8 (fun a9 r10 => ?_)
    refine B_chk (fun t11 => ?_)
    refine K_getI 2 11 411 lf_PF_285 rfl rfl t11 ?_
    refine B_ne (tgt := 152) (by decide) ?_ ?_
    · skip
      refine V_open ok_PF_holdTitle_152 ?_
      refine B_aload_n rfl ?_
      refine K_getR 10 2 2002 lf_PF_26 rfl rfl t8 (fun a12 r13 => ?_)
      refine B_iconst (0 : Int32) ic_0 ?_
      refine B_chk (fun t14 => ?_)
      refine K_putI 9 0 1800 lf_PF_185 rfl (Or.inl rfl) rfl t14 (fun M16 e15 => ?_)
      refine B_aload_n rfl ?_
      have h17 : hT M16 l0 = 10 := by rw [e15]; exact t8
      have h18 : hR M16 2000 l0 = some a9 := by rw [e15]; exact r10
      refine K_getRk 10 0 2000 lf_PF_10 rfl rfl h17 h18 ?_
      have h19 : hT M16 a9 = 2 := by rw [e15]; exact t11
      refine K_getI 2 5 405 lf_PF_141 rfl rfl h19 ?_
      refine B_aload_n rfl ?_
      refine K_getI 10 9 2009 lf_PF_144 rfl rfl h17 ?_
      refine B_ine (tgt := 204) (by decide) ?_ ?_
      · skip
        refine V_open ok_PF_holdTitle_204 ?_
        exact B_vret rfl
      · skip
        refine B_aload_n rfl ?_
        refine K_getRk 10 0 2000 lf_PF_10 rfl rfl h17 h18 ?_
        refine K_getI 2 6 406 lf_PF_147 rfl rfl h19 ?_
        refine B_aload_n rfl ?_
        refine K_getI 10 10 2010 lf_PF_150 rfl rfl h17 ?_
        refine B_ine (tgt := 204) (by decide) ?_ ?_
        · skip
          refine V_open ok_PF_holdTitle_204 ?_
          exact B_vret rfl
        · skip
          refine B_aload_n rfl ?_
          refine B_aload_n rfl ?_
          refine B_chk (fun t20 => ?_)
          refine K_getI 7 8 1408 lf_PF_274 rfl rfl t20 ?_
          refine B_ne (tgt := 200) (by decide) ?_ ?_
          · skip
            refine V_open ok_PF_holdTitle_200 ?_
            refine B_iconst (0 : Int32) ic_0 ?_
            refine K_putZ 7 8 1408 lf_PF_274 rfl (Or.inl rfl) rfl t20 (Or.inl rfl) (fun M22 e21 => ?_)
            exact B_vret rfl
          · skip
            refine B_iconst (1 : Int32) ic_1 ?_
            refine B_goto (tgt := 201) (by decide) ?_
            refine V_open ok_PF_holdTitle_201 ?_
            refine K_putZ 7 8 1408 lf_PF_274 rfl (Or.inl rfl) rfl t20 (Or.inr rfl) (fun M24 e23 => ?_)
            exact B_vret rfl
    · skip
      exact B_vret rfl
set_option maxRecDepth 100000 in
def b_PF_holdTitle_91 (G : GT) (l0 : Nat) (l1 : Nat) (s0 : Int32) (M : PH) : Option (PH) :=
  if s0 = 0 then (b_PF_holdTitle_127 G l0 l1 M) else (if hT M l0 = 10 then (hR M 2000 l0).bind fun a2 => if hT M a2 = 2 then if hI M 410 a2 = 0 then (b_PF_holdTitle_127 G l0 l1 M) else ((hR M 2002 l0).bind fun a5 => if hT M a5 = 9 then if ¬ hI M 1800 a5 = 0 then (b_PF_holdTitle_127 G l0 l1 M) else (if hT M l1 = 7 then bI (f_Panel_id G l1 M) fun v10 M9 => (if hT M9 a5 = 9 then bV (f_Att_activate G a5 v10 M9) fun M12 => (b_PF_holdTitle_127 G l0 l1 M12) else none) else none) else none) else none else none)
set_option maxRecDepth 100000 in
set_option maxHeartbeats 4000000 in
theorem t_PF_holdTitle_91 {G : GT} (l0 : Nat) (l1 : Nat) (s0 : Int32) (M : PH) : VX G mi_PF_holdTitle 1 16 91 [some (.ref l0), some (.ref l1), none, none] [.int s0] M qV (b_PF_holdTitle_91 G l0 l1 s0 M) := by
  unfold b_PF_holdTitle_91
  refine V_open ok_PF_holdTitle_91 ?_
  refine S_in [some (.ref l0), some (.ref l1), none, some (.int s0)] (by decide) rfl ?_
  refine B_iload_n rfl ?_
  refine B_eq (tgt := 127) (by decide) ?_ ?_
  · skip
    exact V_weak (ls' := [some (.ref l0), some (.ref l1), none, none]) ⟨rfl, ⟨rfl, trivial⟩⟩ (t_PF_holdTitle_127 l0 l1 M)
  · skip
    refine B_aload_n rfl ?_
    refine B_chk (fun t1 => ?_)
    refine K_getR 10 0 2000 lf_PF_10 rfl rfl t1 (fun a2 r3 => ?_)
    refine B_chk (fun t4 => ?_)
    refine K_getI 2 10 410 lf_PF_138 rfl rfl t4 ?_
    refine B_eq (tgt := 127) (by decide) ?_ ?_
    · skip
      exact V_weak (ls' := [some (.ref l0), some (.ref l1), none, none]) ⟨rfl, ⟨rfl, trivial⟩⟩ (t_PF_holdTitle_127 l0 l1 M)
    · skip
      refine B_aload_n rfl ?_
      refine K_getR 10 2 2002 lf_PF_26 rfl rfl t1 (fun a5 r6 => ?_)
      refine B_chk (fun t7 => ?_)
      refine K_getI 9 0 1800 lf_PF_185 rfl rfl t7 ?_
      refine B_ne (tgt := 127) (by decide) ?_ ?_
      · skip
        exact V_weak (ls' := [some (.ref l0), some (.ref l1), none, none]) ⟨rfl, ⟨rfl, trivial⟩⟩ (t_PF_holdTitle_127 l0 l1 M)
      · skip
        refine B_aload_n rfl ?_
        refine K_getRk 10 2 2002 lf_PF_26 rfl rfl t1 r6 ?_
        refine B_aload_n rfl ?_
        refine B_chk (fun t8 => ?_)
        refine C_I (vs := [.ref l1]) (st := [.ref a5]) (ci_V lv_PF_277 rfl rfl t8) rfl rfl rfl (s_Panel_id l1 M) (fun v10 M9 => ?_)
        refine B_chk (fun t11 => ?_)
        refine C_V (vs := [.ref a5, .int v10]) (st := []) (ci_V lv_PF_282 rfl rfl t11) rfl rfl rfl (s_Att_activate a5 v10 M9) (fun M12 => ?_)
        refine V_close ?_
        exact V_weak (ls' := [some (.ref l0), some (.ref l1), none, none]) ⟨rfl, ⟨rfl, trivial⟩⟩ (t_PF_holdTitle_127 l0 l1 M12)
set_option maxRecDepth 100000 in
def b_PF_holdTitle_90 (G : GT) (l0 : Nat) (l1 : Nat) (M : PH) : Option (PH) :=
  b_PF_holdTitle_91 G l0 l1 (0 : Int32) M
set_option maxRecDepth 100000 in
set_option maxHeartbeats 4000000 in
theorem t_PF_holdTitle_90 {G : GT} (l0 : Nat) (l1 : Nat) (M : PH) : VX G mi_PF_holdTitle 1 16 90 [some (.ref l0), some (.ref l1), none, none] [] M qV (b_PF_holdTitle_90 G l0 l1 M) := by
  unfold b_PF_holdTitle_90
  refine V_open ok_PF_holdTitle_90 ?_
  refine B_iconst (0 : Int32) ic_0 ?_
  refine V_close ?_
  exact V_weak (ls' := [some (.ref l0), some (.ref l1), none, none]) ⟨rfl, ⟨rfl, trivial⟩⟩ (t_PF_holdTitle_91 l0 l1 (0 : Int32) M)
set_option maxRecDepth 100000 in
def f_PF_holdTitle (G : GT) (l0 : Nat) (l1 : Nat) (l2 : Int32) (M : PH) : Option (PH) :=
  if hT M l0 = 10 then (hR M 2002 l0).bind fun a2 => if hT M l1 = 7 then bI (f_Panel_id G l1 M) fun v6 M5 => (if hT M5 a2 = 9 then bV (f_Att_tell G a2 v6 M5) fun M8 => (if hT M8 l0 = 10 then (hR M8 2021 l0).bind fun a10 => if hT M8 l1 = 7 then (hR M8 1401 l1).bind fun a13 => if hT M8 a13 = 1 then if hT M8 a10 = 1 then bV (f_Rect_be G a10 (hI M8 200 a13) (hI M8 201 a13) ((hI M8 200 a13) + l2) ((hI M8 201 a13) + (12 : Int32)) M8) fun M17 => (if hT M17 l0 = 10 then if hT M17 l1 = 7 then if ¬ hI M17 2008 l0 = hI M17 1400 l1 then (b_PF_holdTitle_90 G l0 l1 M17) else ((hR M17 2021 l0).bind fun a20 => (hR M17 2000 l0).bind fun a22 => if hT M17 a22 = 2 then if hT M17 a20 = 1 then bI (f_Rect_has G a20 (hI M17 405 a22) (hI M17 406 a22) M17) fun v27 M26 => (if v27 = 0 then (b_PF_holdTitle_90 G l0 l1 M26) else (b_PF_holdTitle_91 G l0 l1 (1 : Int32) M26)) else none else none) else none else none) else none else none else none else none) else none) else none else none
set_option maxRecDepth 100000 in
set_option maxHeartbeats 4000000 in
theorem s_PF_holdTitle {G : GT} (l0 : Nat) (l1 : Nat) (l2 : Int32) (M : PH) : VX G mi_PF_holdTitle 1 16 0 [some (.ref l0), some (.ref l1), some (.int l2), none] [] M qV (f_PF_holdTitle G l0 l1 l2 M) := by
  unfold f_PF_holdTitle
  refine V_open ok_PF_holdTitle_0 ?_
  refine B_aload_n rfl ?_
  refine B_chk (fun t1 => ?_)
  refine K_getR 10 2 2002 lf_PF_26 rfl rfl t1 (fun a2 r3 => ?_)
  refine B_aload_n rfl ?_
  refine B_chk (fun t4 => ?_)
  refine C_I (vs := [.ref l1]) (st := [.ref a2]) (ci_V lv_PF_277 rfl rfl t4) rfl rfl rfl (s_Panel_id l1 M) (fun v6 M5 => ?_)
  refine B_chk (fun t7 => ?_)
  refine C_V (vs := [.ref a2, .int v6]) (st := []) (ci_V lv_PF_279 rfl rfl t7) rfl rfl rfl (s_Att_tell a2 v6 M5) (fun M8 => ?_)
  refine B_aload_n rfl ?_
  refine B_chk (fun t9 => ?_)
  refine K_getR 10 21 2021 lf_PF_76 rfl rfl t9 (fun a10 r11 => ?_)
  refine B_aload_n rfl ?_
  refine B_chk (fun t12 => ?_)
  refine K_getR 7 1 1401 lf_PF_182 rfl rfl t12 (fun a13 r14 => ?_)
  refine B_chk (fun t15 => ?_)
  refine K_getI 1 0 200 lf_PF_191 rfl rfl t15 ?_
  refine B_aload_n rfl ?_
  refine K_getRk 7 1 1401 lf_PF_182 rfl rfl t12 r14 ?_
  refine K_getI 1 1 201 lf_PF_194 rfl rfl t15 ?_
  refine B_aload_n rfl ?_
  refine K_getRk 7 1 1401 lf_PF_182 rfl rfl t12 r14 ?_
  refine K_getI 1 0 200 lf_PF_191 rfl rfl t15 ?_
  refine B_iload_n rfl ?_
  refine B_iadd ?_
  refine B_aload_n rfl ?_
  refine K_getRk 7 1 1401 lf_PF_182 rfl rfl t12 r14 ?_
  refine K_getI 1 1 201 lf_PF_194 rfl rfl t15 ?_
  refine B_bipush (12 : Int32) bp_12 ?_
  refine B_iadd ?_
  refine B_chk (fun t16 => ?_)
  refine C_V (vs := [.ref a10, .int (hI M8 200 a13), .int (hI M8 201 a13), .int ((hI M8 200 a13) + l2), .int ((hI M8 201 a13) + (12 : Int32))]) (st := []) (ci_V lv_PF_97 rfl rfl t16) rfl rfl rfl (s_Rect_be a10 (hI M8 200 a13) (hI M8 201 a13) ((hI M8 200 a13) + l2) ((hI M8 201 a13) + (12 : Int32)) M8) (fun M17 => ?_)
  refine B_aload_n rfl ?_
  refine B_chk (fun t18 => ?_)
  refine K_getI 10 8 2008 lf_PF_46 rfl rfl t18 ?_
  refine B_aload_n rfl ?_
  refine B_chk (fun t19 => ?_)
  refine K_getI 7 0 1400 lf_PF_281 rfl rfl t19 ?_
  refine B_ine (tgt := 90) (by decide) ?_ ?_
  · skip
    exact V_weak (ls' := [some (.ref l0), some (.ref l1), none, none]) ⟨rfl, ⟨rfl, trivial⟩⟩ (t_PF_holdTitle_90 l0 l1 M17)
  · skip
    refine B_aload_n rfl ?_
    refine K_getR 10 21 2021 lf_PF_76 rfl rfl t18 (fun a20 r21 => ?_)
    refine B_aload_n rfl ?_
    refine K_getR 10 0 2000 lf_PF_10 rfl rfl t18 (fun a22 r23 => ?_)
    refine B_chk (fun t24 => ?_)
    refine K_getI 2 5 405 lf_PF_141 rfl rfl t24 ?_
    refine B_aload_n rfl ?_
    refine K_getRk 10 0 2000 lf_PF_10 rfl rfl t18 r23 ?_
    refine K_getI 2 6 406 lf_PF_147 rfl rfl t24 ?_
    refine B_chk (fun t25 => ?_)
    refine C_I (vs := [.ref a20, .int (hI M17 405 a22), .int (hI M17 406 a22)]) (st := []) (ci_V lv_PF_162 rfl rfl t25) rfl rfl rfl (s_Rect_has a20 (hI M17 405 a22) (hI M17 406 a22) M17) (fun v27 M26 => ?_)
    refine B_eq (tgt := 90) (by decide) ?_ ?_
    · skip
      exact V_weak (ls' := [some (.ref l0), some (.ref l1), none, none]) ⟨rfl, ⟨rfl, trivial⟩⟩ (t_PF_holdTitle_90 l0 l1 M26)
    · skip
      refine B_iconst (1 : Int32) ic_1 ?_
      refine B_goto (tgt := 91) (by decide) ?_
      exact V_weak (ls' := [some (.ref l0), some (.ref l1), none, none]) ⟨rfl, ⟨rfl, trivial⟩⟩ (t_PF_holdTitle_91 l0 l1 (1 : Int32) M26)

-- Panel_shownHeight
theorem ok_Panel_shownHeight_0 : okb prog_7_method_3_code 0 [(.aload_n 0, 1), (.getfield 36, 3), (.ifCond .eq 8, 3), (.bipush 12, 2), (.goto 7, 3)] = true := by decide +kernel
theorem ok_Panel_shownHeight_12 : okb prog_7_method_3_code 12 [(.aload_n 0, 1), (.getfield 40, 3), (.ireturn, 1)] = true := by decide +kernel
theorem ok_Panel_shownHeight_16 : okb prog_7_method_3_code 16 [(.ireturn, 1)] = true := by decide +kernel
set_option maxRecDepth 100000 in
def f_Panel_shownHeight (G : GT) (l0 : Nat) (M : PH) : Option (Int32 × PH) :=
  if hT M l0 = 7 then if hI M 1408 l0 = 0 then (some (hI M 1405 l0, M)) else (some ((12 : Int32), M)) else none
set_option maxRecDepth 100000 in
set_option maxHeartbeats 4000000 in
theorem s_Panel_shownHeight {G : GT} (l0 : Nat) (M : PH) : VX G mi_Panel_shownHeight 0 0 0 [some (.ref l0)] [] M qI (f_Panel_shownHeight G l0 M) := by
  unfold f_Panel_shownHeight
  refine V_open ok_Panel_shownHeight_0 ?_
  refine B_aload_n rfl ?_
  refine B_chk (fun t1 => ?_)
  refine K_getI 7 8 1408 lf_Panel_36 rfl rfl t1 ?_
  refine B_eq (tgt := 12) (by decide) ?_ ?_
  · skip
    refine V_open ok_Panel_shownHeight_12 ?_
    refine B_aload_n rfl ?_
    refine K_getI 7 5 1405 lf_Panel_40 rfl rfl t1 ?_
    exact B_iret rfl
  · skip
    refine B_bipush (12 : Int32) bp_12 ?_
    refine B_goto (tgt := 16) (by decide) ?_
    refine V_open ok_Panel_shownHeight_16 ?_
    exact B_iret rfl

-- Panel_tell
theorem ok_Panel_tell_0 : okb prog_7_method_4_code 0 [(.aload_n 0, 1), (.iconst 1, 1), (.putfield 43, 3), (.aload_n 0, 1), (.iload_n 1, 1), (.putfield 46, 3), (.aload_n 0, 1), (.iload_n 2, 1), (.putfield 40, 3), (.aload_n 0, 1), (.getfield 12, 3), (.aload_n 0, 1), (.getfield 12, 3), (.getfield 49, 3), (.aload_n 0, 1), (.getfield 12, 3), (.getfield 52, 3), (.aload_n 0, 1), (.getfield 12, 3), (.getfield 49, 3), (.iload_n 1, 1), (.iadd, 1), (.aload_n 0, 1), (.getfield 12, 3), (.getfield 52, 3), (.aload_n 0, 1), (.invokevirtual 55, 3), (.iadd, 1), (.invokevirtual 59, 3), (.return_, 1)] = true := by decide +kernel
set_option maxRecDepth 100000 in
def f_Panel_tell (G : GT) (l0 : Nat) (l1 : Int32) (l2 : Int32) (M : PH) : Option (PH) :=
  if hT M l0 = 7 then hb (sI M 1407 l0 (1 : Int32)) fun M3 => hb (sI M3 1404 l0 l1) fun M6 => hb (sI M6 1405 l0 l2) fun M9 => (hR M9 1401 l0).bind fun a11 => if hT M9 a11 = 1 then bI (f_Panel_shownHeight G l0 M9) fun v15 M14 => (if hT M14 a11 = 1 then bV (f_Rect_be G a11 (hI M9 200 a11) (hI M9 201 a11) ((hI M9 200 a11) + l1) ((hI M9 201 a11) + v15) M14) fun M17 => (some M17) else none) else none else none
set_option maxRecDepth 100000 in
set_option maxHeartbeats 4000000 in
theorem s_Panel_tell {G : GT} (l0 : Nat) (l1 : Int32) (l2 : Int32) (M : PH) : VX G mi_Panel_tell 1 17 0 [some (.ref l0), some (.int l1), some (.int l2)] [] M qV (f_Panel_tell G l0 l1 l2 M) := by
  unfold f_Panel_tell
  refine V_open ok_Panel_tell_0 ?_
  refine B_aload_n rfl ?_
  refine B_iconst (1 : Int32) ic_1 ?_
  refine B_chk (fun t1 => ?_)
  refine K_putZ 7 7 1407 lf_Panel_43 rfl (Or.inl rfl) rfl t1 (Or.inr rfl) (fun M3 e2 => ?_)
  refine B_aload_n rfl ?_
  refine B_iload_n rfl ?_
  have h4 : hT M3 l0 = 7 := by rw [e2]; exact t1
  refine K_putI 7 4 1404 lf_Panel_46 rfl (Or.inl rfl) rfl h4 (fun M6 e5 => ?_)
  refine B_aload_n rfl ?_
  refine B_iload_n rfl ?_
  have h7 : hT M6 l0 = 7 := by rw [e5]; exact h4
  refine K_putI 7 5 1405 lf_Panel_40 rfl (Or.inl rfl) rfl h7 (fun M9 e8 => ?_)
  refine B_aload_n rfl ?_
  have h10 : hT M9 l0 = 7 := by rw [e8]; exact h7
  refine K_getR 7 1 1401 lf_Panel_12 rfl rfl h10 (fun a11 r12 => ?_)
  refine B_aload_n rfl ?_
  refine K_getRk 7 1 1401 lf_Panel_12 rfl rfl h10 r12 ?_
  refine B_chk (fun t13 => ?_)
  refine K_getI 1 0 200 lf_Panel_49 rfl rfl t13 ?_
  refine B_aload_n rfl ?_
  refine K_getRk 7 1 1401 lf_Panel_12 rfl rfl h10 r12 ?_
  refine K_getI 1 1 201 lf_Panel_52 rfl rfl t13 ?_
  refine B_aload_n rfl ?_
  refine K_getRk 7 1 1401 lf_Panel_12 rfl rfl h10 r12 ?_
  refine K_getI 1 0 200 lf_Panel_49 rfl rfl t13 ?_
  refine B_iload_n rfl ?_
  refine B_iadd ?_
  refine B_aload_n rfl ?_
  refine K_getRk 7 1 1401 lf_Panel_12 rfl rfl h10 r12 ?_
  refine K_getI 1 1 201 lf_Panel_52 rfl rfl t13 ?_
  refine B_aload_n rfl ?_
  refine C_I (vs := [.ref l0]) (st := [.int (hI M9 201 a11), .int ((hI M9 200 a11) + l1), .int (hI M9 201 a11), .int (hI M9 200 a11), .ref a11]) (ci_V lv_Panel_55 rfl rfl h10) rfl rfl rfl (s_Panel_shownHeight l0 M9) (fun v15 M14 => ?_)
  refine B_iadd ?_
  refine B_chk (fun t16 => ?_)
  refine C_V (vs := [.ref a11, .int (hI M9 200 a11), .int (hI M9 201 a11), .int ((hI M9 200 a11) + l1), .int ((hI M9 201 a11) + v15)]) (st := []) (ci_V lv_Panel_59 rfl rfl t16) rfl rfl rfl (s_Rect_be a11 (hI M9 200 a11) (hI M9 201 a11) ((hI M9 200 a11) + l1) ((hI M9 201 a11) + v15) M14) (fun M17 => ?_)
  exact B_vret rfl

-- Scroll_to
theorem ok_Scroll_to_0 : okb prog_10_method_2_code 0 [(.aload_n 0, 1), (.iconst 0, 1), (.iload_n 1, 1), (.aload_n 0, 1), (.getfield 7, 3), (.iload_n 2, 1), (.isub, 1), (.invokestatic 13, 3), (.invokestatic 19, 3), (.putfield 22, 3), (.return_, 1)] = true := by decide +kernel
set_option maxRecDepth 100000 in
def f_Scroll_to (G : GT) (l0 : Nat) (l1 : Int32) (l2 : Int32) (M : PH) : Option (PH) :=
  if hT M l0 = 6 then hb (sI M 1200 l0 (jmax (0 : Int32) (jmin l1 ((hI M 1201 l0) - l2)))) fun M3 => some M3 else none
set_option maxRecDepth 100000 in
set_option maxHeartbeats 4000000 in
theorem s_Scroll_to {G : GT} (l0 : Nat) (l1 : Int32) (l2 : Int32) (M : PH) : VX G mi_Scroll_to 1 15 0 [some (.ref l0), some (.int l1), some (.int l2)] [] M qV (f_Scroll_to G l0 l1 l2 M) := by
  unfold f_Scroll_to
  refine V_open ok_Scroll_to_0 ?_
  refine B_aload_n rfl ?_
  refine B_iconst (0 : Int32) ic_0 ?_
  refine B_iload_n rfl ?_
  refine B_aload_n rfl ?_
  refine B_chk (fun t1 => ?_)
  refine K_getI 6 1 1201 lf_Scroll_7 rfl rfl t1 ?_
  refine B_iload_n rfl ?_
  refine B_isub ?_
  refine B_min lj_Scroll_13 rfl ?_
  refine B_max lj_Scroll_19 rfl ?_
  refine K_putI 6 0 1200 lf_Scroll_22 rfl (Or.inl rfl) rfl t1 (fun M3 e2 => ?_)
  exact B_vret rfl

-- Rect_be2
theorem ok_Rect_be2_0 : okb prog_8_method_3_code 0 [(.aload_n 0, 1), (.aload_n 1, 1), (.getfield 7, 3), (.aload_n 1, 1), (.getfield 13, 3), (.aload_n 1, 1), (.getfield 16, 3), (.aload_n 1, 1), (.getfield 19, 3), (.invokevirtual 22, 3), (.return_, 1)] = true := by decide +kernel
set_option maxRecDepth 100000 in
def f_Rect_be2 (G : GT) (l0 : Nat) (l1 : Nat) (M : PH) : Option (PH) :=
  if hT M l1 = 1 then if hT M l0 = 1 then bV (f_Rect_be G l0 (hI M 200 l1) (hI M 201 l1) (hI M 202 l1) (hI M 203 l1) M) fun M3 => (some M3) else none else none
set_option maxRecDepth 100000 in
set_option maxHeartbeats 4000000 in
theorem s_Rect_be2 {G : GT} (l0 : Nat) (l1 : Nat) (M : PH) : VX G mi_Rect_be2 1 16 0 [some (.ref l0), some (.ref l1)] [] M qV (f_Rect_be2 G l0 l1 M) := by
  unfold f_Rect_be2
  refine V_open ok_Rect_be2_0 ?_
  refine B_aload_n rfl ?_
  refine B_aload_n rfl ?_
  refine B_chk (fun t1 => ?_)
  refine K_getI 1 0 200 lf_Rect_7 rfl rfl t1 ?_
  refine B_aload_n rfl ?_
  refine K_getI 1 1 201 lf_Rect_13 rfl rfl t1 ?_
  refine B_aload_n rfl ?_
  refine K_getI 1 2 202 lf_Rect_16 rfl rfl t1 ?_
  refine B_aload_n rfl ?_
  refine K_getI 1 3 203 lf_Rect_19 rfl rfl t1 ?_
  refine B_chk (fun t2 => ?_)
  refine C_V (vs := [.ref l0, .int (hI M 200 l1), .int (hI M 201 l1), .int (hI M 202 l1), .int (hI M 203 l1)]) (st := []) (ci_V lv_Rect_22 rfl rfl t2) rfl rfl rfl (s_Rect_be l0 (hI M 200 l1) (hI M 201 l1) (hI M 202 l1) (hI M 203 l1) M) (fun M3 => ?_)
  exact B_vret rfl

-- Rect_meet
theorem ok_Rect_meet_0 : okb prog_8_method_4_code 0 [(.aload_n 0, 1), (.aload_n 0, 1), (.getfield 7, 3), (.aload_n 1, 1), (.getfield 7, 3), (.invokestatic 26, 3), (.aload_n 0, 1), (.getfield 13, 3), (.aload_n 1, 1), (.getfield 13, 3), (.invokestatic 26, 3), (.aload_n 0, 1), (.getfield 16, 3), (.aload_n 1, 1), (.getfield 16, 3), (.invokestatic 32, 3), (.aload_n 0, 1), (.getfield 19, 3), (.aload_n 1, 1), (.getfield 19, 3), (.invokestatic 32, 3), (.invokevirtual 22, 3), (.return_, 1)] = true := by decide +kernel
set_option maxRecDepth 100000 in
def f_Rect_meet (G : GT) (l0 : Nat) (l1 : Nat) (M : PH) : Option (PH) :=
  if hT M l0 = 1 then if hT M l1 = 1 then bV (f_Rect_be G l0 (jmax (hI M 200 l0) (hI M 200 l1)) (jmax (hI M 201 l0) (hI M 201 l1)) (jmin (hI M 202 l0) (hI M 202 l1)) (jmin (hI M 203 l0) (hI M 203 l1)) M) fun M3 => (some M3) else none else none
set_option maxRecDepth 100000 in
set_option maxHeartbeats 4000000 in
theorem s_Rect_meet {G : GT} (l0 : Nat) (l1 : Nat) (M : PH) : VX G mi_Rect_meet 1 17 0 [some (.ref l0), some (.ref l1)] [] M qV (f_Rect_meet G l0 l1 M) := by
  unfold f_Rect_meet
  refine V_open ok_Rect_meet_0 ?_
  refine B_aload_n rfl ?_
  refine B_aload_n rfl ?_
  refine B_chk (fun t1 => ?_)
  refine K_getI 1 0 200 lf_Rect_7 rfl rfl t1 ?_
  refine B_aload_n rfl ?_
  refine B_chk (fun t2 => ?_)
  refine K_getI 1 0 200 lf_Rect_7 rfl rfl t2 ?_
  refine B_max lj_Rect_26 rfl ?_
  refine B_aload_n rfl ?_
  refine K_getI 1 1 201 lf_Rect_13 rfl rfl t1 ?_
  refine B_aload_n rfl ?_
  refine K_getI 1 1 201 lf_Rect_13 rfl rfl t2 ?_
  refine B_max lj_Rect_26 rfl ?_
  refine B_aload_n rfl ?_
  refine K_getI 1 2 202 lf_Rect_16 rfl rfl t1 ?_
  refine B_aload_n rfl ?_
  refine K_getI 1 2 202 lf_Rect_16 rfl rfl t2 ?_
  refine B_min lj_Rect_32 rfl ?_
  refine B_aload_n rfl ?_
  refine K_getI 1 3 203 lf_Rect_19 rfl rfl t1 ?_
  refine B_aload_n rfl ?_
  refine K_getI 1 3 203 lf_Rect_19 rfl rfl t2 ?_
  refine B_min lj_Rect_32 rfl ?_
  refine C_V (vs := [.ref l0, .int (jmax (hI M 200 l0) (hI M 200 l1)), .int (jmax (hI M 201 l0) (hI M 201 l1)), .int (jmin (hI M 202 l0) (hI M 202 l1)), .int (jmin (hI M 203 l0) (hI M 203 l1))]) (st := []) (ci_V lv_Rect_22 rfl rfl t1) rfl rfl rfl (s_Rect_be l0 (jmax (hI M 200 l0) (hI M 200 l1)) (jmax (hI M 201 l0) (hI M 201 l1)) (jmin (hI M 202 l0) (hI M 202 l1)) (jmin (hI M 203 l0) (hI M 203 l1)) M) (fun M3 => ?_)
  exact B_vret rfl

-- Rect_meets
theorem ok_Rect_meets_0 : okb prog_8_method_7_code 0 [(.aload_n 0, 1), (.getfield 7, 3), (.aload_n 1, 1), (.getfield 7, 3), (.invokestatic 26, 3), (.aload_n 0, 1), (.getfield 16, 3), (.aload_n 1, 1), (.getfield 16, 3), (.invokestatic 32, 3), (.if_icmp .ge 32, 3), (.aload_n 0, 1), (.getfield 13, 3), (.aload_n 1, 1), (.getfield 13, 3), (.invokestatic 26, 3), (.aload_n 0, 1), (.getfield 19, 3), (.aload_n 1, 1), (.getfield 19, 3), (.invokestatic 32, 3), (.if_icmp .ge 7, 3), (.iconst 1, 1), (.goto 4, 3)] = true := by decide +kernel
theorem ok_Rect_meets_54 : okb prog_8_method_7_code 54 [(.iconst 0, 1), (.ireturn, 1)] = true := by decide +kernel
theorem ok_Rect_meets_55 : okb prog_8_method_7_code 55 [(.ireturn, 1)] = true := by decide +kernel
set_option maxRecDepth 100000 in
def f_Rect_meets (G : GT) (l0 : Nat) (l1 : Nat) (M : PH) : Option (Int32 × PH) :=
  if hT M l0 = 1 then if hT M l1 = 1 then if jmin (hI M 202 l0) (hI M 202 l1) ≤ jmax (hI M 200 l0) (hI M 200 l1) then (some ((0 : Int32), M)) else (if jmin (hI M 203 l0) (hI M 203 l1) ≤ jmax (hI M 201 l0) (hI M 201 l1) then (some ((0 : Int32), M)) else (some ((1 : Int32), M))) else none else none
set_option maxRecDepth 100000 in
set_option maxHeartbeats 4000000 in
theorem s_Rect_meets {G : GT} (l0 : Nat) (l1 : Nat) (M : PH) : VX G mi_Rect_meets 1 14 0 [some (.ref l0), some (.ref l1)] [] M qI (f_Rect_meets G l0 l1 M) := by
  unfold f_Rect_meets
  refine V_open ok_Rect_meets_0 ?_
  refine B_aload_n rfl ?_
  refine B_chk (fun t1 => ?_)
  refine K_getI 1 0 200 lf_Rect_7 rfl rfl t1 ?_
  refine B_aload_n rfl ?_
  refine B_chk (fun t2 => ?_)
  refine K_getI 1 0 200 lf_Rect_7 rfl rfl t2 ?_
  refine B_max lj_Rect_26 rfl ?_
  refine B_aload_n rfl ?_
  refine K_getI 1 2 202 lf_Rect_16 rfl rfl t1 ?_
  refine B_aload_n rfl ?_
  refine K_getI 1 2 202 lf_Rect_16 rfl rfl t2 ?_
  refine B_min lj_Rect_32 rfl ?_
  refine B_ige (tgt := 54) (by decide) ?_ ?_
  · skip
    refine V_open ok_Rect_meets_54 ?_
    refine B_iconst (0 : Int32) ic_0 ?_
    exact Z_ret rfl (Or.inl rfl)
  · skip
    refine B_aload_n rfl ?_
    refine K_getI 1 1 201 lf_Rect_13 rfl rfl t1 ?_
    refine B_aload_n rfl ?_
    refine K_getI 1 1 201 lf_Rect_13 rfl rfl t2 ?_
    refine B_max lj_Rect_26 rfl ?_
    refine B_aload_n rfl ?_
    refine K_getI 1 3 203 lf_Rect_19 rfl rfl t1 ?_
    refine B_aload_n rfl ?_
    refine K_getI 1 3 203 lf_Rect_19 rfl rfl t2 ?_
    refine B_min lj_Rect_32 rfl ?_
    refine B_ige (tgt := 54) (by decide) ?_ ?_
    · skip
      refine V_open ok_Rect_meets_54 ?_
      refine B_iconst (0 : Int32) ic_0 ?_
      exact Z_ret rfl (Or.inl rfl)
    · skip
      refine B_iconst (1 : Int32) ic_1 ?_
      refine B_goto (tgt := 55) (by decide) ?_
      refine V_open ok_Rect_meets_55 ?_
      exact Z_ret rfl (Or.inr rfl)

-- DrawList_command
theorem ok_DrawList_command_0 : okb prog_3_method_5_code 0 [(.aload_n 0, 1), (.getfield 10, 3), (.aload_n 1, 1), (.getfield 30, 3), (.invokevirtual 26, 3), (.aload_n 0, 1), (.getfield 10, 3), (.aload_n 1, 1), (.getfield 35, 3), (.invokevirtual 26, 3), (.aload_n 0, 1), (.getfield 10, 3), (.aload_n 1, 1), (.getfield 38, 3), (.invokevirtual 26, 3), (.aload_n 0, 1), (.getfield 10, 3), (.aload_n 1, 1), (.getfield 41, 3), (.invokevirtual 26, 3), (.aload_n 0, 1), (.getfield 10, 3), (.iload_n 2, 1), (.invokevirtual 26, 3), (.aload_n 0, 1), (.getfield 10, 3), (.iload_n 3, 1), (.invokevirtual 26, 3), (.aload_n 0, 1), (.getfield 10, 3), (.aload_n 0, 1), (.getfield 16, 3), (.getfield 22, 3), (.invokevirtual 26, 3), (.aload_n 0, 1), (.getfield 10, 3), (.iconst 0, 1), (.invokevirtual 26, 3), (.return_, 1)] = true := by decide +kernel
set_option maxRecDepth 100000 in
def f_DrawList_command (G : GT) (l0 : Nat) (l1 : Nat) (l2 : Int32) (l3 : Int32) (M : PH) : Option (PH) :=
  if hT M l0 = 4 then (hR M 800 l0).bind fun a2 => if hT M l1 = 1 then if hT M a2 = 0 then bV (f_Row_add G a2 (hI M 200 l1) M) fun M6 => (if hT M6 l0 = 4 then (hR M6 800 l0).bind fun a8 => if hT M6 l1 = 1 then if hT M6 a8 = 0 then bV (f_Row_add G a8 (hI M6 201 l1) M6) fun M12 => (if hT M12 l0 = 4 then (hR M12 800 l0).bind fun a14 => if hT M12 l1 = 1 then if hT M12 a14 = 0 then bV (f_Row_add G a14 (hI M12 202 l1) M12) fun M18 => (if hT M18 l0 = 4 then (hR M18 800 l0).bind fun a20 => if hT M18 l1 = 1 then if hT M18 a20 = 0 then bV (f_Row_add G a20 (hI M18 203 l1) M18) fun M24 => (if hT M24 l0 = 4 then (hR M24 800 l0).bind fun a26 => if hT M24 a26 = 0 then bV (f_Row_add G a26 l2 M24) fun M29 => (if hT M29 l0 = 4 then (hR M29 800 l0).bind fun a31 => if hT M29 a31 = 0 then bV (f_Row_add G a31 l3 M29) fun M34 => (if hT M34 l0 = 4 then (hR M34 800 l0).bind fun a36 => (hR M34 801 l0).bind fun a38 => if hT M34 a38 = 0 then if hT M34 a36 = 0 then bV (f_Row_add G a36 (hI M34 1 a38) M34) fun M42 => (if hT M42 l0 = 4 then (hR M42 800 l0).bind fun a44 => if hT M42 a44 = 0 then bV (f_Row_add G a44 (0 : Int32) M42) fun M47 => (some M47) else none else none) else none else none else none) else none else none) else none else none) else none else none else none) else none else none else none) else none else none else none) else none else none else none
set_option maxRecDepth 100000 in
set_option maxHeartbeats 4000000 in
theorem s_DrawList_command {G : GT} (l0 : Nat) (l1 : Nat) (l2 : Int32) (l3 : Int32) (M : PH) : VX G mi_DrawList_command 2 32 0 [some (.ref l0), some (.ref l1), some (.int l2), some (.int l3)] [] M qV (f_DrawList_command G l0 l1 l2 l3 M) := by
  unfold f_DrawList_command
  refine V_open ok_DrawList_command_0 ?_
  refine B_aload_n rfl ?_
  refine B_chk (fun t1 => ?_)
  refine K_getR 4 0 800 lf_DrawList_10 rfl rfl t1 (fun a2 r3 => ?_)
  refine B_aload_n rfl ?_
  refine B_chk (fun t4 => ?_)
  refine K_getI 1 0 200 lf_DrawList_30 rfl rfl t4 ?_
  refine B_chk (fun t5 => ?_)
  refine C_V (vs := [.ref a2, .int (hI M 200 l1)]) (st := []) (ci_V lv_DrawList_26 rfl rfl t5) rfl rfl rfl (s_Row_add a2 (hI M 200 l1) M) (fun M6 => ?_)
  refine B_aload_n rfl ?_
  refine B_chk (fun t7 => ?_)
  refine K_getR 4 0 800 lf_DrawList_10 rfl rfl t7 (fun a8 r9 => ?_)
  refine B_aload_n rfl ?_
  refine B_chk (fun t10 => ?_)
  refine K_getI 1 1 201 lf_DrawList_35 rfl rfl t10 ?_
  refine B_chk (fun t11 => ?_)
  refine C_V (vs := [.ref a8, .int (hI M6 201 l1)]) (st := []) (ci_V lv_DrawList_26 rfl rfl t11) rfl rfl rfl (s_Row_add a8 (hI M6 201 l1) M6) (fun M12 => ?_)
  refine B_aload_n rfl ?_
  refine B_chk (fun t13 => ?_)
  refine K_getR 4 0 800 lf_DrawList_10 rfl rfl t13 (fun a14 r15 => ?_)
  refine B_aload_n rfl ?_
  refine B_chk (fun t16 => ?_)
  refine K_getI 1 2 202 lf_DrawList_38 rfl rfl t16 ?_
  refine B_chk (fun t17 => ?_)
  refine C_V (vs := [.ref a14, .int (hI M12 202 l1)]) (st := []) (ci_V lv_DrawList_26 rfl rfl t17) rfl rfl rfl (s_Row_add a14 (hI M12 202 l1) M12) (fun M18 => ?_)
  refine B_aload_n rfl ?_
  refine B_chk (fun t19 => ?_)
  refine K_getR 4 0 800 lf_DrawList_10 rfl rfl t19 (fun a20 r21 => ?_)
  refine B_aload_n rfl ?_
  refine B_chk (fun t22 => ?_)
  refine K_getI 1 3 203 lf_DrawList_41 rfl rfl t22 ?_
  refine B_chk (fun t23 => ?_)
  refine C_V (vs := [.ref a20, .int (hI M18 203 l1)]) (st := []) (ci_V lv_DrawList_26 rfl rfl t23) rfl rfl rfl (s_Row_add a20 (hI M18 203 l1) M18) (fun M24 => ?_)
  refine B_aload_n rfl ?_
  refine B_chk (fun t25 => ?_)
  refine K_getR 4 0 800 lf_DrawList_10 rfl rfl t25 (fun a26 r27 => ?_)
  refine B_iload_n rfl ?_
  refine B_chk (fun t28 => ?_)
  refine C_V (vs := [.ref a26, .int l2]) (st := []) (ci_V lv_DrawList_26 rfl rfl t28) rfl rfl rfl (s_Row_add a26 l2 M24) (fun M29 => ?_)
  refine B_aload_n rfl ?_
  refine B_chk (fun t30 => ?_)
  refine K_getR 4 0 800 lf_DrawList_10 rfl rfl t30 (fun a31 r32 => ?_)
  refine B_iload_n rfl ?_
  refine B_chk (fun t33 => ?_)
  refine C_V (vs := [.ref a31, .int l3]) (st := []) (ci_V lv_DrawList_26 rfl rfl t33) rfl rfl rfl (s_Row_add a31 l3 M29) (fun M34 => ?_)
  refine B_aload_n rfl ?_
  refine B_chk (fun t35 => ?_)
  refine K_getR 4 0 800 lf_DrawList_10 rfl rfl t35 (fun a36 r37 => ?_)
  refine B_aload_n rfl ?_
  refine K_getR 4 1 801 lf_DrawList_16 rfl rfl t35 (fun a38 r39 => ?_)
  refine B_chk (fun t40 => ?_)
  refine K_getI 0 1 1 lf_DrawList_22 rfl rfl t40 ?_
  refine B_chk (fun t41 => ?_)
  refine C_V (vs := [.ref a36, .int (hI M34 1 a38)]) (st := []) (ci_V lv_DrawList_26 rfl rfl t41) rfl rfl rfl (s_Row_add a36 (hI M34 1 a38) M34) (fun M42 => ?_)
  refine B_aload_n rfl ?_
  refine B_chk (fun t43 => ?_)
  refine K_getR 4 0 800 lf_DrawList_10 rfl rfl t43 (fun a44 r45 => ?_)
  refine B_iconst (0 : Int32) ic_0 ?_
  refine B_chk (fun t46 => ?_)
  refine C_V (vs := [.ref a44, .int (0 : Int32)]) (st := []) (ci_V lv_DrawList_26 rfl rfl t46) rfl rfl rfl (s_Row_add a44 (0 : Int32) M42) (fun M47 => ?_)
  exact B_vret rfl

-- DrawList_vertex
theorem ok_DrawList_vertex_0 : okb prog_3_method_4_code 0 [(.aload_n 0, 1), (.getfield 19, 3), (.iload_n 1, 1), (.invokevirtual 26, 3), (.aload_n 0, 1), (.getfield 19, 3), (.iload_n 2, 1), (.invokevirtual 26, 3), (.aload_n 0, 1), (.getfield 19, 3), (.iload_n 3, 1), (.invokevirtual 26, 3), (.return_, 1)] = true := by decide +kernel
set_option maxRecDepth 100000 in
def f_DrawList_vertex (G : GT) (l0 : Nat) (l1 : Int32) (l2 : Int32) (l3 : Int32) (M : PH) : Option (PH) :=
  if hT M l0 = 4 then (hR M 802 l0).bind fun a2 => if hT M a2 = 0 then bV (f_Row_add G a2 l1 M) fun M5 => (if hT M5 l0 = 4 then (hR M5 802 l0).bind fun a7 => if hT M5 a7 = 0 then bV (f_Row_add G a7 l2 M5) fun M10 => (if hT M10 l0 = 4 then (hR M10 802 l0).bind fun a12 => if hT M10 a12 = 0 then bV (f_Row_add G a12 l3 M10) fun M15 => (some M15) else none else none) else none else none) else none else none
set_option maxRecDepth 100000 in
set_option maxHeartbeats 4000000 in
theorem s_DrawList_vertex {G : GT} (l0 : Nat) (l1 : Int32) (l2 : Int32) (l3 : Int32) (M : PH) : VX G mi_DrawList_vertex 2 32 0 [some (.ref l0), some (.int l1), some (.int l2), some (.int l3)] [] M qV (f_DrawList_vertex G l0 l1 l2 l3 M) := by
  unfold f_DrawList_vertex
  refine V_open ok_DrawList_vertex_0 ?_
  refine B_aload_n rfl ?_
  refine B_chk (fun t1 => ?_)
  refine K_getR 4 2 802 lf_DrawList_19 rfl rfl t1 (fun a2 r3 => ?_)
  refine B_iload_n rfl ?_
  refine B_chk (fun t4 => ?_)
  refine C_V (vs := [.ref a2, .int l1]) (st := []) (ci_V lv_DrawList_26 rfl rfl t4) rfl rfl rfl (s_Row_add a2 l1 M) (fun M5 => ?_)
  refine B_aload_n rfl ?_
  refine B_chk (fun t6 => ?_)
  refine K_getR 4 2 802 lf_DrawList_19 rfl rfl t6 (fun a7 r8 => ?_)
  refine B_iload_n rfl ?_
  refine B_chk (fun t9 => ?_)
  refine C_V (vs := [.ref a7, .int l2]) (st := []) (ci_V lv_DrawList_26 rfl rfl t9) rfl rfl rfl (s_Row_add a7 l2 M5) (fun M10 => ?_)
  refine B_aload_n rfl ?_
  refine B_chk (fun t11 => ?_)
  refine K_getR 4 2 802 lf_DrawList_19 rfl rfl t11 (fun a12 r13 => ?_)
  refine B_iload_n rfl ?_
  refine B_chk (fun t14 => ?_)
  refine C_V (vs := [.ref a12, .int l3]) (st := []) (ci_V lv_DrawList_26 rfl rfl t14) rfl rfl rfl (s_Row_add a12 l3 M10) (fun M15 => ?_)
  exact B_vret rfl

-- DrawList_quad
theorem ok_DrawList_quad_0 : okb prog_3_method_6_code 0 [(.aload_n 1, 1), (.aload 4, 2), (.invokevirtual 44, 3), (.ifCond .ne 4, 3), (.return_, 1)] = true := by decide +kernel
theorem ok_DrawList_quad_10 : okb prog_3_method_6_code 10 [(.aload_n 0, 1), (.getfield 10, 3), (.getfield 22, 3), (.bipush 8, 2), (.isub, 1), (.istore 5, 2), (.iload 5, 2), (.ifCond .ge 7, 3), (.iconst 0, 1), (.goto 15, 3)] = true := by decide +kernel
theorem ok_DrawList_quad_31 : okb prog_3_method_6_code 31 [(.aload_n 0, 1), (.getfield 10, 3), (.getfield 48, 3), (.iload 5, 2), (.iconst 5, 1), (.iadd, 1), (.iaload, 1)] = true := by decide +kernel
theorem ok_DrawList_quad_43 : okb prog_3_method_6_code 43 [(.istore 6, 2), (.iload 5, 2), (.ifCond .lt 19, 3), (.aload_n 0, 1), (.invokevirtual 52, 3), (.iload 6, 2), (.isub, 1), (.bipush 64, 2), (.if_icmp .ge 7, 3), (.iconst 1, 1), (.goto 4, 3)] = true := by decide +kernel
theorem ok_DrawList_quad_66 : okb prog_3_method_6_code 66 [(.iconst 0, 1)] = true := by decide +kernel
theorem ok_DrawList_quad_67 : okb prog_3_method_6_code 67 [(.istore 7, 2), (.iload 7, 2), (.ifCond .eq 101, 3), (.aload_n 0, 1), (.getfield 10, 3), (.getfield 48, 3), (.iload 5, 2), (.iaload, 1), (.aload 4, 2), (.getfield 30, 3), (.if_icmp .ne 83, 3), (.aload_n 0, 1), (.getfield 10, 3), (.getfield 48, 3), (.iload 5, 2), (.iconst 1, 1), (.iadd, 1), (.iaload, 1), (.aload 4, 2), (.getfield 35, 3), (.if_icmp .ne 63, 3), (.aload_n 0, 1), (.getfield 10, 3), (.getfield 48, 3), (.iload 5, 2), (.iconst 2, 1), (.iadd, 1), (.iaload, 1), (.aload 4, 2), (.getfield 38, 3), (.if_icmp .ne 43, 3), (.aload_n 0, 1), (.getfield 10, 3), (.getfield 48, 3), (.iload 5, 2), (.iconst 3, 1), (.iadd, 1), (.iaload, 1), (.aload 4, 2), (.getfield 41, 3), (.if_icmp .ne 23, 3), (.aload_n 0, 1), (.getfield 10, 3), (.getfield 48, 3), (.iload 5, 2), (.iconst 4, 1), (.iadd, 1), (.iaload, 1), (.iload_n 3, 1), (.if_icmp .ne 7, 3), (.iconst 1, 1), (.goto 4, 3)] = true := by decide +kernel
theorem ok_DrawList_quad_172 : okb prog_3_method_6_code 172 [(.iconst 0, 1)] = true := by decide +kernel
theorem ok_DrawList_quad_173 : okb prog_3_method_6_code 173 [(.istore 8, 2), (.iload 7, 2), (.ifCond .ne 9, 3), (.aload_n 0, 1), (.invokevirtual 52, 3), (.istore 6, 2)] = true := by decide +kernel
theorem ok_DrawList_quad_186 : okb prog_3_method_6_code 186 [(.iload 8, 2), (.ifCond .ne 12, 3), (.aload_n 0, 1), (.aload 4, 2), (.iload_n 3, 1), (.iload 6, 2), (.invokevirtual 56, 3)] = true := by decide +kernel
theorem ok_DrawList_quad_200 : okb prog_3_method_6_code 200 [(.aload_n 0, 1), (.getfield 10, 3), (.getfield 22, 3), (.bipush 8, 2), (.isub, 1), (.istore 5, 2), (.aload_n 0, 1), (.invokevirtual 52, 3), (.iload 6, 2), (.isub, 1), (.istore 9, 2), (.aload_n 0, 1), (.aload_n 1, 1), (.getfield 30, 3), (.aload_n 1, 1), (.getfield 35, 3), (.iload_n 2, 1), (.invokevirtual 60, 3), (.aload_n 0, 1), (.aload_n 1, 1), (.getfield 38, 3), (.aload_n 1, 1), (.getfield 35, 3), (.iload_n 2, 1), (.invokevirtual 60, 3), (.aload_n 0, 1), (.aload_n 1, 1), (.getfield 38, 3), (.aload_n 1, 1), (.getfield 41, 3), (.iload_n 2, 1), (.invokevirtual 60, 3), (.aload_n 0, 1), (.aload_n 1, 1), (.getfield 30, 3), (.aload_n 1, 1), (.getfield 41, 3), (.iload_n 2, 1), (.invokevirtual 60, 3), (.iconst 0, 1), (.istore 10, 2)] = true := by decide +kernel
theorem ok_DrawList_quad_276 : okb prog_3_method_6_code 276 [(.iload 10, 2), (.bipush 6, 2), (.if_icmp .ge 44, 3), (.aload_n 0, 1), (.getfield 16, 3), (.iload 9, 2), (.iload 10, 2), (.iconst 3, 1), (.if_icmp .ge 8, 3), (.iload 10, 2), (.goto 17, 3)] = true := by decide +kernel
theorem ok_DrawList_quad_300 : okb prog_3_method_6_code 300 [(.iload 10, 2), (.iconst 3, 1), (.if_icmp .ne 7, 3), (.iconst 0, 1), (.goto 7, 3)] = true := by decide +kernel
theorem ok_DrawList_quad_310 : okb prog_3_method_6_code 310 [(.iload 10, 2), (.iconst 2, 1), (.isub, 1)] = true := by decide +kernel
theorem ok_DrawList_quad_314 : okb prog_3_method_6_code 314 [(.iadd, 1), (.invokevirtual 26, 3), (.iinc 10 1, 3), (.goto (-45), 3)] = true := by decide +kernel
theorem ok_DrawList_quad_324 : okb prog_3_method_6_code 324 [(.aload_n 0, 1), (.getfield 10, 3), (.getfield 48, 3), (.iload 5, 2), (.bipush 7, 2), (.iadd, 1), (.dup2, 1), (.iaload, 1), (.bipush 6, 2), (.iadd, 1), (.iastore, 1), (.return_, 1)] = true := by decide +kernel
set_option maxRecDepth 100000 in
def b_DrawList_quad_314 (G : GT) (k276 : Nat → Int32 → Int32 → Int32 → PH → Option (PH)) (l0 : Nat) (l5 : Int32) (l9 : Int32) (l10 : Int32) (s0 : Nat) (s1 : Int32) (s2 : Int32) (M : PH) : Option (PH) :=
  if hT M s0 = 0 then bV (f_Row_add G s0 (s1 + s2) M) fun M2 => (k276 l0 l5 l9 (l10 + (1 : Int32)) M2) else none
set_option maxRecDepth 100000 in
set_option maxHeartbeats 4000000 in
theorem t_DrawList_quad_314 {G : GT} {k276 : Nat → Int32 → Int32 → Int32 → PH → Option (PH)} (hk276 : ∀ (l0 : Nat) (l5 : Int32) (l9 : Int32) (l10 : Int32) (M : PH), VX G mi_DrawList_quad 3 47 276 [some (.ref l0), none, none, none, none, some (.int l5), none, none, none, some (.int l9), some (.int l10)] [] M qV (k276 l0 l5 l9 l10 M)) (l0 : Nat) (l5 : Int32) (l9 : Int32) (l10 : Int32) (s0 : Nat) (s1 : Int32) (s2 : Int32) (M : PH) : VX G mi_DrawList_quad 3 47 314 [some (.ref l0), none, none, none, none, some (.int l5), none, none, none, some (.int l9), some (.int l10)] [.int s2, .int s1, .ref s0] M qV (b_DrawList_quad_314 G k276 l0 l5 l9 l10 s0 s1 s2 M) := by
  unfold b_DrawList_quad_314
  refine V_open ok_DrawList_quad_314 ?_
  refine B_iadd ?_
  refine B_chk (fun t1 => ?_)
  refine C_V (vs := [.ref s0, .int (s1 + s2)]) (st := []) (ci_V lv_DrawList_26 rfl rfl t1) rfl rfl rfl (s_Row_add s0 (s1 + s2) M) (fun M2 => ?_)
  refine S_inc (1 : Int32) [some (.ref l0), none, none, none, none, some (.int l5), none, none, none, some (.int l9), some (.int (l10 + (1 : Int32)))] ic_1 rfl (by decide) rfl ?_
  refine B_goto (tgt := 276) (by decide) ?_
  exact V_weak (ls' := [some (.ref l0), none, none, none, none, some (.int l5), none, none, none, some (.int l9), some (.int (l10 + (1 : Int32)))]) ⟨rfl, ⟨rfl, ⟨rfl, ⟨rfl, trivial⟩⟩⟩⟩ (hk276 l0 l5 l9 (l10 + (1 : Int32)) M2)
set_option maxRecDepth 100000 in
def b_DrawList_quad_276 (G : GT) (k276 : Nat → Int32 → Int32 → Int32 → PH → Option (PH)) (l0 : Nat) (l5 : Int32) (l9 : Int32) (l10 : Int32) (M : PH) : Option (PH) :=
  if (6 : Int32) ≤ l10 then (if hT M l0 = 4 then (hR M 800 l0).bind fun a2 => if hT M a2 = 0 then (hR M 0 a2).bind fun a5 => if hT M a5 = 16 then if ib (l5 + (7 : Int32)) (hN M a5) = true then if ib (l5 + (7 : Int32)) (hN M a5) = true then hb (sA M a5 (l5 + (7 : Int32)).toNatClampNeg ((hA M a5 (l5 + (7 : Int32)).toNatClampNeg) + (6 : Int32))) fun M9 => (some M9) else none else none else none else none else none) else (if hT M l0 = 4 then (hR M 801 l0).bind fun a11 => if (3 : Int32) ≤ l10 then (if ¬ l10 = (3 : Int32) then (b_DrawList_quad_314 G k276 l0 l5 l9 l10 a11 l9 (l10 - (2 : Int32)) M) else (b_DrawList_quad_314 G k276 l0 l5 l9 l10 a11 l9 (0 : Int32) M)) else (b_DrawList_quad_314 G k276 l0 l5 l9 l10 a11 l9 l10 M) else none)
set_option maxRecDepth 100000 in
set_option maxHeartbeats 4000000 in
theorem t_DrawList_quad_276 {G : GT} {k276 : Nat → Int32 → Int32 → Int32 → PH → Option (PH)} (hk276 : ∀ (l0 : Nat) (l5 : Int32) (l9 : Int32) (l10 : Int32) (M : PH), VX G mi_DrawList_quad 3 47 276 [some (.ref l0), none, none, none, none, some (.int l5), none, none, none, some (.int l9), some (.int l10)] [] M qV (k276 l0 l5 l9 l10 M)) (l0 : Nat) (l5 : Int32) (l9 : Int32) (l10 : Int32) (M : PH) : VX G mi_DrawList_quad 3 47 276 [some (.ref l0), none, none, none, none, some (.int l5), none, none, none, some (.int l9), some (.int l10)] [] M qV (b_DrawList_quad_276 G k276 l0 l5 l9 l10 M) := by
  unfold b_DrawList_quad_276
  refine V_open ok_DrawList_quad_276 ?_
  refine B_iload rfl ?_
  refine B_bipush (6 : Int32) bp_6 ?_
  refine B_ige (tgt := 324) (by decide) ?_ ?_
  · skip
    refine V_open ok_DrawList_quad_324 ?_
    refine B_aload_n rfl ?_
    refine B_chk (fun t1 => ?_)
    refine K_getR 4 0 800 lf_DrawList_10 rfl rfl t1 (fun a2 r3 => ?_)
    refine B_chk (fun t4 => ?_)
    refine K_getR 0 0 0 lf_DrawList_48 rfl rfl t4 (fun a5 r6 => ?_)
    refine B_iload rfl ?_
    refine B_bipush (7 : Int32) bp_7 ?_
    refine B_iadd ?_
    refine B_dup2 rfl rfl ?_
    refine B_chk (fun t7 => ?_)
    refine K_iald t7 ?_
    refine B_bipush (6 : Int32) bp_6 ?_
    refine B_iadd ?_
    refine K_iast t7 (fun M9 e8 => ?_)
    exact B_vret rfl
  · skip
    refine B_aload_n rfl ?_
    refine B_chk (fun t10 => ?_)
    refine K_getR 4 1 801 lf_DrawList_16 rfl rfl t10 (fun a11 r12 => ?_)
    refine B_iload rfl ?_
    refine B_iload rfl ?_
    refine B_iconst (3 : Int32) ic_3 ?_
    refine B_ige (tgt := 300) (by decide) ?_ ?_
    · skip
      refine V_open ok_DrawList_quad_300 ?_
      refine B_iload rfl ?_
      refine B_iconst (3 : Int32) ic_3 ?_
      refine B_ine (tgt := 310) (by decide) ?_ ?_
      · skip
        refine V_open ok_DrawList_quad_310 ?_
        refine B_iload rfl ?_
        refine B_iconst (2 : Int32) ic_2 ?_
        refine B_isub ?_
        refine V_close ?_
        exact V_weak (ls' := [some (.ref l0), none, none, none, none, some (.int l5), none, none, none, some (.int l9), some (.int l10)]) ⟨rfl, ⟨rfl, ⟨rfl, ⟨rfl, trivial⟩⟩⟩⟩ (t_DrawList_quad_314 hk276 l0 l5 l9 l10 a11 l9 (l10 - (2 : Int32)) M)
      · skip
        refine B_iconst (0 : Int32) ic_0 ?_
        refine B_goto (tgt := 314) (by decide) ?_
        exact V_weak (ls' := [some (.ref l0), none, none, none, none, some (.int l5), none, none, none, some (.int l9), some (.int l10)]) ⟨rfl, ⟨rfl, ⟨rfl, ⟨rfl, trivial⟩⟩⟩⟩ (t_DrawList_quad_314 hk276 l0 l5 l9 l10 a11 l9 (0 : Int32) M)
    · skip
      refine B_iload rfl ?_
      refine B_goto (tgt := 314) (by decide) ?_
      exact V_weak (ls' := [some (.ref l0), none, none, none, none, some (.int l5), none, none, none, some (.int l9), some (.int l10)]) ⟨rfl, ⟨rfl, ⟨rfl, ⟨rfl, trivial⟩⟩⟩⟩ (t_DrawList_quad_314 hk276 l0 l5 l9 l10 a11 l9 l10 M)
set_option maxRecDepth 100000 in
def w_DrawList_quad_276 (G : GT) : Nat → Nat → Int32 → Int32 → Int32 → PH → Option (PH)
  | 0 => fun _ _ _ _ _ => none
  | n + 1 => b_DrawList_quad_276 G (w_DrawList_quad_276 G n)
set_option maxRecDepth 100000 in
set_option maxHeartbeats 4000000 in
theorem tw_DrawList_quad_276 {G : GT} : ∀ (n : Nat) (l0 : Nat) (l5 : Int32) (l9 : Int32) (l10 : Int32) (M : PH), VX G mi_DrawList_quad 3 47 276 [some (.ref l0), none, none, none, none, some (.int l5), none, none, none, some (.int l9), some (.int l10)] [] M qV (w_DrawList_quad_276 G n l0 l5 l9 l10 M)
  | 0, _, _, _, _, _ => X_none
  | n + 1, l0, l5, l9, l10, M => t_DrawList_quad_276 (tw_DrawList_quad_276 n) l0 l5 l9 l10 M
set_option maxRecDepth 100000 in
def b_DrawList_quad_200 (G : GT) (l0 : Nat) (l1 : Nat) (l2 : Int32) (l6 : Int32) (M : PH) : Option (PH) :=
  if hT M l0 = 4 then (hR M 800 l0).bind fun a2 => if hT M a2 = 0 then vb ((hI M 1 a2) - (8 : Int32)) fun v5 => bI (f_DrawList_made G l0 M) fun v7 M6 => (vb (v7 - l6) fun v8 => if hT M6 l1 = 1 then if hT M6 l0 = 4 then bV (f_DrawList_vertex G l0 (hI M6 200 l1) (hI M6 201 l1) l2 M6) fun M11 => (if hT M11 l1 = 1 then if hT M11 l0 = 4 then bV (f_DrawList_vertex G l0 (hI M11 202 l1) (hI M11 201 l1) l2 M11) fun M14 => (if hT M14 l1 = 1 then if hT M14 l0 = 4 then bV (f_DrawList_vertex G l0 (hI M14 202 l1) (hI M14 203 l1) l2 M14) fun M17 => (if hT M17 l1 = 1 then if hT M17 l0 = 4 then bV (f_DrawList_vertex G l0 (hI M17 200 l1) (hI M17 203 l1) l2 M17) fun M20 => (w_DrawList_quad_276 G FU l0 v5 v8 (0 : Int32) M20) else none else none) else none else none) else none else none) else none else none) else none else none
set_option maxRecDepth 100000 in
set_option maxHeartbeats 4000000 in
theorem t_DrawList_quad_200 {G : GT} (l0 : Nat) (l1 : Nat) (l2 : Int32) (l6 : Int32) (M : PH) : VX G mi_DrawList_quad 3 47 200 [some (.ref l0), some (.ref l1), some (.int l2), none, none, none, some (.int l6), none, none, none, none] [] M qV (b_DrawList_quad_200 G l0 l1 l2 l6 M) := by
  unfold b_DrawList_quad_200
  refine V_open ok_DrawList_quad_200 ?_
  refine B_aload_n rfl ?_
  refine B_chk (fun t1 => ?_)
  refine K_getR 4 0 800 lf_DrawList_10 rfl rfl t1 (fun a2 r3 => ?_)
  refine B_chk (fun t4 => ?_)
  refine K_getI 0 1 1 lf_DrawList_22 rfl rfl t4 ?_
  refine B_bipush (8 : Int32) bp_8 ?_
  refine B_isub ?_
  refine B_vb (fun v5 => ?_)
  refine S_i [some (.ref l0), some (.ref l1), some (.int l2), none, none, some (.int v5), some (.int l6), none, none, none, none] (by decide) rfl ?_
  refine B_aload_n rfl ?_
  refine C_I (vs := [.ref l0]) (st := []) (ci_V lv_DrawList_52 rfl rfl t1) rfl rfl rfl (s_DrawList_made l0 M) (fun v7 M6 => ?_)
  refine B_iload rfl ?_
  refine B_isub ?_
  refine B_vb (fun v8 => ?_)
  refine S_i [some (.ref l0), some (.ref l1), some (.int l2), none, none, some (.int v5), some (.int l6), none, none, some (.int v8), none] (by decide) rfl ?_
  refine B_aload_n rfl ?_
  refine B_aload_n rfl ?_
  refine B_chk (fun t9 => ?_)
  refine K_getI 1 0 200 lf_DrawList_30 rfl rfl t9 ?_
  refine B_aload_n rfl ?_
  refine K_getI 1 1 201 lf_DrawList_35 rfl rfl t9 ?_
  refine B_iload_n rfl ?_
  refine B_chk (fun t10 => ?_)
  refine C_V (vs := [.ref l0, .int (hI M6 200 l1), .int (hI M6 201 l1), .int l2]) (st := []) (ci_V lv_DrawList_60 rfl rfl t10) rfl rfl rfl (s_DrawList_vertex l0 (hI M6 200 l1) (hI M6 201 l1) l2 M6) (fun M11 => ?_)
  refine B_aload_n rfl ?_
  refine B_aload_n rfl ?_
  refine B_chk (fun t12 => ?_)
  refine K_getI 1 2 202 lf_DrawList_38 rfl rfl t12 ?_
  refine B_aload_n rfl ?_
  refine K_getI 1 1 201 lf_DrawList_35 rfl rfl t12 ?_
  refine B_iload_n rfl ?_
  refine B_chk (fun t13 => ?_)
  refine C_V (vs := [.ref l0, .int (hI M11 202 l1), .int (hI M11 201 l1), .int l2]) (st := []) (ci_V lv_DrawList_60 rfl rfl t13) rfl rfl rfl (s_DrawList_vertex l0 (hI M11 202 l1) (hI M11 201 l1) l2 M11) (fun M14 => ?_)
  refine B_aload_n rfl ?_
  refine B_aload_n rfl ?_
  refine B_chk (fun t15 => ?_)
  refine K_getI 1 2 202 lf_DrawList_38 rfl rfl t15 ?_
  refine B_aload_n rfl ?_
  refine K_getI 1 3 203 lf_DrawList_41 rfl rfl t15 ?_
  refine B_iload_n rfl ?_
  refine B_chk (fun t16 => ?_)
  refine C_V (vs := [.ref l0, .int (hI M14 202 l1), .int (hI M14 203 l1), .int l2]) (st := []) (ci_V lv_DrawList_60 rfl rfl t16) rfl rfl rfl (s_DrawList_vertex l0 (hI M14 202 l1) (hI M14 203 l1) l2 M14) (fun M17 => ?_)
  refine B_aload_n rfl ?_
  refine B_aload_n rfl ?_
  refine B_chk (fun t18 => ?_)
  refine K_getI 1 0 200 lf_DrawList_30 rfl rfl t18 ?_
  refine B_aload_n rfl ?_
  refine K_getI 1 3 203 lf_DrawList_41 rfl rfl t18 ?_
  refine B_iload_n rfl ?_
  refine B_chk (fun t19 => ?_)
  refine C_V (vs := [.ref l0, .int (hI M17 200 l1), .int (hI M17 203 l1), .int l2]) (st := []) (ci_V lv_DrawList_60 rfl rfl t19) rfl rfl rfl (s_DrawList_vertex l0 (hI M17 200 l1) (hI M17 203 l1) l2 M17) (fun M20 => ?_)
  refine B_iconst (0 : Int32) ic_0 ?_
  refine S_i [some (.ref l0), some (.ref l1), some (.int l2), none, none, some (.int v5), some (.int l6), none, none, some (.int v8), some (.int (0 : Int32))] (by decide) rfl ?_
  refine V_close ?_
  exact V_weak (ls' := [some (.ref l0), none, none, none, none, some (.int v5), none, none, none, some (.int v8), some (.int (0 : Int32))]) ⟨rfl, ⟨rfl, ⟨rfl, ⟨rfl, trivial⟩⟩⟩⟩ (tw_DrawList_quad_276 FU l0 v5 v8 (0 : Int32) M20)
set_option maxRecDepth 100000 in
def b_DrawList_quad_186 (G : GT) (l0 : Nat) (l1 : Nat) (l2 : Int32) (l3 : Int32) (l4 : Nat) (l6 : Int32) (l8 : Int32) (M : PH) : Option (PH) :=
  if ¬ l8 = 0 then (b_DrawList_quad_200 G l0 l1 l2 l6 M) else (if hT M l0 = 4 then bV (f_DrawList_command G l0 l4 l3 l6 M) fun M2 => (b_DrawList_quad_200 G l0 l1 l2 l6 M2) else none)
set_option maxRecDepth 100000 in
set_option maxHeartbeats 4000000 in
theorem t_DrawList_quad_186 {G : GT} (l0 : Nat) (l1 : Nat) (l2 : Int32) (l3 : Int32) (l4 : Nat) (l6 : Int32) (l8 : Int32) (M : PH) : VX G mi_DrawList_quad 3 47 186 [some (.ref l0), some (.ref l1), some (.int l2), some (.int l3), some (.ref l4), none, some (.int l6), none, some (.int l8), none, none] [] M qV (b_DrawList_quad_186 G l0 l1 l2 l3 l4 l6 l8 M) := by
  unfold b_DrawList_quad_186
  refine V_open ok_DrawList_quad_186 ?_
  refine B_iload rfl ?_
  refine B_ne (tgt := 200) (by decide) ?_ ?_
  · skip
    exact V_weak (ls' := [some (.ref l0), some (.ref l1), some (.int l2), none, none, none, some (.int l6), none, none, none, none]) ⟨rfl, ⟨rfl, ⟨rfl, ⟨rfl, trivial⟩⟩⟩⟩ (t_DrawList_quad_200 l0 l1 l2 l6 M)
  · skip
    refine B_aload_n rfl ?_
    refine B_aload rfl ?_
    refine B_iload_n rfl ?_
    refine B_iload rfl ?_
    refine B_chk (fun t1 => ?_)
    refine C_V (vs := [.ref l0, .ref l4, .int l3, .int l6]) (st := []) (ci_V lv_DrawList_56 rfl rfl t1) rfl rfl rfl (s_DrawList_command l0 l4 l3 l6 M) (fun M2 => ?_)
    refine V_close ?_
    exact V_weak (ls' := [some (.ref l0), some (.ref l1), some (.int l2), none, none, none, some (.int l6), none, none, none, none]) ⟨rfl, ⟨rfl, ⟨rfl, ⟨rfl, trivial⟩⟩⟩⟩ (t_DrawList_quad_200 l0 l1 l2 l6 M2)
set_option maxRecDepth 100000 in
def b_DrawList_quad_173 (G : GT) (l0 : Nat) (l1 : Nat) (l2 : Int32) (l3 : Int32) (l4 : Nat) (l6 : Int32) (l7 : Int32) (s0 : Int32) (M : PH) : Option (PH) :=
  if ¬ l7 = 0 then (b_DrawList_quad_186 G l0 l1 l2 l3 l4 l6 s0 M) else (if hT M l0 = 4 then bI (f_DrawList_made G l0 M) fun v3 M2 => (b_DrawList_quad_186 G l0 l1 l2 l3 l4 v3 s0 M2) else none)
set_option maxRecDepth 100000 in
set_option maxHeartbeats 4000000 in
theorem t_DrawList_quad_173 {G : GT} (l0 : Nat) (l1 : Nat) (l2 : Int32) (l3 : Int32) (l4 : Nat) (l6 : Int32) (l7 : Int32) (s0 : Int32) (M : PH) : VX G mi_DrawList_quad 3 47 173 [some (.ref l0), some (.ref l1), some (.int l2), some (.int l3), some (.ref l4), none, some (.int l6), some (.int l7), none, none, none] [.int s0] M qV (b_DrawList_quad_173 G l0 l1 l2 l3 l4 l6 l7 s0 M) := by
  unfold b_DrawList_quad_173
  refine V_open ok_DrawList_quad_173 ?_
  refine S_i [some (.ref l0), some (.ref l1), some (.int l2), some (.int l3), some (.ref l4), none, some (.int l6), some (.int l7), some (.int s0), none, none] (by decide) rfl ?_
  refine B_iload rfl ?_
  refine B_ne (tgt := 186) (by decide) ?_ ?_
  · skip
    exact V_weak (ls' := [some (.ref l0), some (.ref l1), some (.int l2), some (.int l3), some (.ref l4), none, some (.int l6), none, some (.int s0), none, none]) ⟨rfl, ⟨rfl, ⟨rfl, ⟨rfl, ⟨rfl, ⟨rfl, ⟨rfl, trivial⟩⟩⟩⟩⟩⟩⟩ (t_DrawList_quad_186 l0 l1 l2 l3 l4 l6 s0 M)
  · skip
    refine B_aload_n rfl ?_
    refine B_chk (fun t1 => ?_)
    refine C_I (vs := [.ref l0]) (st := []) (ci_V lv_DrawList_52 rfl rfl t1) rfl rfl rfl (s_DrawList_made l0 M) (fun v3 M2 => ?_)
    refine S_i [some (.ref l0), some (.ref l1), some (.int l2), some (.int l3), some (.ref l4), none, some (.int v3), some (.int l7), some (.int s0), none, none] (by decide) rfl ?_
    refine V_close ?_
    exact V_weak (ls' := [some (.ref l0), some (.ref l1), some (.int l2), some (.int l3), some (.ref l4), none, some (.int v3), none, some (.int s0), none, none]) ⟨rfl, ⟨rfl, ⟨rfl, ⟨rfl, ⟨rfl, ⟨rfl, ⟨rfl, trivial⟩⟩⟩⟩⟩⟩⟩ (t_DrawList_quad_186 l0 l1 l2 l3 l4 v3 s0 M2)
set_option maxRecDepth 100000 in
def b_DrawList_quad_172 (G : GT) (l0 : Nat) (l1 : Nat) (l2 : Int32) (l3 : Int32) (l4 : Nat) (l6 : Int32) (l7 : Int32) (M : PH) : Option (PH) :=
  b_DrawList_quad_173 G l0 l1 l2 l3 l4 l6 l7 (0 : Int32) M
set_option maxRecDepth 100000 in
set_option maxHeartbeats 4000000 in
theorem t_DrawList_quad_172 {G : GT} (l0 : Nat) (l1 : Nat) (l2 : Int32) (l3 : Int32) (l4 : Nat) (l6 : Int32) (l7 : Int32) (M : PH) : VX G mi_DrawList_quad 3 47 172 [some (.ref l0), some (.ref l1), some (.int l2), some (.int l3), some (.ref l4), none, some (.int l6), some (.int l7), none, none, none] [] M qV (b_DrawList_quad_172 G l0 l1 l2 l3 l4 l6 l7 M) := by
  unfold b_DrawList_quad_172
  refine V_open ok_DrawList_quad_172 ?_
  refine B_iconst (0 : Int32) ic_0 ?_
  refine V_close ?_
  exact V_weak (ls' := [some (.ref l0), some (.ref l1), some (.int l2), some (.int l3), some (.ref l4), none, some (.int l6), some (.int l7), none, none, none]) ⟨rfl, ⟨rfl, ⟨rfl, ⟨rfl, ⟨rfl, ⟨rfl, ⟨rfl, trivial⟩⟩⟩⟩⟩⟩⟩ (t_DrawList_quad_173 l0 l1 l2 l3 l4 l6 l7 (0 : Int32) M)
set_option maxRecDepth 100000 in
def b_DrawList_quad_67 (G : GT) (l0 : Nat) (l1 : Nat) (l2 : Int32) (l3 : Int32) (l4 : Nat) (l5 : Int32) (l6 : Int32) (s0 : Int32) (M : PH) : Option (PH) :=
  if s0 = 0 then (b_DrawList_quad_172 G l0 l1 l2 l3 l4 l6 s0 M) else (if hT M l0 = 4 then (hR M 800 l0).bind fun a2 => if hT M a2 = 0 then (hR M 0 a2).bind fun a5 => if hT M a5 = 16 then if ib l5 (hN M a5) = true then if hT M l4 = 1 then if ¬ hA M a5 l5.toNatClampNeg = hI M 200 l4 then (b_DrawList_quad_172 G l0 l1 l2 l3 l4 l6 s0 M) else (if ib (l5 + (1 : Int32)) (hN M a5) = true then if ¬ hA M a5 (l5 + (1 : Int32)).toNatClampNeg = hI M 201 l4 then (b_DrawList_quad_172 G l0 l1 l2 l3 l4 l6 s0 M) else (if ib (l5 + (2 : Int32)) (hN M a5) = true then if ¬ hA M a5 (l5 + (2 : Int32)).toNatClampNeg = hI M 202 l4 then (b_DrawList_quad_172 G l0 l1 l2 l3 l4 l6 s0 M) else (if ib (l5 + (3 : Int32)) (hN M a5) = true then if ¬ hA M a5 (l5 + (3 : Int32)).toNatClampNeg = hI M 203 l4 then (b_DrawList_quad_172 G l0 l1 l2 l3 l4 l6 s0 M) else (if ib (l5 + (4 : Int32)) (hN M a5) = true then if ¬ hA M a5 (l5 + (4 : Int32)).toNatClampNeg = l3 then (b_DrawList_quad_172 G l0 l1 l2 l3 l4 l6 s0 M) else (b_DrawList_quad_173 G l0 l1 l2 l3 l4 l6 s0 (1 : Int32) M) else none) else none) else none) else none) else none else none else none else none else none)
set_option maxRecDepth 100000 in
set_option maxHeartbeats 4000000 in
theorem t_DrawList_quad_67 {G : GT} (l0 : Nat) (l1 : Nat) (l2 : Int32) (l3 : Int32) (l4 : Nat) (l5 : Int32) (l6 : Int32) (s0 : Int32) (M : PH) : VX G mi_DrawList_quad 3 47 67 [some (.ref l0), some (.ref l1), some (.int l2), some (.int l3), some (.ref l4), some (.int l5), some (.int l6), none, none, none, none] [.int s0] M qV (b_DrawList_quad_67 G l0 l1 l2 l3 l4 l5 l6 s0 M) := by
  unfold b_DrawList_quad_67
  refine V_open ok_DrawList_quad_67 ?_
  refine S_i [some (.ref l0), some (.ref l1), some (.int l2), some (.int l3), some (.ref l4), some (.int l5), some (.int l6), some (.int s0), none, none, none] (by decide) rfl ?_
  refine B_iload rfl ?_
  refine B_eq (tgt := 172) (by decide) ?_ ?_
  · skip
    exact V_weak (ls' := [some (.ref l0), some (.ref l1), some (.int l2), some (.int l3), some (.ref l4), none, some (.int l6), some (.int s0), none, none, none]) ⟨rfl, ⟨rfl, ⟨rfl, ⟨rfl, ⟨rfl, ⟨rfl, ⟨rfl, trivial⟩⟩⟩⟩⟩⟩⟩ (t_DrawList_quad_172 l0 l1 l2 l3 l4 l6 s0 M)
  · skip
    refine B_aload_n rfl ?_
    refine B_chk (fun t1 => ?_)
    refine K_getR 4 0 800 lf_DrawList_10 rfl rfl t1 (fun a2 r3 => ?_)
    refine B_chk (fun t4 => ?_)
    refine K_getR 0 0 0 lf_DrawList_48 rfl rfl t4 (fun a5 r6 => ?_)
    refine B_iload rfl ?_
    refine B_chk (fun t7 => ?_)
    refine K_iald t7 ?_
    refine B_aload rfl ?_
    refine B_chk (fun t8 => ?_)
    refine K_getI 1 0 200 lf_DrawList_30 rfl rfl t8 ?_
    refine B_ine (tgt := 172) (by decide) ?_ ?_
    · skip
      exact V_weak (ls' := [some (.ref l0), some (.ref l1), some (.int l2), some (.int l3), some (.ref l4), none, some (.int l6), some (.int s0), none, none, none]) ⟨rfl, ⟨rfl, ⟨rfl, ⟨rfl, ⟨rfl, ⟨rfl, ⟨rfl, trivial⟩⟩⟩⟩⟩⟩⟩ (t_DrawList_quad_172 l0 l1 l2 l3 l4 l6 s0 M)
    · skip
      refine B_aload_n rfl ?_
      refine K_getRk 4 0 800 lf_DrawList_10 rfl rfl t1 r3 ?_
      refine K_getRk 0 0 0 lf_DrawList_48 rfl rfl t4 r6 ?_
      refine B_iload rfl ?_
      refine B_iconst (1 : Int32) ic_1 ?_
      refine B_iadd ?_
      refine K_iald t7 ?_
      refine B_aload rfl ?_
      refine K_getI 1 1 201 lf_DrawList_35 rfl rfl t8 ?_
      refine B_ine (tgt := 172) (by decide) ?_ ?_
      · skip
        exact V_weak (ls' := [some (.ref l0), some (.ref l1), some (.int l2), some (.int l3), some (.ref l4), none, some (.int l6), some (.int s0), none, none, none]) ⟨rfl, ⟨rfl, ⟨rfl, ⟨rfl, ⟨rfl, ⟨rfl, ⟨rfl, trivial⟩⟩⟩⟩⟩⟩⟩ (t_DrawList_quad_172 l0 l1 l2 l3 l4 l6 s0 M)
      · skip
        refine B_aload_n rfl ?_
        refine K_getRk 4 0 800 lf_DrawList_10 rfl rfl t1 r3 ?_
        refine K_getRk 0 0 0 lf_DrawList_48 rfl rfl t4 r6 ?_
        refine B_iload rfl ?_
        refine B_iconst (2 : Int32) ic_2 ?_
        refine B_iadd ?_
        refine K_iald t7 ?_
        refine B_aload rfl ?_
        refine K_getI 1 2 202 lf_DrawList_38 rfl rfl t8 ?_
        refine B_ine (tgt := 172) (by decide) ?_ ?_
        · skip
          exact V_weak (ls' := [some (.ref l0), some (.ref l1), some (.int l2), some (.int l3), some (.ref l4), none, some (.int l6), some (.int s0), none, none, none]) ⟨rfl, ⟨rfl, ⟨rfl, ⟨rfl, ⟨rfl, ⟨rfl, ⟨rfl, trivial⟩⟩⟩⟩⟩⟩⟩ (t_DrawList_quad_172 l0 l1 l2 l3 l4 l6 s0 M)
        · skip
          refine B_aload_n rfl ?_
          refine K_getRk 4 0 800 lf_DrawList_10 rfl rfl t1 r3 ?_
          refine K_getRk 0 0 0 lf_DrawList_48 rfl rfl t4 r6 ?_
          refine B_iload rfl ?_
          refine B_iconst (3 : Int32) ic_3 ?_
          refine B_iadd ?_
          refine K_iald t7 ?_
          refine B_aload rfl ?_
          refine K_getI 1 3 203 lf_DrawList_41 rfl rfl t8 ?_
          refine B_ine (tgt := 172) (by decide) ?_ ?_
          · skip
            exact V_weak (ls' := [some (.ref l0), some (.ref l1), some (.int l2), some (.int l3), some (.ref l4), none, some (.int l6), some (.int s0), none, none, none]) ⟨rfl, ⟨rfl, ⟨rfl, ⟨rfl, ⟨rfl, ⟨rfl, ⟨rfl, trivial⟩⟩⟩⟩⟩⟩⟩ (t_DrawList_quad_172 l0 l1 l2 l3 l4 l6 s0 M)
          · skip
            refine B_aload_n rfl ?_
            refine K_getRk 4 0 800 lf_DrawList_10 rfl rfl t1 r3 ?_
            refine K_getRk 0 0 0 lf_DrawList_48 rfl rfl t4 r6 ?_
            refine B_iload rfl ?_
            refine B_iconst (4 : Int32) ic_4 ?_
            refine B_iadd ?_
            refine K_iald t7 ?_
            refine B_iload_n rfl ?_
            refine B_ine (tgt := 172) (by decide) ?_ ?_
            · skip
              exact V_weak (ls' := [some (.ref l0), some (.ref l1), some (.int l2), some (.int l3), some (.ref l4), none, some (.int l6), some (.int s0), none, none, none]) ⟨rfl, ⟨rfl, ⟨rfl, ⟨rfl, ⟨rfl, ⟨rfl, ⟨rfl, trivial⟩⟩⟩⟩⟩⟩⟩ (t_DrawList_quad_172 l0 l1 l2 l3 l4 l6 s0 M)
            · skip
              refine B_iconst (1 : Int32) ic_1 ?_
              refine B_goto (tgt := 173) (by decide) ?_
              exact V_weak (ls' := [some (.ref l0), some (.ref l1), some (.int l2), some (.int l3), some (.ref l4), none, some (.int l6), some (.int s0), none, none, none]) ⟨rfl, ⟨rfl, ⟨rfl, ⟨rfl, ⟨rfl, ⟨rfl, ⟨rfl, trivial⟩⟩⟩⟩⟩⟩⟩ (t_DrawList_quad_173 l0 l1 l2 l3 l4 l6 s0 (1 : Int32) M)
set_option maxRecDepth 100000 in
def b_DrawList_quad_66 (G : GT) (l0 : Nat) (l1 : Nat) (l2 : Int32) (l3 : Int32) (l4 : Nat) (l5 : Int32) (l6 : Int32) (M : PH) : Option (PH) :=
  b_DrawList_quad_67 G l0 l1 l2 l3 l4 l5 l6 (0 : Int32) M
set_option maxRecDepth 100000 in
set_option maxHeartbeats 4000000 in
theorem t_DrawList_quad_66 {G : GT} (l0 : Nat) (l1 : Nat) (l2 : Int32) (l3 : Int32) (l4 : Nat) (l5 : Int32) (l6 : Int32) (M : PH) : VX G mi_DrawList_quad 3 47 66 [some (.ref l0), some (.ref l1), some (.int l2), some (.int l3), some (.ref l4), some (.int l5), some (.int l6), none, none, none, none] [] M qV (b_DrawList_quad_66 G l0 l1 l2 l3 l4 l5 l6 M) := by
  unfold b_DrawList_quad_66
  refine V_open ok_DrawList_quad_66 ?_
  refine B_iconst (0 : Int32) ic_0 ?_
  refine V_close ?_
  exact V_weak (ls' := [some (.ref l0), some (.ref l1), some (.int l2), some (.int l3), some (.ref l4), some (.int l5), some (.int l6), none, none, none, none]) ⟨rfl, ⟨rfl, ⟨rfl, ⟨rfl, ⟨rfl, ⟨rfl, ⟨rfl, trivial⟩⟩⟩⟩⟩⟩⟩ (t_DrawList_quad_67 l0 l1 l2 l3 l4 l5 l6 (0 : Int32) M)
set_option maxRecDepth 100000 in
def b_DrawList_quad_43 (G : GT) (l0 : Nat) (l1 : Nat) (l2 : Int32) (l3 : Int32) (l4 : Nat) (l5 : Int32) (s0 : Int32) (M : PH) : Option (PH) :=
  if l5 < 0 then (b_DrawList_quad_66 G l0 l1 l2 l3 l4 l5 s0 M) else (if hT M l0 = 4 then bI (f_DrawList_made G l0 M) fun v3 M2 => (if (64 : Int32) ≤ v3 - s0 then (b_DrawList_quad_66 G l0 l1 l2 l3 l4 l5 s0 M2) else (b_DrawList_quad_67 G l0 l1 l2 l3 l4 l5 s0 (1 : Int32) M2)) else none)
set_option maxRecDepth 100000 in
set_option maxHeartbeats 4000000 in
theorem t_DrawList_quad_43 {G : GT} (l0 : Nat) (l1 : Nat) (l2 : Int32) (l3 : Int32) (l4 : Nat) (l5 : Int32) (s0 : Int32) (M : PH) : VX G mi_DrawList_quad 3 47 43 [some (.ref l0), some (.ref l1), some (.int l2), some (.int l3), some (.ref l4), some (.int l5), none, none, none, none, none] [.int s0] M qV (b_DrawList_quad_43 G l0 l1 l2 l3 l4 l5 s0 M) := by
  unfold b_DrawList_quad_43
  refine V_open ok_DrawList_quad_43 ?_
  refine S_i [some (.ref l0), some (.ref l1), some (.int l2), some (.int l3), some (.ref l4), some (.int l5), some (.int s0), none, none, none, none] (by decide) rfl ?_
  refine B_iload rfl ?_
  refine B_lt (tgt := 66) (by decide) ?_ ?_
  · skip
    exact V_weak (ls' := [some (.ref l0), some (.ref l1), some (.int l2), some (.int l3), some (.ref l4), some (.int l5), some (.int s0), none, none, none, none]) ⟨rfl, ⟨rfl, ⟨rfl, ⟨rfl, ⟨rfl, ⟨rfl, ⟨rfl, trivial⟩⟩⟩⟩⟩⟩⟩ (t_DrawList_quad_66 l0 l1 l2 l3 l4 l5 s0 M)
  · skip
    refine B_aload_n rfl ?_
    refine B_chk (fun t1 => ?_)
    refine C_I (vs := [.ref l0]) (st := []) (ci_V lv_DrawList_52 rfl rfl t1) rfl rfl rfl (s_DrawList_made l0 M) (fun v3 M2 => ?_)
    refine B_iload rfl ?_
    refine B_isub ?_
    refine B_bipush (64 : Int32) bp_64 ?_
    refine B_ige (tgt := 66) (by decide) ?_ ?_
    · skip
      exact V_weak (ls' := [some (.ref l0), some (.ref l1), some (.int l2), some (.int l3), some (.ref l4), some (.int l5), some (.int s0), none, none, none, none]) ⟨rfl, ⟨rfl, ⟨rfl, ⟨rfl, ⟨rfl, ⟨rfl, ⟨rfl, trivial⟩⟩⟩⟩⟩⟩⟩ (t_DrawList_quad_66 l0 l1 l2 l3 l4 l5 s0 M2)
    · skip
      refine B_iconst (1 : Int32) ic_1 ?_
      refine B_goto (tgt := 67) (by decide) ?_
      exact V_weak (ls' := [some (.ref l0), some (.ref l1), some (.int l2), some (.int l3), some (.ref l4), some (.int l5), some (.int s0), none, none, none, none]) ⟨rfl, ⟨rfl, ⟨rfl, ⟨rfl, ⟨rfl, ⟨rfl, ⟨rfl, trivial⟩⟩⟩⟩⟩⟩⟩ (t_DrawList_quad_67 l0 l1 l2 l3 l4 l5 s0 (1 : Int32) M2)
set_option maxRecDepth 100000 in
def f_DrawList_quad (G : GT) (l0 : Nat) (l1 : Nat) (l2 : Int32) (l3 : Int32) (l4 : Nat) (M : PH) : Option (PH) :=
  if hT M l1 = 1 then bI (f_Rect_meets G l1 l4 M) fun v3 M2 => (if ¬ v3 = 0 then (if hT M2 l0 = 4 then (hR M2 800 l0).bind fun a5 => if hT M2 a5 = 0 then vb ((hI M2 1 a5) - (8 : Int32)) fun v8 => if 0 ≤ v8 then ((hR M2 0 a5).bind fun a9 => if hT M2 a9 = 16 then if ib (v8 + (5 : Int32)) (hN M2 a9) = true then b_DrawList_quad_43 G l0 l1 l2 l3 l4 v8 (hA M2 a9 (v8 + (5 : Int32)).toNatClampNeg) M2 else none else none) else (b_DrawList_quad_43 G l0 l1 l2 l3 l4 v8 (0 : Int32) M2) else none else none) else (some M2)) else none
set_option maxRecDepth 100000 in
set_option maxHeartbeats 4000000 in
theorem s_DrawList_quad {G : GT} (l0 : Nat) (l1 : Nat) (l2 : Int32) (l3 : Int32) (l4 : Nat) (M : PH) : VX G mi_DrawList_quad 3 47 0 [some (.ref l0), some (.ref l1), some (.int l2), some (.int l3), some (.ref l4), none, none, none, none, none, none] [] M qV (f_DrawList_quad G l0 l1 l2 l3 l4 M) := by
  unfold f_DrawList_quad
  refine V_open ok_DrawList_quad_0 ?_
  refine B_aload_n rfl ?_
  refine B_aload rfl ?_
  refine B_chk (fun t1 => ?_)
  refine C_I (vs := [.ref l1, .ref l4]) (st := []) (ci_V lv_DrawList_44 rfl rfl t1) rfl rfl rfl (s_Rect_meets l1 l4 M) (fun v3 M2 => ?_)
  refine B_ne (tgt := 10) (by decide) ?_ ?_
  · skip
    refine V_open ok_DrawList_quad_10 ?_
    refine B_aload_n rfl ?_
    refine B_chk (fun t4 => ?_)
    refine K_getR 4 0 800 lf_DrawList_10 rfl rfl t4 (fun a5 r6 => ?_)
    refine B_chk (fun t7 => ?_)
    refine K_getI 0 1 1 lf_DrawList_22 rfl rfl t7 ?_
    refine B_bipush (8 : Int32) bp_8 ?_
    refine B_isub ?_
    refine B_vb (fun v8 => ?_)
    refine S_i [some (.ref l0), some (.ref l1), some (.int l2), some (.int l3), some (.ref l4), some (.int v8), none, none, none, none, none] (by decide) rfl ?_
    refine B_iload rfl ?_
    refine B_ge (tgt := 31) (by decide) ?_ ?_
    · skip
      refine V_open ok_DrawList_quad_31 ?_
      refine B_aload_n rfl ?_
      refine K_getRk 4 0 800 lf_DrawList_10 rfl rfl t4 r6 ?_
      refine K_getR 0 0 0 lf_DrawList_48 rfl rfl t7 (fun a9 r10 => ?_)
      refine B_iload rfl ?_
      refine B_iconst (5 : Int32) ic_5 ?_
      refine B_iadd ?_
      refine B_chk (fun t11 => ?_)
      refine K_iald t11 ?_
      refine V_close ?_
      exact V_weak (ls' := [some (.ref l0), some (.ref l1), some (.int l2), some (.int l3), some (.ref l4), some (.int v8), none, none, none, none, none]) ⟨rfl, ⟨rfl, ⟨rfl, ⟨rfl, ⟨rfl, ⟨rfl, trivial⟩⟩⟩⟩⟩⟩ (t_DrawList_quad_43 l0 l1 l2 l3 l4 v8 (hA M2 a9 (v8 + (5 : Int32)).toNatClampNeg) M2)
    · skip
      refine B_iconst (0 : Int32) ic_0 ?_
      refine B_goto (tgt := 43) (by decide) ?_
      exact V_weak (ls' := [some (.ref l0), some (.ref l1), some (.int l2), some (.int l3), some (.ref l4), some (.int v8), none, none, none, none, none]) ⟨rfl, ⟨rfl, ⟨rfl, ⟨rfl, ⟨rfl, ⟨rfl, trivial⟩⟩⟩⟩⟩⟩ (t_DrawList_quad_43 l0 l1 l2 l3 l4 v8 (0 : Int32) M2)
  · skip
    exact B_vret rfl

-- PF_layout
theorem ok_PF_layout_0 : okb prog_1_method_18_code 0 [(.aload_n 0, 1), (.getfield 42, 3), (.aload_n 0, 1), (.getfield 114, 3), (.iconst 1, 1), (.isub, 1), (.aaload, 1), (.getfield 232, 3), (.areturn, 1)] = true := by decide +kernel
set_option maxRecDepth 100000 in
def f_PF_layout (G : GT) (l0 : Nat) (M : PH) : Option (Nat × PH) :=
  if hT M l0 = 10 then (hR M 2005 l0).bind fun a2 => if hT M a2 = 21 then if ib ((hI M 2006 l0) - (1 : Int32)) (hN M a2) = true then (hX M a2 ((hI M 2006 l0) - (1 : Int32)).toNatClampNeg).bind fun a5 => (if hT M a5 = 8 then (hR M 1605 a5).bind fun a7 => some (a7, M) else none) else none else none else none
set_option maxRecDepth 100000 in
set_option maxHeartbeats 4000000 in
theorem s_PF_layout {G : GT} (l0 : Nat) (M : PH) : VX G mi_PF_layout 0 0 0 [some (.ref l0)] [] M qR (f_PF_layout G l0 M) := by
  unfold f_PF_layout
  refine V_open ok_PF_layout_0 ?_
  refine B_aload_n rfl ?_
  refine B_chk (fun t1 => ?_)
  refine K_getR 10 5 2005 lf_PF_42 rfl rfl t1 (fun a2 r3 => ?_)
  refine B_aload_n rfl ?_
  refine K_getI 10 6 2006 lf_PF_114 rfl rfl t1 ?_
  refine B_iconst (1 : Int32) ic_1 ?_
  refine B_isub ?_
  refine B_chk (fun t4 => ?_)
  refine K_aald 21 rfl t4 (fun a5 => ?_)
  refine B_chk (fun t6 => ?_)
  refine K_getR 8 5 1605 lf_PF_232 rfl rfl t6 (fun a7 r8 => ?_)
  exact B_aret rfl (Or.inl ⟨_, rfl⟩)

-- PF_clip
theorem ok_PF_clip_0 : okb prog_1_method_19_code 0 [(.aload_n 0, 1), (.getfield 42, 3), (.aload_n 0, 1), (.getfield 114, 3), (.iconst 1, 1), (.isub, 1), (.aaload, 1), (.getfield 236, 3), (.areturn, 1)] = true := by decide +kernel
set_option maxRecDepth 100000 in
def f_PF_clip (G : GT) (l0 : Nat) (M : PH) : Option (Nat × PH) :=
  if hT M l0 = 10 then (hR M 2005 l0).bind fun a2 => if hT M a2 = 21 then if ib ((hI M 2006 l0) - (1 : Int32)) (hN M a2) = true then (hX M a2 ((hI M 2006 l0) - (1 : Int32)).toNatClampNeg).bind fun a5 => (if hT M a5 = 8 then (hR M 1604 a5).bind fun a7 => some (a7, M) else none) else none else none else none
set_option maxRecDepth 100000 in
set_option maxHeartbeats 4000000 in
theorem s_PF_clip {G : GT} (l0 : Nat) (M : PH) : VX G mi_PF_clip 0 0 0 [some (.ref l0)] [] M qR (f_PF_clip G l0 M) := by
  unfold f_PF_clip
  refine V_open ok_PF_clip_0 ?_
  refine B_aload_n rfl ?_
  refine B_chk (fun t1 => ?_)
  refine K_getR 10 5 2005 lf_PF_42 rfl rfl t1 (fun a2 r3 => ?_)
  refine B_aload_n rfl ?_
  refine K_getI 10 6 2006 lf_PF_114 rfl rfl t1 ?_
  refine B_iconst (1 : Int32) ic_1 ?_
  refine B_isub ?_
  refine B_chk (fun t4 => ?_)
  refine K_aald 21 rfl t4 (fun a5 => ?_)
  refine B_chk (fun t6 => ?_)
  refine K_getR 8 4 1604 lf_PF_236 rfl rfl t6 (fun a7 r8 => ?_)
  exact B_aret rfl (Or.inl ⟨_, rfl⟩)

-- PF_push
theorem ok_PF_push_0 : okb prog_1_method_21_code 0 [(.aload_n 0, 1), (.getfield 42, 3), (.aload_n 0, 1), (.getfield 114, 3), (.aaload, 1), (.astore_n 3, 1), (.aload_n 3, 1), (.iload_n 1, 1), (.putfield 242, 3), (.aload_n 3, 1), (.iload_n 2, 1), (.putfield 225, 3), (.aload_n 3, 1), (.iload_n 1, 1), (.iconst 2, 1), (.if_icmp .eq 8, 3), (.iload_n 1, 1), (.iconst 3, 1), (.if_icmp .ne 10, 3)] = true := by decide +kernel
theorem ok_PF_push_31 : okb prog_1_method_21_code 31 [(.aload_n 0, 1), (.invokevirtual 245, 3), (.goto 7, 3)] = true := by decide +kernel
theorem ok_PF_push_38 : okb prog_1_method_21_code 38 [(.aload_n 3, 1), (.getfield 248, 3)] = true := by decide +kernel
theorem ok_PF_push_42 : okb prog_1_method_21_code 42 [(.putfield 232, 3), (.aload_n 0, 1), (.getfield 114, 3), (.ifCond .le 14, 3), (.aload_n 3, 1), (.getfield 236, 3), (.aload_n 0, 1), (.invokevirtual 251, 3), (.invokevirtual 254, 3)] = true := by decide +kernel
theorem ok_PF_push_63 : okb prog_1_method_21_code 63 [(.aload_n 0, 1), (.dup, 1), (.getfield 114, 3), (.iconst 1, 1), (.iadd, 1), (.putfield 114, 3), (.aload_n 3, 1), (.areturn, 1)] = true := by decide +kernel
set_option maxRecDepth 100000 in
def b_PF_push_63 (G : GT) (l0 : Nat) (l3 : Nat) (M : PH) : Option (Nat × PH) :=
  if hT M l0 = 10 then hb (sI M 2006 l0 ((hI M 2006 l0) + (1 : Int32))) fun M3 => some (l3, M3) else none
set_option maxRecDepth 100000 in
set_option maxHeartbeats 4000000 in
theorem t_PF_push_63 {G : GT} (l0 : Nat) (l3 : Nat) (M : PH) : VX G mi_PF_push 2 29 63 [some (.ref l0), none, none, some (.ref l3)] [] M qR (b_PF_push_63 G l0 l3 M) := by
  unfold b_PF_push_63
  refine V_open ok_PF_push_63 ?_
  refine B_aload_n rfl ?_
  refine B_dup rfl ?_
  refine B_chk (fun t1 => ?_)
  refine K_getI 10 6 2006 lf_PF_114 rfl rfl t1 ?_
  refine B_iconst (1 : Int32) ic_1 ?_
  refine B_iadd ?_
  refine K_putI 10 6 2006 lf_PF_114 rfl (Or.inl rfl) rfl t1 (fun M3 e2 => ?_)
  refine B_aload_n rfl ?_
  exact B_aret rfl (Or.inl ⟨_, rfl⟩)
set_option maxRecDepth 100000 in
def b_PF_push_42 (G : GT) (l0 : Nat) (l3 : Nat) (s0 : Nat) (s1 : Nat) (M : PH) : Option (Nat × PH) :=
  if hT M s0 = 8 then hb (sR M 1605 s0 (some s1)) fun M3 => if hT M3 l0 = 10 then if hI M3 2006 l0 ≤ 0 then (b_PF_push_63 G l0 l3 M3) else (if hT M3 l3 = 8 then (hR M3 1604 l3).bind fun a6 => bR (f_PF_clip G l0 M3) fun a9 M8 => (if hT M8 a6 = 1 then bV (f_Rect_be2 G a6 a9 M8) fun M11 => (b_PF_push_63 G l0 l3 M11) else none) else none) else none else none
set_option maxRecDepth 100000 in
set_option maxHeartbeats 4000000 in
theorem t_PF_push_42 {G : GT} (l0 : Nat) (l3 : Nat) (s0 : Nat) (s1 : Nat) (M : PH) : VX G mi_PF_push 2 29 42 [some (.ref l0), none, none, some (.ref l3)] [.ref s1, .ref s0] M qR (b_PF_push_42 G l0 l3 s0 s1 M) := by
  unfold b_PF_push_42
  refine V_open ok_PF_push_42 ?_
  refine B_chk (fun t1 => ?_)
  refine K_putR 8 5 1605 lf_PF_232 rfl (Or.inl rfl) rfl t1 (fun M3 e2 => ?_)
  refine B_aload_n rfl ?_
  refine B_chk (fun t4 => ?_)
  refine K_getI 10 6 2006 lf_PF_114 rfl rfl t4 ?_
  refine B_le (tgt := 63) (by decide) ?_ ?_
  · skip
    exact V_weak (ls' := [some (.ref l0), none, none, some (.ref l3)]) ⟨rfl, ⟨rfl, trivial⟩⟩ (t_PF_push_63 l0 l3 M3)
  · skip
    refine B_aload_n rfl ?_
    refine B_chk (fun t5 => ?_)
    refine K_getR 8 4 1604 lf_PF_236 rfl rfl t5 (fun a6 r7 => ?_)
    refine B_aload_n rfl ?_
    refine C_R (vs := [.ref l0]) (st := [.ref a6]) (ci_V lv_PF_251 rfl rfl t4) rfl rfl rfl (s_PF_clip l0 M3) (fun a9 M8 => ?_)
    refine B_chk (fun t10 => ?_)
    refine C_V (vs := [.ref a6, .ref a9]) (st := []) (ci_V lv_PF_254 rfl rfl t10) rfl rfl rfl (s_Rect_be2 a6 a9 M8) (fun M11 => ?_)
    refine V_close ?_
    exact V_weak (ls' := [some (.ref l0), none, none, some (.ref l3)]) ⟨rfl, ⟨rfl, trivial⟩⟩ (t_PF_push_63 l0 l3 M11)
set_option maxRecDepth 100000 in
def b_PF_push_31 (G : GT) (l0 : Nat) (l3 : Nat) (s0 : Nat) (M : PH) : Option (Nat × PH) :=
  if hT M l0 = 10 then bR (f_PF_layout G l0 M) fun a3 M2 => (b_PF_push_42 G l0 l3 s0 a3 M2) else none
set_option maxRecDepth 100000 in
set_option maxHeartbeats 4000000 in
theorem t_PF_push_31 {G : GT} (l0 : Nat) (l3 : Nat) (s0 : Nat) (M : PH) : VX G mi_PF_push 2 29 31 [some (.ref l0), none, none, some (.ref l3)] [.ref s0] M qR (b_PF_push_31 G l0 l3 s0 M) := by
  unfold b_PF_push_31
  refine V_open ok_PF_push_31 ?_
  refine B_aload_n rfl ?_
  refine B_chk (fun t1 => ?_)
  refine C_R (vs := [.ref l0]) (st := [.ref s0]) (ci_V lv_PF_245 rfl rfl t1) rfl rfl rfl (s_PF_layout l0 M) (fun a3 M2 => ?_)
  refine B_goto (tgt := 42) (by decide) ?_
  exact V_weak (ls' := [some (.ref l0), none, none, some (.ref l3)]) ⟨rfl, ⟨rfl, trivial⟩⟩ (t_PF_push_42 l0 l3 s0 a3 M2)
set_option maxRecDepth 100000 in
def f_PF_push (G : GT) (l0 : Nat) (l1 : Int32) (l2 : Int32) (M : PH) : Option (Nat × PH) :=
  if hT M l0 = 10 then (hR M 2005 l0).bind fun a2 => if hT M a2 = 21 then if ib (hI M 2006 l0) (hN M a2) = true then (hX M a2 (hI M 2006 l0).toNatClampNeg).bind fun a5 => (if hT M a5 = 8 then hb (sI M 1600 a5 l1) fun M8 => hb (sI M8 1601 a5 l2) fun M11 => if l1 = (2 : Int32) then (b_PF_push_31 G l0 a5 a5 M11) else (if ¬ l1 = (3 : Int32) then ((hR M11 1603 a5).bind fun a13 => b_PF_push_42 G l0 a5 a5 a13 M11) else (b_PF_push_31 G l0 a5 a5 M11)) else none) else none else none else none
set_option maxRecDepth 100000 in
set_option maxHeartbeats 4000000 in
theorem s_PF_push {G : GT} (l0 : Nat) (l1 : Int32) (l2 : Int32) (M : PH) : VX G mi_PF_push 2 29 0 [some (.ref l0), some (.int l1), some (.int l2), none] [] M qR (f_PF_push G l0 l1 l2 M) := by
  unfold f_PF_push
  refine V_open ok_PF_push_0 ?_
  refine B_aload_n rfl ?_
  refine B_chk (fun t1 => ?_)
  refine K_getR 10 5 2005 lf_PF_42 rfl rfl t1 (fun a2 r3 => ?_)
  refine B_aload_n rfl ?_
  refine K_getI 10 6 2006 lf_PF_114 rfl rfl t1 ?_
  refine B_chk (fun t4 => ?_)
  refine K_aald 21 rfl t4 (fun a5 => ?_)
  refine S_an [some (.ref l0), some (.int l1), some (.int l2), some (.ref a5)] (by decide) rfl ?_
  refine B_aload_n rfl ?_
  refine B_iload_n rfl ?_
  refine B_chk (fun t6 => ?_)
  refine K_putI 8 0 1600 lf_PF_242 rfl (Or.inl rfl) rfl t6 (fun M8 e7 => ?_)
  refine B_aload_n rfl ?_
  refine B_iload_n rfl ?_
  have h9 : hT M8 a5 = 8 := by rw [e7]; exact t6
  refine K_putI 8 1 1601 lf_PF_225 rfl (Or.inl rfl) rfl h9 (fun M11 e10 => ?_)
  refine B_aload_n rfl ?_
  refine B_iload_n rfl ?_
  refine B_iconst (2 : Int32) ic_2 ?_
  refine B_ieq (tgt := 31) (by decide) ?_ ?_
  · skip
    exact V_weak (ls' := [some (.ref l0), none, none, some (.ref a5)]) ⟨rfl, ⟨rfl, trivial⟩⟩ (t_PF_push_31 l0 a5 a5 M11)
  · skip
    refine B_iload_n rfl ?_
    refine B_iconst (3 : Int32) ic_3 ?_
    refine B_ine (tgt := 38) (by decide) ?_ ?_
    · skip
      refine V_open ok_PF_push_38 ?_
      refine B_aload_n rfl ?_
      have h12 : hT M11 a5 = 8 := by rw [e10]; exact h9
      refine K_getR 8 3 1603 lf_PF_248 rfl rfl h12 (fun a13 r14 => ?_)
      refine V_close ?_
      exact V_weak (ls' := [some (.ref l0), none, none, some (.ref a5)]) ⟨rfl, ⟨rfl, trivial⟩⟩ (t_PF_push_42 l0 a5 a5 a13 M11)
    · skip
      refine V_close ?_
      exact V_weak (ls' := [some (.ref l0), none, none, some (.ref a5)]) ⟨rfl, ⟨rfl, trivial⟩⟩ (t_PF_push_31 l0 a5 a5 M11)

-- Layout_be
theorem ok_Layout_be_0 : okb prog_5_method_2_code 0 [(.aload_n 0, 1), (.iload_n 1, 1), (.putfield 7, 3), (.aload_n 0, 1), (.iload_n 2, 1), (.putfield 13, 3), (.aload_n 0, 1), (.iconst 0, 1), (.putfield 16, 3), (.aload_n 0, 1), (.iload_n 2, 1), (.putfield 19, 3), (.aload_n 0, 1), (.iload_n 1, 1), (.putfield 22, 3), (.aload_n 0, 1), (.iload_n 2, 1), (.putfield 25, 3), (.aload_n 0, 1), (.iconst 0, 1), (.putfield 28, 3), (.aload_n 0, 1), (.iconst 0, 1), (.putfield 32, 3), (.return_, 1)] = true := by decide +kernel
set_option maxRecDepth 100000 in
def f_Layout_be (G : GT) (l0 : Nat) (l1 : Int32) (l2 : Int32) (M : PH) : Option (PH) :=
  if hT M l0 = 5 then hb (sI M 1000 l0 l1) fun M3 => hb (sI M3 1001 l0 l2) fun M6 => hb (sI M6 1002 l0 (0 : Int32)) fun M9 => hb (sI M9 1003 l0 l2) fun M12 => hb (sI M12 1007 l0 l1) fun M15 => hb (sI M15 1008 l0 l2) fun M18 => hb (sI M18 1009 l0 (0 : Int32)) fun M21 => hb (sI M21 1010 l0 (0 : Int32)) fun M24 => some M24 else none
set_option maxRecDepth 100000 in
set_option maxHeartbeats 4000000 in
theorem s_Layout_be {G : GT} (l0 : Nat) (l1 : Int32) (l2 : Int32) (M : PH) : VX G mi_Layout_be 0 0 0 [some (.ref l0), some (.int l1), some (.int l2)] [] M qV (f_Layout_be G l0 l1 l2 M) := by
  unfold f_Layout_be
  refine V_open ok_Layout_be_0 ?_
  refine B_aload_n rfl ?_
  refine B_iload_n rfl ?_
  refine B_chk (fun t1 => ?_)
  refine K_putI 5 0 1000 lf_Layout_7 rfl (Or.inl rfl) rfl t1 (fun M3 e2 => ?_)
  refine B_aload_n rfl ?_
  refine B_iload_n rfl ?_
  have h4 : hT M3 l0 = 5 := by rw [e2]; exact t1
  refine K_putI 5 1 1001 lf_Layout_13 rfl (Or.inl rfl) rfl h4 (fun M6 e5 => ?_)
  refine B_aload_n rfl ?_
  refine B_iconst (0 : Int32) ic_0 ?_
  have h7 : hT M6 l0 = 5 := by rw [e5]; exact h4
  refine K_putI 5 2 1002 lf_Layout_16 rfl (Or.inl rfl) rfl h7 (fun M9 e8 => ?_)
  refine B_aload_n rfl ?_
  refine B_iload_n rfl ?_
  have h10 : hT M9 l0 = 5 := by rw [e8]; exact h7
  refine K_putI 5 3 1003 lf_Layout_19 rfl (Or.inl rfl) rfl h10 (fun M12 e11 => ?_)
  refine B_aload_n rfl ?_
  refine B_iload_n rfl ?_
  have h13 : hT M12 l0 = 5 := by rw [e11]; exact h10
  refine K_putI 5 7 1007 lf_Layout_22 rfl (Or.inl rfl) rfl h13 (fun M15 e14 => ?_)
  refine B_aload_n rfl ?_
  refine B_iload_n rfl ?_
  have h16 : hT M15 l0 = 5 := by rw [e14]; exact h13
  refine K_putI 5 8 1008 lf_Layout_25 rfl (Or.inl rfl) rfl h16 (fun M18 e17 => ?_)
  refine B_aload_n rfl ?_
  refine B_iconst (0 : Int32) ic_0 ?_
  have h19 : hT M18 l0 = 5 := by rw [e17]; exact h16
  refine K_putZ 5 9 1009 lf_Layout_28 rfl (Or.inl rfl) rfl h19 (Or.inl rfl) (fun M21 e20 => ?_)
  refine B_aload_n rfl ?_
  refine B_iconst (0 : Int32) ic_0 ?_
  have h22 : hT M21 l0 = 5 := by rw [e20]; exact h19
  refine K_putZ 5 10 1010 lf_Layout_32 rfl (Or.inl rfl) rfl h22 (Or.inl rfl) (fun M24 e23 => ?_)
  exact B_vret rfl

-- PF_tell
theorem ok_PF_tell_0 : okb prog_1_method_25_code 0 [(.aload_n 1, 1), (.iload_n 2, 1), (.iload_n 3, 1), (.invokevirtual 288, 3), (.aload_n 1, 1), (.iconst 1, 1), (.putfield 123, 3), (.aload_n 1, 1), (.getfield 209, 3), (.invokevirtual 206, 3), (.aload_n 1, 1), (.getfield 281, 3), (.bipush 8, 2), (.if_icmp .ne 7, 3), (.iconst 0, 1), (.goto 5, 3)] = true := by decide +kernel
theorem ok_PF_tell_31 : okb prog_1_method_25_code 31 [(.bipush 12, 2)] = true := by decide +kernel
theorem ok_PF_tell_33 : okb prog_1_method_25_code 33 [(.istore 4, 2), (.aload_n 0, 1), (.getfield 46, 3), (.aload_n 1, 1), (.getfield 281, 3), (.if_icmp .ne 14, 3), (.aload_n 0, 1), (.getfield 68, 3), (.ifCond .ge 7, 3), (.iconst 1, 1), (.goto 4, 3)] = true := by decide +kernel
theorem ok_PF_tell_57 : okb prog_1_method_25_code 57 [(.iconst 0, 1)] = true := by decide +kernel
theorem ok_PF_tell_58 : okb prog_1_method_25_code 58 [(.istore 5, 2), (.aload_n 1, 1), (.getfield 291, 3), (.aload_n 1, 1), (.getfield 291, 3), (.getfield 295, 3), (.iload 5, 2), (.ifCond .eq 16, 3), (.bipush 10, 2), (.aload_n 0, 1), (.getfield 10, 3), (.getfield 298, 3), (.imul, 1), (.goto 4, 3)] = true := by decide +kernel
theorem ok_PF_tell_89 : okb prog_1_method_25_code 89 [(.iconst 0, 1)] = true := by decide +kernel
theorem ok_PF_tell_90 : okb prog_1_method_25_code 90 [(.iadd, 1), (.iload_n 3, 1), (.iload 4, 2), (.isub, 1), (.invokevirtual 301, 3), (.aload_n 0, 1), (.getfield 76, 3), (.aload_n 1, 1), (.getfield 182, 3), (.invokevirtual 254, 3), (.aload_n 0, 1), (.getfield 76, 3), (.aload_n 0, 1), (.getfield 79, 3), (.invokevirtual 304, 3), (.aload_n 1, 1), (.getfield 209, 3), (.aload_n 1, 1), (.getfield 182, 3), (.iconst 1, 1), (.iconst 0, 1), (.aload_n 0, 1), (.getfield 76, 3), (.invokevirtual 307, 3), (.iload 4, 2), (.ifCond .le 58, 3), (.aload_n 0, 1), (.getfield 82, 3), (.aload_n 1, 1), (.getfield 182, 3), (.getfield 191, 3), (.aload_n 1, 1), (.getfield 182, 3), (.getfield 194, 3), (.aload_n 1, 1), (.getfield 182, 3), (.getfield 197, 3), (.aload_n 1, 1), (.getfield 182, 3), (.getfield 194, 3), (.bipush 12, 2), (.iadd, 1), (.invokevirtual 97, 3), (.aload_n 1, 1), (.getfield 209, 3), (.aload_n 0, 1), (.getfield 82, 3), (.iconst 2, 1), (.iconst 0, 1), (.aload_n 0, 1), (.getfield 76, 3), (.invokevirtual 307, 3)] = true := by decide +kernel
theorem ok_PF_tell_197 : okb prog_1_method_25_code 197 [(.aload_n 0, 1), (.iconst 0, 1), (.aload_n 1, 1), (.invokevirtual 277, 3), (.invokevirtual 311, 3), (.astore 6, 2), (.aload 6, 2), (.aload_n 1, 1), (.getfield 281, 3), (.putfield 239, 3), (.aload 6, 2), (.getfield 236, 3), (.aload_n 1, 1), (.getfield 182, 3), (.getfield 191, 3), (.aload_n 1, 1), (.getfield 182, 3), (.getfield 194, 3), (.iload 4, 2), (.iadd, 1), (.aload_n 1, 1), (.getfield 182, 3), (.getfield 197, 3), (.aload_n 1, 1), (.getfield 182, 3), (.getfield 200, 3), (.invokevirtual 97, 3), (.aload 6, 2), (.getfield 236, 3), (.aload_n 0, 1), (.getfield 79, 3), (.invokevirtual 304, 3), (.aload 6, 2), (.getfield 232, 3), (.aload_n 1, 1), (.getfield 182, 3), (.getfield 191, 3), (.iconst 4, 1), (.iadd, 1), (.aload_n 1, 1), (.getfield 182, 3), (.getfield 194, 3), (.iload 4, 2), (.iadd, 1), (.iconst 4, 1), (.iadd, 1), (.aload_n 1, 1), (.getfield 291, 3), (.getfield 295, 3), (.isub, 1), (.invokevirtual 315, 3), (.return_, 1)] = true := by decide +kernel
set_option maxRecDepth 100000 in
def b_PF_tell_197 (G : GT) (l0 : Nat) (l1 : Nat) (l4 : Int32) (M : PH) : Option (PH) :=
  if hT M l1 = 7 then bI (f_Panel_id G l1 M) fun v3 M2 => (if hT M2 l0 = 10 then bR (f_PF_push G l0 (0 : Int32) v3 M2) fun a6 M5 => (if hT M5 l1 = 7 then if hT M5 a6 = 8 then hb (sI M5 1602 a6 (hI M5 1400 l1)) fun M10 => (hR M10 1604 a6).bind fun a12 => (hR M10 1401 l1).bind fun a15 => if hT M10 a15 = 1 then if hT M10 a12 = 1 then bV (f_Rect_be G a12 (hI M10 200 a15) ((hI M10 201 a15) + l4) (hI M10 202 a15) (hI M10 203 a15) M10) fun M19 => (if hT M19 a6 = 8 then (hR M19 1604 a6).bind fun a21 => if hT M19 l0 = 10 then (hR M19 2022 l0).bind fun a24 => if hT M19 a21 = 1 then bV (f_Rect_meet G a21 a24 M19) fun M27 => (if hT M27 a6 = 8 then (hR M27 1605 a6).bind fun a29 => if hT M27 l1 = 7 then (hR M27 1401 l1).bind fun a32 => if hT M27 a32 = 1 then (hR M27 1402 l1).bind fun a35 => if hT M27 a35 = 6 then if hT M27 a29 = 5 then bV (f_Layout_be G a29 ((hI M27 200 a32) + (4 : Int32)) ((((hI M27 201 a32) + l4) + (4 : Int32)) - (hI M27 1200 a35)) M27) fun M39 => (some M39) else none else none else none else none else none) else none else none else none) else none else none else none else none) else none) else none
set_option maxRecDepth 100000 in
set_option maxHeartbeats 4000000 in
theorem t_PF_tell_197 {G : GT} (l0 : Nat) (l1 : Nat) (l4 : Int32) (M : PH) : VX G mi_PF_tell 4 69 197 [some (.ref l0), some (.ref l1), none, none, some (.int l4), none, none] [] M qV (b_PF_tell_197 G l0 l1 l4 M) := by
  unfold b_PF_tell_197
  refine V_open ok_PF_tell_197 ?_
  refine B_aload_n rfl ?_
  refine B_iconst (0 : Int32) ic_0 ?_
  refine B_aload_n rfl ?_
  refine B_chk (fun t1 => ?_)
  refine C_I (vs := [.ref l1]) (st := [.int (0 : Int32), .ref l0]) (ci_V lv_PF_277 rfl rfl t1) rfl rfl rfl (s_Panel_id l1 M) (fun v3 M2 => ?_)
  refine B_chk (fun t4 => ?_)
  refine C_R (vs := [.ref l0, .int (0 : Int32), .int v3]) (st := []) (ci_V lv_PF_311 rfl rfl t4) rfl rfl rfl (s_PF_push l0 (0 : Int32) v3 M2) (fun a6 M5 => ?_)
  refine S_a [some (.ref l0), some (.ref l1), none, none, some (.int l4), none, some (.ref a6)] (by decide) rfl ?_
  refine B_aload rfl ?_
  refine B_aload_n rfl ?_
  refine B_chk (fun t7 => ?_)
  refine K_getI 7 0 1400 lf_PF_281 rfl rfl t7 ?_
  refine B_chk (fun t8 => ?_)
  refine K_putI 8 2 1602 lf_PF_239 rfl (Or.inl rfl) rfl t8 (fun M10 e9 => ?_)
  refine B_aload rfl ?_
  have h11 : hT M10 a6 = 8 := by rw [e9]; exact t8
  refine K_getR 8 4 1604 lf_PF_236 rfl rfl h11 (fun a12 r13 => ?_)
  refine B_aload_n rfl ?_
  have h14 : hT M10 l1 = 7 := by rw [e9]; exact t7
  refine K_getR 7 1 1401 lf_PF_182 rfl rfl h14 (fun a15 r16 => ?_)
  refine B_chk (fun t17 => ?_)
  refine K_getI 1 0 200 lf_PF_191 rfl rfl t17 ?_
  refine B_aload_n rfl ?_
  refine K_getRk 7 1 1401 lf_PF_182 rfl rfl h14 r16 ?_
  refine K_getI 1 1 201 lf_PF_194 rfl rfl t17 ?_
  refine B_iload rfl ?_
  refine B_iadd ?_
  refine B_aload_n rfl ?_
  refine K_getRk 7 1 1401 lf_PF_182 rfl rfl h14 r16 ?_
  refine K_getI 1 2 202 lf_PF_197 rfl rfl t17 ?_
  refine B_aload_n rfl ?_
  refine K_getRk 7 1 1401 lf_PF_182 rfl rfl h14 r16 ?_
  refine K_getI 1 3 203 lf_PF_200 rfl rfl t17 ?_
  refine B_chk (fun t18 => ?_)
  refine C_V (vs := [.ref a12, .int (hI M10 200 a15), .int ((hI M10 201 a15) + l4), .int (hI M10 202 a15), .int (hI M10 203 a15)]) (st := []) (ci_V lv_PF_97 rfl rfl t18) rfl rfl rfl (s_Rect_be a12 (hI M10 200 a15) ((hI M10 201 a15) + l4) (hI M10 202 a15) (hI M10 203 a15) M10) (fun M19 => ?_)
  refine B_aload rfl ?_
  refine B_chk (fun t20 => ?_)
  refine K_getR 8 4 1604 lf_PF_236 rfl rfl t20 (fun a21 r22 => ?_)
  refine B_aload_n rfl ?_
  refine B_chk (fun t23 => ?_)
  refine K_getR 10 22 2022 lf_PF_79 rfl rfl t23 (fun a24 r25 => ?_)
  refine B_chk (fun t26 => ?_)
  refine C_V (vs := [.ref a21, .ref a24]) (st := []) (ci_V lv_PF_304 rfl rfl t26) rfl rfl rfl (s_Rect_meet a21 a24 M19) (fun M27 => ?_)
  refine B_aload rfl ?_
  refine B_chk (fun t28 => ?_)
  refine K_getR 8 5 1605 lf_PF_232 rfl rfl t28 (fun a29 r30 => ?_)
  refine B_aload_n rfl ?_
  refine B_chk (fun t31 => ?_)
  refine K_getR 7 1 1401 lf_PF_182 rfl rfl t31 (fun a32 r33 => ?_)
  refine B_chk (fun t34 => ?_)
  refine K_getI 1 0 200 lf_PF_191 rfl rfl t34 ?_
  refine B_iconst (4 : Int32) ic_4 ?_
  refine B_iadd ?_
  refine B_aload_n rfl ?_
  refine K_getRk 7 1 1401 lf_PF_182 rfl rfl t31 r33 ?_
  refine K_getI 1 1 201 lf_PF_194 rfl rfl t34 ?_
  refine B_iload rfl ?_
  refine B_iadd ?_
  refine B_iconst (4 : Int32) ic_4 ?_
  refine B_iadd ?_
  refine B_aload_n rfl ?_
  refine K_getR 7 2 1402 lf_PF_291 rfl rfl t31 (fun a35 r36 => ?_)
  refine B_chk (fun t37 => ?_)
  refine K_getI 6 0 1200 lf_PF_295 rfl rfl t37 ?_
  refine B_isub ?_
  refine B_chk (fun t38 => ?_)
  refine C_V (vs := [.ref a29, .int ((hI M27 200 a32) + (4 : Int32)), .int ((((hI M27 201 a32) + l4) + (4 : Int32)) - (hI M27 1200 a35))]) (st := []) (ci_V lv_PF_315 rfl rfl t38) rfl rfl rfl (s_Layout_be a29 ((hI M27 200 a32) + (4 : Int32)) ((((hI M27 201 a32) + l4) + (4 : Int32)) - (hI M27 1200 a35)) M27) (fun M39 => ?_)
  exact B_vret rfl
set_option maxRecDepth 100000 in
def b_PF_tell_90 (G : GT) (l0 : Nat) (l1 : Nat) (l3 : Int32) (l4 : Int32) (s0 : Nat) (s1 : Int32) (s2 : Int32) (M : PH) : Option (PH) :=
  if hT M s0 = 6 then bV (f_Scroll_to G s0 (s1 + s2) (l3 - l4) M) fun M2 => (if hT M2 l0 = 10 then (hR M2 2021 l0).bind fun a4 => if hT M2 l1 = 7 then (hR M2 1401 l1).bind fun a7 => if hT M2 a4 = 1 then bV (f_Rect_be2 G a4 a7 M2) fun M10 => (if hT M10 l0 = 10 then (hR M10 2021 l0).bind fun a12 => (hR M10 2022 l0).bind fun a14 => if hT M10 a12 = 1 then bV (f_Rect_meet G a12 a14 M10) fun M17 => (if hT M17 l1 = 7 then (hR M17 1403 l1).bind fun a19 => (hR M17 1401 l1).bind fun a21 => if hT M17 l0 = 10 then (hR M17 2021 l0).bind fun a24 => if hT M17 a19 = 4 then bV (f_DrawList_quad G a19 a21 (1 : Int32) (0 : Int32) a24 M17) fun M27 => (if l4 ≤ 0 then (b_PF_tell_197 G l0 l1 l4 M27) else (if hT M27 l0 = 10 then (hR M27 2023 l0).bind fun a29 => if hT M27 l1 = 7 then (hR M27 1401 l1).bind fun a32 => if hT M27 a32 = 1 then if hT M27 a29 = 1 then bV (f_Rect_be G a29 (hI M27 200 a32) (hI M27 201 a32) (hI M27 202 a32) ((hI M27 201 a32) + (12 : Int32)) M27) fun M36 => (if hT M36 l1 = 7 then (hR M36 1403 l1).bind fun a38 => if hT M36 l0 = 10 then (hR M36 2023 l0).bind fun a41 => (hR M36 2021 l0).bind fun a43 => if hT M36 a38 = 4 then bV (f_DrawList_quad G a38 a41 (2 : Int32) (0 : Int32) a43 M36) fun M46 => (b_PF_tell_197 G l0 l1 l4 M46) else none else none else none) else none else none else none else none)) else none else none else none) else none else none) else none else none else none) else none
set_option maxRecDepth 100000 in
set_option maxHeartbeats 4000000 in
theorem t_PF_tell_90 {G : GT} (l0 : Nat) (l1 : Nat) (l3 : Int32) (l4 : Int32) (s0 : Nat) (s1 : Int32) (s2 : Int32) (M : PH) : VX G mi_PF_tell 4 69 90 [some (.ref l0), some (.ref l1), none, some (.int l3), some (.int l4), none, none] [.int s2, .int s1, .ref s0] M qV (b_PF_tell_90 G l0 l1 l3 l4 s0 s1 s2 M) := by
  unfold b_PF_tell_90
  refine V_open ok_PF_tell_90 ?_
  refine B_iadd ?_
  refine B_iload_n rfl ?_
  refine B_iload rfl ?_
  refine B_isub ?_
  refine B_chk (fun t1 => ?_)
  refine C_V (vs := [.ref s0, .int (s1 + s2), .int (l3 - l4)]) (st := []) (ci_V lv_PF_301 rfl rfl t1) rfl rfl rfl (s_Scroll_to s0 (s1 + s2) (l3 - l4) M) (fun M2 => ?_)
  refine B_aload_n rfl ?_
  refine B_chk (fun t3 => ?_)
  refine K_getR 10 21 2021 lf_PF_76 rfl rfl t3 (fun a4 r5 => ?_)
  refine B_aload_n rfl ?_
  refine B_chk (fun t6 => ?_)
  refine K_getR 7 1 1401 lf_PF_182 rfl rfl t6 (fun a7 r8 => ?_)
  refine B_chk (fun t9 => ?_)
  refine C_V (vs := [.ref a4, .ref a7]) (st := []) (ci_V lv_PF_254 rfl rfl t9) rfl rfl rfl (s_Rect_be2 a4 a7 M2) (fun M10 => ?_)
  refine B_aload_n rfl ?_
  refine B_chk (fun t11 => ?_)
  refine K_getR 10 21 2021 lf_PF_76 rfl rfl t11 (fun a12 r13 => ?_)
  refine B_aload_n rfl ?_
  refine K_getR 10 22 2022 lf_PF_79 rfl rfl t11 (fun a14 r15 => ?_)
  refine B_chk (fun t16 => ?_)
  refine C_V (vs := [.ref a12, .ref a14]) (st := []) (ci_V lv_PF_304 rfl rfl t16) rfl rfl rfl (s_Rect_meet a12 a14 M10) (fun M17 => ?_)
  refine B_aload_n rfl ?_
  refine B_chk (fun t18 => ?_)
  refine K_getR 7 3 1403 lf_PF_209 rfl rfl t18 (fun a19 r20 => ?_)
  refine B_aload_n rfl ?_
  refine K_getR 7 1 1401 lf_PF_182 rfl rfl t18 (fun a21 r22 => ?_)
  refine B_iconst (1 : Int32) ic_1 ?_
  refine B_iconst (0 : Int32) ic_0 ?_
  refine B_aload_n rfl ?_
  refine B_chk (fun t23 => ?_)
  refine K_getR 10 21 2021 lf_PF_76 rfl rfl t23 (fun a24 r25 => ?_)
  refine B_chk (fun t26 => ?_)
  refine C_V (vs := [.ref a19, .ref a21, .int (1 : Int32), .int (0 : Int32), .ref a24]) (st := []) (ci_V lv_PF_307 rfl rfl t26) rfl rfl rfl (s_DrawList_quad a19 a21 (1 : Int32) (0 : Int32) a24 M17) (fun M27 => ?_)
  refine B_iload rfl ?_
  refine B_le (tgt := 197) (by decide) ?_ ?_
  · skip
    exact V_weak (ls' := [some (.ref l0), some (.ref l1), none, none, some (.int l4), none, none]) ⟨rfl, ⟨rfl, ⟨rfl, trivial⟩⟩⟩ (t_PF_tell_197 l0 l1 l4 M27)
  · skip
    refine B_aload_n rfl ?_
    refine B_chk (fun t28 => ?_)
    refine K_getR 10 23 2023 lf_PF_82 rfl rfl t28 (fun a29 r30 => ?_)
    refine B_aload_n rfl ?_
    refine B_chk (fun t31 => ?_)
    refine K_getR 7 1 1401 lf_PF_182 rfl rfl t31 (fun a32 r33 => ?_)
    refine B_chk (fun t34 => ?_)
    refine K_getI 1 0 200 lf_PF_191 rfl rfl t34 ?_
    refine B_aload_n rfl ?_
    refine K_getRk 7 1 1401 lf_PF_182 rfl rfl t31 r33 ?_
    refine K_getI 1 1 201 lf_PF_194 rfl rfl t34 ?_
    refine B_aload_n rfl ?_
    refine K_getRk 7 1 1401 lf_PF_182 rfl rfl t31 r33 ?_
    refine K_getI 1 2 202 lf_PF_197 rfl rfl t34 ?_
    refine B_aload_n rfl ?_
    refine K_getRk 7 1 1401 lf_PF_182 rfl rfl t31 r33 ?_
    refine K_getI 1 1 201 lf_PF_194 rfl rfl t34 ?_
    refine B_bipush (12 : Int32) bp_12 ?_
    refine B_iadd ?_
    refine B_chk (fun t35 => ?_)
    refine C_V (vs := [.ref a29, .int (hI M27 200 a32), .int (hI M27 201 a32), .int (hI M27 202 a32), .int ((hI M27 201 a32) + (12 : Int32))]) (st := []) (ci_V lv_PF_97 rfl rfl t35) rfl rfl rfl (s_Rect_be a29 (hI M27 200 a32) (hI M27 201 a32) (hI M27 202 a32) ((hI M27 201 a32) + (12 : Int32)) M27) (fun M36 => ?_)
    refine B_aload_n rfl ?_
    refine B_chk (fun t37 => ?_)
    refine K_getR 7 3 1403 lf_PF_209 rfl rfl t37 (fun a38 r39 => ?_)
    refine B_aload_n rfl ?_
    refine B_chk (fun t40 => ?_)
    refine K_getR 10 23 2023 lf_PF_82 rfl rfl t40 (fun a41 r42 => ?_)
    refine B_iconst (2 : Int32) ic_2 ?_
    refine B_iconst (0 : Int32) ic_0 ?_
    refine B_aload_n rfl ?_
    refine K_getR 10 21 2021 lf_PF_76 rfl rfl t40 (fun a43 r44 => ?_)
    refine B_chk (fun t45 => ?_)
    refine C_V (vs := [.ref a38, .ref a41, .int (2 : Int32), .int (0 : Int32), .ref a43]) (st := []) (ci_V lv_PF_307 rfl rfl t45) rfl rfl rfl (s_DrawList_quad a38 a41 (2 : Int32) (0 : Int32) a43 M36) (fun M46 => ?_)
    refine V_close ?_
    exact V_weak (ls' := [some (.ref l0), some (.ref l1), none, none, some (.int l4), none, none]) ⟨rfl, ⟨rfl, ⟨rfl, trivial⟩⟩⟩ (t_PF_tell_197 l0 l1 l4 M46)
set_option maxRecDepth 100000 in
def b_PF_tell_58 (G : GT) (l0 : Nat) (l1 : Nat) (l3 : Int32) (l4 : Int32) (s0 : Int32) (M : PH) : Option (PH) :=
  if hT M l1 = 7 then (hR M 1402 l1).bind fun a2 => if hT M a2 = 6 then if s0 = 0 then (b_PF_tell_90 G l0 l1 l3 l4 a2 (hI M 1200 a2) (0 : Int32) M) else (if hT M l0 = 10 then (hR M 2000 l0).bind fun a6 => if hT M a6 = 2 then b_PF_tell_90 G l0 l1 l3 l4 a2 (hI M 1200 a2) ((10 : Int32) * (hI M 407 a6)) M else none else none) else none else none
set_option maxRecDepth 100000 in
set_option maxHeartbeats 4000000 in
theorem t_PF_tell_58 {G : GT} (l0 : Nat) (l1 : Nat) (l3 : Int32) (l4 : Int32) (s0 : Int32) (M : PH) : VX G mi_PF_tell 4 69 58 [some (.ref l0), some (.ref l1), none, some (.int l3), some (.int l4), none, none] [.int s0] M qV (b_PF_tell_58 G l0 l1 l3 l4 s0 M) := by
  unfold b_PF_tell_58
  refine V_open ok_PF_tell_58 ?_
  refine S_i [some (.ref l0), some (.ref l1), none, some (.int l3), some (.int l4), some (.int s0), none] (by decide) rfl ?_
  refine B_aload_n rfl ?_
  refine B_chk (fun t1 => ?_)
  refine K_getR 7 2 1402 lf_PF_291 rfl rfl t1 (fun a2 r3 => ?_)
  refine B_aload_n rfl ?_
  refine K_getRk 7 2 1402 lf_PF_291 rfl rfl t1 r3 ?_
  refine B_chk (fun t4 => ?_)
  refine K_getI 6 0 1200 lf_PF_295 rfl rfl t4 ?_
  refine B_iload rfl ?_
  refine B_eq (tgt := 89) (by decide) ?_ ?_
  · skip
    refine V_open ok_PF_tell_89 ?_
    refine B_iconst (0 : Int32) ic_0 ?_
    refine V_close ?_
    exact V_weak (ls' := [some (.ref l0), some (.ref l1), none, some (.int l3), some (.int l4), none, none]) ⟨rfl, ⟨rfl, ⟨rfl, ⟨rfl, trivial⟩⟩⟩⟩ (t_PF_tell_90 l0 l1 l3 l4 a2 (hI M 1200 a2) (0 : Int32) M)
  · skip
    refine B_bipush (10 : Int32) bp_10 ?_
    refine B_aload_n rfl ?_
    refine B_chk (fun t5 => ?_)
    refine K_getR 10 0 2000 lf_PF_10 rfl rfl t5 (fun a6 r7 => ?_)
    refine B_chk (fun t8 => ?_)
    refine K_getI 2 7 407 lf_PF_298 rfl rfl t8 ?_
    refine B_imul ?_
    refine B_goto (tgt := 90) (by decide) ?_
    exact V_weak (ls' := [some (.ref l0), some (.ref l1), none, some (.int l3), some (.int l4), none, none]) ⟨rfl, ⟨rfl, ⟨rfl, ⟨rfl, trivial⟩⟩⟩⟩ (t_PF_tell_90 l0 l1 l3 l4 a2 (hI M 1200 a2) ((10 : Int32) * (hI M 407 a6)) M)
set_option maxRecDepth 100000 in
def b_PF_tell_57 (G : GT) (l0 : Nat) (l1 : Nat) (l3 : Int32) (l4 : Int32) (M : PH) : Option (PH) :=
  b_PF_tell_58 G l0 l1 l3 l4 (0 : Int32) M
set_option maxRecDepth 100000 in
set_option maxHeartbeats 4000000 in
theorem t_PF_tell_57 {G : GT} (l0 : Nat) (l1 : Nat) (l3 : Int32) (l4 : Int32) (M : PH) : VX G mi_PF_tell 4 69 57 [some (.ref l0), some (.ref l1), none, some (.int l3), some (.int l4), none, none] [] M qV (b_PF_tell_57 G l0 l1 l3 l4 M) := by
  unfold b_PF_tell_57
  refine V_open ok_PF_tell_57 ?_
  refine B_iconst (0 : Int32) ic_0 ?_
  refine V_close ?_
  exact V_weak (ls' := [some (.ref l0), some (.ref l1), none, some (.int l3), some (.int l4), none, none]) ⟨rfl, ⟨rfl, ⟨rfl, ⟨rfl, trivial⟩⟩⟩⟩ (t_PF_tell_58 l0 l1 l3 l4 (0 : Int32) M)
set_option maxRecDepth 100000 in
def b_PF_tell_33 (G : GT) (l0 : Nat) (l1 : Nat) (l3 : Int32) (s0 : Int32) (M : PH) : Option (PH) :=
  if hT M l0 = 10 then if hT M l1 = 7 then if ¬ hI M 2008 l0 = hI M 1400 l1 then (b_PF_tell_57 G l0 l1 l3 s0 M) else (if 0 ≤ hI M 2019 l0 then (b_PF_tell_57 G l0 l1 l3 s0 M) else (b_PF_tell_58 G l0 l1 l3 s0 (1 : Int32) M)) else none else none
set_option maxRecDepth 100000 in
set_option maxHeartbeats 4000000 in
theorem t_PF_tell_33 {G : GT} (l0 : Nat) (l1 : Nat) (l3 : Int32) (s0 : Int32) (M : PH) : VX G mi_PF_tell 4 69 33 [some (.ref l0), some (.ref l1), none, some (.int l3), none, none, none] [.int s0] M qV (b_PF_tell_33 G l0 l1 l3 s0 M) := by
  unfold b_PF_tell_33
  refine V_open ok_PF_tell_33 ?_
  refine S_i [some (.ref l0), some (.ref l1), none, some (.int l3), some (.int s0), none, none] (by decide) rfl ?_
  refine B_aload_n rfl ?_
  refine B_chk (fun t1 => ?_)
  refine K_getI 10 8 2008 lf_PF_46 rfl rfl t1 ?_
  refine B_aload_n rfl ?_
  refine B_chk (fun t2 => ?_)
  refine K_getI 7 0 1400 lf_PF_281 rfl rfl t2 ?_
  refine B_ine (tgt := 57) (by decide) ?_ ?_
  · skip
    exact V_weak (ls' := [some (.ref l0), some (.ref l1), none, some (.int l3), some (.int s0), none, none]) ⟨rfl, ⟨rfl, ⟨rfl, ⟨rfl, trivial⟩⟩⟩⟩ (t_PF_tell_57 l0 l1 l3 s0 M)
  · skip
    refine B_aload_n rfl ?_
    refine K_getI 10 19 2019 lf_PF_68 rfl rfl t1 ?_
    refine B_ge (tgt := 57) (by decide) ?_ ?_
    · skip
      exact V_weak (ls' := [some (.ref l0), some (.ref l1), none, some (.int l3), some (.int s0), none, none]) ⟨rfl, ⟨rfl, ⟨rfl, ⟨rfl, trivial⟩⟩⟩⟩ (t_PF_tell_57 l0 l1 l3 s0 M)
    · skip
      refine B_iconst (1 : Int32) ic_1 ?_
      refine B_goto (tgt := 58) (by decide) ?_
      exact V_weak (ls' := [some (.ref l0), some (.ref l1), none, some (.int l3), some (.int s0), none, none]) ⟨rfl, ⟨rfl, ⟨rfl, ⟨rfl, trivial⟩⟩⟩⟩ (t_PF_tell_58 l0 l1 l3 s0 (1 : Int32) M)
set_option maxRecDepth 100000 in
def f_PF_tell (G : GT) (l0 : Nat) (l1 : Nat) (l2 : Int32) (l3 : Int32) (M : PH) : Option (PH) :=
  if hT M l1 = 7 then bV (f_Panel_tell G l1 l2 l3 M) fun M2 => (if hT M2 l1 = 7 then hb (sI M2 1409 l1 (1 : Int32)) fun M5 => (hR M5 1403 l1).bind fun a7 => if hT M5 a7 = 4 then bV (f_DrawList_clear G a7 M5) fun M10 => (if hT M10 l1 = 7 then if ¬ hI M10 1400 l1 = (8 : Int32) then (b_PF_tell_33 G l0 l1 l3 (12 : Int32) M10) else (b_PF_tell_33 G l0 l1 l3 (0 : Int32) M10) else none) else none else none) else none
set_option maxRecDepth 100000 in
set_option maxHeartbeats 4000000 in
theorem s_PF_tell {G : GT} (l0 : Nat) (l1 : Nat) (l2 : Int32) (l3 : Int32) (M : PH) : VX G mi_PF_tell 4 69 0 [some (.ref l0), some (.ref l1), some (.int l2), some (.int l3), none, none, none] [] M qV (f_PF_tell G l0 l1 l2 l3 M) := by
  unfold f_PF_tell
  refine V_open ok_PF_tell_0 ?_
  refine B_aload_n rfl ?_
  refine B_iload_n rfl ?_
  refine B_iload_n rfl ?_
  refine B_chk (fun t1 => ?_)
  refine C_V (vs := [.ref l1, .int l2, .int l3]) (st := []) (ci_V lv_PF_288 rfl rfl t1) rfl rfl rfl (s_Panel_tell l1 l2 l3 M) (fun M2 => ?_)
  refine B_aload_n rfl ?_
  refine B_iconst (1 : Int32) ic_1 ?_
  refine B_chk (fun t3 => ?_)
  refine K_putZ 7 9 1409 lf_PF_123 rfl (Or.inl rfl) rfl t3 (Or.inr rfl) (fun M5 e4 => ?_)
  refine B_aload_n rfl ?_
  have h6 : hT M5 l1 = 7 := by rw [e4]; exact t3
  refine K_getR 7 3 1403 lf_PF_209 rfl rfl h6 (fun a7 r8 => ?_)
  refine B_chk (fun t9 => ?_)
  refine C_V (vs := [.ref a7]) (st := []) (ci_V lv_PF_206 rfl rfl t9) rfl rfl rfl (s_DrawList_clear a7 M5) (fun M10 => ?_)
  refine B_aload_n rfl ?_
  refine B_chk (fun t11 => ?_)
  refine K_getI 7 0 1400 lf_PF_281 rfl rfl t11 ?_
  refine B_bipush (8 : Int32) bp_8 ?_
  refine B_ine (tgt := 31) (by decide) ?_ ?_
  · skip
    refine V_open ok_PF_tell_31 ?_
    refine B_bipush (12 : Int32) bp_12 ?_
    refine V_close ?_
    exact V_weak (ls' := [some (.ref l0), some (.ref l1), none, some (.int l3), none, none, none]) ⟨rfl, ⟨rfl, ⟨rfl, trivial⟩⟩⟩ (t_PF_tell_33 l0 l1 l3 (12 : Int32) M10)
  · skip
    refine B_iconst (0 : Int32) ic_0 ?_
    refine B_goto (tgt := 33) (by decide) ?_
    exact V_weak (ls' := [some (.ref l0), some (.ref l1), none, some (.int l3), none, none, none]) ⟨rfl, ⟨rfl, ⟨rfl, trivial⟩⟩⟩ (t_PF_tell_33 l0 l1 l3 (0 : Int32) M10)

-- PF_window
theorem ok_PF_window_0 : okb prog_1_method_23_code 0 [(.iload_n 1, 1), (.ifCond .lt 49, 3), (.iload_n 1, 1), (.bipush 8, 2), (.if_icmp .ge 43, 3), (.iload_n 2, 1), (.bipush (-100), 2), (.if_icmp .lt 37, 3), (.iload_n 2, 1), (.sipush 1000, 3), (.if_icmp .ge 30, 3), (.iload_n 3, 1), (.bipush (-100), 2), (.if_icmp .lt 24, 3), (.iload_n 3, 1), (.sipush 1000, 3), (.if_icmp .ge 17, 3), (.iload 4, 2), (.iload 5, 2), (.invokestatic 257, 3), (.ifCond .eq 7, 3), (.iconst 1, 1), (.goto 4, 3)] = true := by decide +kernel
theorem ok_PF_window_50 : okb prog_1_method_23_code 50 [(.iconst 0, 1)] = true := by decide +kernel
theorem ok_PF_window_51 : okb prog_1_method_23_code 51 [(.invokestatic 260, 3), (.aload_n 0, 1), (.aload_n 0, 1), (.getfield 104, 3), (.ifCond .eq 26, 3), (.aload_n 0, 1), (.getfield 114, 3), (.ifCond .ne 19, 3), (.aload_n 0, 1), (.getfield 32, 3), (.iload_n 1, 1), (.aaload, 1), (.getfield 123, 3), (.ifCond .ne 7, 3), (.iconst 1, 1), (.goto 4, 3)] = true := by decide +kernel
theorem ok_PF_window_85 : okb prog_1_method_23_code 85 [(.iconst 0, 1)] = true := by decide +kernel
theorem ok_PF_window_86 : okb prog_1_method_23_code 86 [(.invokevirtual 130, 3), (.aload_n 0, 1), (.getfield 32, 3), (.iload_n 1, 1), (.aaload, 1), (.astore 6, 2), (.aload 6, 2), (.getfield 263, 3), (.ifCond .ne 15, 3), (.aload 6, 2), (.getfield 182, 3), (.iload_n 2, 1), (.iload_n 3, 1), (.iload_n 2, 1), (.iload_n 3, 1), (.invokevirtual 97, 3)] = true := by decide +kernel
theorem ok_PF_window_117 : okb prog_1_method_23_code 117 [(.aload 6, 2), (.iconst 1, 1), (.putfield 263, 3), (.aload_n 0, 1), (.aload 6, 2), (.iload 4, 2), (.invokevirtual 266, 3), (.aload_n 0, 1), (.aload 6, 2), (.iload 4, 2), (.iload 5, 2), (.invokevirtual 270, 3), (.aload 6, 2), (.getfield 274, 3), (.ifCond .ne 7, 3), (.iconst 1, 1), (.goto 4, 3)] = true := by decide +kernel
theorem ok_PF_window_153 : okb prog_1_method_23_code 153 [(.iconst 0, 1), (.ireturn, 1)] = true := by decide +kernel
theorem ok_PF_window_154 : okb prog_1_method_23_code 154 [(.ireturn, 1)] = true := by decide +kernel
set_option maxRecDepth 100000 in
def b_PF_window_117 (G : GT) (l0 : Nat) (l4 : Int32) (l5 : Int32) (l6 : Nat) (M : PH) : Option (Nat × Int32 × PH) :=
  if hT M l6 = 7 then hb (sI M 1406 l6 (1 : Int32)) fun M3 => if hT M3 l0 = 10 then bV (f_PF_holdTitle G l0 l6 l4 M3) fun M5 => (if hT M5 l0 = 10 then bV (f_PF_tell G l0 l6 l4 l5 M5) fun M7 => (if hT M7 l6 = 7 then if ¬ hI M7 1408 l6 = 0 then (some (0, (0 : Int32), M7)) else (some (0, (1 : Int32), M7)) else none) else none) else none else none
set_option maxRecDepth 100000 in
set_option maxHeartbeats 4000000 in
theorem t_PF_window_117 {G : GT} (l0 : Nat) (l4 : Int32) (l5 : Int32) (l6 : Nat) (M : PH) : VX G mi_PF_window 7 94 117 [some (.ref l0), none, none, none, some (.int l4), some (.int l5), some (.ref l6)] [] M qT (b_PF_window_117 G l0 l4 l5 l6 M) := by
  unfold b_PF_window_117
  refine V_open ok_PF_window_117 ?_
  refine B_aload rfl ?_
  refine B_iconst (1 : Int32) ic_1 ?_
  refine B_chk (fun t1 => ?_)
  refine K_putZ 7 6 1406 lf_PF_263 rfl (Or.inl rfl) rfl t1 (Or.inr rfl) (fun M3 e2 => ?_)
  refine B_aload_n rfl ?_
  refine B_aload rfl ?_
  refine B_iload rfl ?_
  refine B_chk (fun t4 => ?_)
  refine C_V (vs := [.ref l0, .ref l6, .int l4]) (st := []) (ci_V lv_PF_266 rfl rfl t4) rfl rfl rfl (s_PF_holdTitle l0 l6 l4 M3) (fun M5 => ?_)
  refine B_aload_n rfl ?_
  refine B_aload rfl ?_
  refine B_iload rfl ?_
  refine B_iload rfl ?_
  refine B_chk (fun t6 => ?_)
  refine C_V (vs := [.ref l0, .ref l6, .int l4, .int l5]) (st := []) (ci_V lv_PF_270 rfl rfl t6) rfl rfl rfl (s_PF_tell l0 l6 l4 l5 M5) (fun M7 => ?_)
  refine B_aload rfl ?_
  refine B_chk (fun t8 => ?_)
  refine K_getI 7 8 1408 lf_PF_274 rfl rfl t8 ?_
  refine B_ne (tgt := 153) (by decide) ?_ ?_
  · skip
    refine V_open ok_PF_window_153 ?_
    refine B_iconst (0 : Int32) ic_0 ?_
    exact Z_tret rfl (Or.inl rfl)
  · skip
    refine B_iconst (1 : Int32) ic_1 ?_
    refine B_goto (tgt := 154) (by decide) ?_
    refine V_open ok_PF_window_154 ?_
    exact Z_tret rfl (Or.inr rfl)
set_option maxRecDepth 100000 in
def b_PF_window_86 (G : GT) (l0 : Nat) (l1 : Int32) (l2 : Int32) (l3 : Int32) (l4 : Int32) (l5 : Int32) (s0 : Nat) (s1 : Int32) (M : PH) : Option (Nat × Int32 × PH) :=
  if hT M s0 = 10 then bT (f_PF_may G s0 s1 M) fun M2 => (if hT M2 l0 = 10 then (hR M2 2003 l0).bind fun a4 => if hT M2 a4 = 20 then if ib l1 (hN M2 a4) = true then (hX M2 a4 l1.toNatClampNeg).bind fun a7 => (if hT M2 a7 = 7 then if ¬ hI M2 1406 a7 = 0 then (b_PF_window_117 G l0 l4 l5 a7 M2) else ((hR M2 1401 a7).bind fun a9 => if hT M2 a9 = 1 then bV (f_Rect_be G a9 l2 l3 l2 l3 M2) fun M12 => (b_PF_window_117 G l0 l4 l5 a7 M12) else none) else none) else none else none else none) else none
set_option maxRecDepth 100000 in
set_option maxHeartbeats 4000000 in
theorem t_PF_window_86 {G : GT} (l0 : Nat) (l1 : Int32) (l2 : Int32) (l3 : Int32) (l4 : Int32) (l5 : Int32) (s0 : Nat) (s1 : Int32) (M : PH) : VX G mi_PF_window 7 94 86 [some (.ref l0), some (.int l1), some (.int l2), some (.int l3), some (.int l4), some (.int l5), none] [.int s1, .ref s0] M qT (b_PF_window_86 G l0 l1 l2 l3 l4 l5 s0 s1 M) := by
  unfold b_PF_window_86
  refine V_open ok_PF_window_86 ?_
  refine B_chk (fun t1 => ?_)
  refine C_T (vs := [.ref s0, .int s1]) (st := []) rfl (ci_V lv_PF_130 rfl rfl t1) rfl rfl rfl (s_PF_may s0 s1 M) (fun M2 => ?_)
  refine B_aload_n rfl ?_
  refine B_chk (fun t3 => ?_)
  refine K_getR 10 3 2003 lf_PF_32 rfl rfl t3 (fun a4 r5 => ?_)
  refine B_iload_n rfl ?_
  refine B_chk (fun t6 => ?_)
  refine K_aald 20 rfl t6 (fun a7 => ?_)
  refine S_a [some (.ref l0), some (.int l1), some (.int l2), some (.int l3), some (.int l4), some (.int l5), some (.ref a7)] (by decide) rfl ?_
  refine B_aload rfl ?_
  refine B_chk (fun t8 => ?_)
  refine K_getI 7 6 1406 lf_PF_263 rfl rfl t8 ?_
  refine B_ne (tgt := 117) (by decide) ?_ ?_
  · skip
    exact V_weak (ls' := [some (.ref l0), none, none, none, some (.int l4), some (.int l5), some (.ref a7)]) ⟨rfl, ⟨rfl, ⟨rfl, ⟨rfl, trivial⟩⟩⟩⟩ (t_PF_window_117 l0 l4 l5 a7 M2)
  · skip
    refine B_aload rfl ?_
    refine K_getR 7 1 1401 lf_PF_182 rfl rfl t8 (fun a9 r10 => ?_)
    refine B_iload_n rfl ?_
    refine B_iload_n rfl ?_
    refine B_iload_n rfl ?_
    refine B_iload_n rfl ?_
    refine B_chk (fun t11 => ?_)
    refine C_V (vs := [.ref a9, .int l2, .int l3, .int l2, .int l3]) (st := []) (ci_V lv_PF_97 rfl rfl t11) rfl rfl rfl (s_Rect_be a9 l2 l3 l2 l3 M2) (fun M12 => ?_)
    refine V_close ?_
    exact V_weak (ls' := [some (.ref l0), none, none, none, some (.int l4), some (.int l5), some (.ref a7)]) ⟨rfl, ⟨rfl, ⟨rfl, ⟨rfl, trivial⟩⟩⟩⟩ (t_PF_window_117 l0 l4 l5 a7 M12)
set_option maxRecDepth 100000 in
def b_PF_window_85 (G : GT) (l0 : Nat) (l1 : Int32) (l2 : Int32) (l3 : Int32) (l4 : Int32) (l5 : Int32) (s0 : Nat) (M : PH) : Option (Nat × Int32 × PH) :=
  b_PF_window_86 G l0 l1 l2 l3 l4 l5 s0 (0 : Int32) M
set_option maxRecDepth 100000 in
set_option maxHeartbeats 4000000 in
theorem t_PF_window_85 {G : GT} (l0 : Nat) (l1 : Int32) (l2 : Int32) (l3 : Int32) (l4 : Int32) (l5 : Int32) (s0 : Nat) (M : PH) : VX G mi_PF_window 7 94 85 [some (.ref l0), some (.int l1), some (.int l2), some (.int l3), some (.int l4), some (.int l5), none] [.ref s0] M qT (b_PF_window_85 G l0 l1 l2 l3 l4 l5 s0 M) := by
  unfold b_PF_window_85
  refine V_open ok_PF_window_85 ?_
  refine B_iconst (0 : Int32) ic_0 ?_
  refine V_close ?_
  exact V_weak (ls' := [some (.ref l0), some (.int l1), some (.int l2), some (.int l3), some (.int l4), some (.int l5), none]) ⟨rfl, ⟨rfl, ⟨rfl, ⟨rfl, ⟨rfl, ⟨rfl, trivial⟩⟩⟩⟩⟩⟩ (t_PF_window_86 l0 l1 l2 l3 l4 l5 s0 (0 : Int32) M)
set_option maxRecDepth 100000 in
def b_PF_window_51 (G : GT) (l0 : Nat) (l1 : Int32) (l2 : Int32) (l3 : Int32) (l4 : Int32) (l5 : Int32) (s0 : Int32) (M : PH) : Option (Nat × Int32 × PH) :=
  bT (f_PF_want G s0 M) fun M1 => (if hT M1 l0 = 10 then if hI M1 2007 l0 = 0 then (b_PF_window_85 G l0 l1 l2 l3 l4 l5 l0 M1) else (if ¬ hI M1 2006 l0 = 0 then (b_PF_window_85 G l0 l1 l2 l3 l4 l5 l0 M1) else ((hR M1 2003 l0).bind fun a3 => if hT M1 a3 = 20 then if ib l1 (hN M1 a3) = true then (hX M1 a3 l1.toNatClampNeg).bind fun a6 => (if hT M1 a6 = 7 then if ¬ hI M1 1409 a6 = 0 then (b_PF_window_85 G l0 l1 l2 l3 l4 l5 l0 M1) else (b_PF_window_86 G l0 l1 l2 l3 l4 l5 l0 (1 : Int32) M1) else none) else none else none)) else none)
set_option maxRecDepth 100000 in
set_option maxHeartbeats 4000000 in
theorem t_PF_window_51 {G : GT} (l0 : Nat) (l1 : Int32) (l2 : Int32) (l3 : Int32) (l4 : Int32) (l5 : Int32) (s0 : Int32) (M : PH) : VX G mi_PF_window 7 94 51 [some (.ref l0), some (.int l1), some (.int l2), some (.int l3), some (.int l4), some (.int l5), none] [.int s0] M qT (b_PF_window_51 G l0 l1 l2 l3 l4 l5 s0 M) := by
  unfold b_PF_window_51
  refine V_open ok_PF_window_51 ?_
  refine C_T (vs := [.int s0]) (st := []) rfl (ci_S ls_PF_260 rfl) rfl rfl rfl (s_PF_want s0 M) (fun M1 => ?_)
  refine B_aload_n rfl ?_
  refine B_aload_n rfl ?_
  refine B_chk (fun t2 => ?_)
  refine K_getI 10 7 2007 lf_PF_104 rfl rfl t2 ?_
  refine B_eq (tgt := 85) (by decide) ?_ ?_
  · skip
    exact V_weak (ls' := [some (.ref l0), some (.int l1), some (.int l2), some (.int l3), some (.int l4), some (.int l5), none]) ⟨rfl, ⟨rfl, ⟨rfl, ⟨rfl, ⟨rfl, ⟨rfl, trivial⟩⟩⟩⟩⟩⟩ (t_PF_window_85 l0 l1 l2 l3 l4 l5 l0 M1)
  · skip
    refine B_aload_n rfl ?_
    refine K_getI 10 6 2006 lf_PF_114 rfl rfl t2 ?_
    refine B_ne (tgt := 85) (by decide) ?_ ?_
    · skip
      exact V_weak (ls' := [some (.ref l0), some (.int l1), some (.int l2), some (.int l3), some (.int l4), some (.int l5), none]) ⟨rfl, ⟨rfl, ⟨rfl, ⟨rfl, ⟨rfl, ⟨rfl, trivial⟩⟩⟩⟩⟩⟩ (t_PF_window_85 l0 l1 l2 l3 l4 l5 l0 M1)
    · skip
      refine B_aload_n rfl ?_
      refine K_getR 10 3 2003 lf_PF_32 rfl rfl t2 (fun a3 r4 => ?_)
      refine B_iload_n rfl ?_
      refine B_chk (fun t5 => ?_)
      refine K_aald 20 rfl t5 (fun a6 => ?_)
      refine B_chk (fun t7 => ?_)
      refine K_getI 7 9 1409 lf_PF_123 rfl rfl t7 ?_
      refine B_ne (tgt := 85) (by decide) ?_ ?_
      · skip
        exact V_weak (ls' := [some (.ref l0), some (.int l1), some (.int l2), some (.int l3), some (.int l4), some (.int l5), none]) ⟨rfl, ⟨rfl, ⟨rfl, ⟨rfl, ⟨rfl, ⟨rfl, trivial⟩⟩⟩⟩⟩⟩ (t_PF_window_85 l0 l1 l2 l3 l4 l5 l0 M1)
      · skip
        refine B_iconst (1 : Int32) ic_1 ?_
        refine B_goto (tgt := 86) (by decide) ?_
        exact V_weak (ls' := [some (.ref l0), some (.int l1), some (.int l2), some (.int l3), some (.int l4), some (.int l5), none]) ⟨rfl, ⟨rfl, ⟨rfl, ⟨rfl, ⟨rfl, ⟨rfl, trivial⟩⟩⟩⟩⟩⟩ (t_PF_window_86 l0 l1 l2 l3 l4 l5 l0 (1 : Int32) M1)
set_option maxRecDepth 100000 in
def b_PF_window_50 (G : GT) (l0 : Nat) (l1 : Int32) (l2 : Int32) (l3 : Int32) (l4 : Int32) (l5 : Int32) (M : PH) : Option (Nat × Int32 × PH) :=
  b_PF_window_51 G l0 l1 l2 l3 l4 l5 (0 : Int32) M
set_option maxRecDepth 100000 in
set_option maxHeartbeats 4000000 in
theorem t_PF_window_50 {G : GT} (l0 : Nat) (l1 : Int32) (l2 : Int32) (l3 : Int32) (l4 : Int32) (l5 : Int32) (M : PH) : VX G mi_PF_window 7 94 50 [some (.ref l0), some (.int l1), some (.int l2), some (.int l3), some (.int l4), some (.int l5), none] [] M qT (b_PF_window_50 G l0 l1 l2 l3 l4 l5 M) := by
  unfold b_PF_window_50
  refine V_open ok_PF_window_50 ?_
  refine B_iconst (0 : Int32) ic_0 ?_
  refine V_close ?_
  exact V_weak (ls' := [some (.ref l0), some (.int l1), some (.int l2), some (.int l3), some (.int l4), some (.int l5), none]) ⟨rfl, ⟨rfl, ⟨rfl, ⟨rfl, ⟨rfl, ⟨rfl, trivial⟩⟩⟩⟩⟩⟩ (t_PF_window_51 l0 l1 l2 l3 l4 l5 (0 : Int32) M)
set_option maxRecDepth 100000 in
def f_PF_window (G : GT) (l0 : Nat) (l1 : Int32) (l2 : Int32) (l3 : Int32) (l4 : Int32) (l5 : Int32) (M : PH) : Option (Nat × Int32 × PH) :=
  if l1 < 0 then (b_PF_window_50 G l0 l1 l2 l3 l4 l5 M) else (if (8 : Int32) ≤ l1 then (b_PF_window_50 G l0 l1 l2 l3 l4 l5 M) else (if l2 < (-100 : Int32) then (b_PF_window_50 G l0 l1 l2 l3 l4 l5 M) else (if (1000 : Int32) ≤ l2 then (b_PF_window_50 G l0 l1 l2 l3 l4 l5 M) else (if l3 < (-100 : Int32) then (b_PF_window_50 G l0 l1 l2 l3 l4 l5 M) else (if (1000 : Int32) ≤ l3 then (b_PF_window_50 G l0 l1 l2 l3 l4 l5 M) else (bI (f_PF_isSize G l4 l5 M) fun v2 M1 => (if v2 = 0 then (b_PF_window_50 G l0 l1 l2 l3 l4 l5 M1) else (b_PF_window_51 G l0 l1 l2 l3 l4 l5 (1 : Int32) M1))))))))
set_option maxRecDepth 100000 in
set_option maxHeartbeats 4000000 in
theorem s_PF_window {G : GT} (l0 : Nat) (l1 : Int32) (l2 : Int32) (l3 : Int32) (l4 : Int32) (l5 : Int32) (M : PH) : VX G mi_PF_window 7 94 0 [some (.ref l0), some (.int l1), some (.int l2), some (.int l3), some (.int l4), some (.int l5), none] [] M qT (f_PF_window G l0 l1 l2 l3 l4 l5 M) := by
  unfold f_PF_window
  refine V_open ok_PF_window_0 ?_
  refine B_iload_n rfl ?_
  refine B_lt (tgt := 50) (by decide) ?_ ?_
  · skip
    exact V_weak (ls' := [some (.ref l0), some (.int l1), some (.int l2), some (.int l3), some (.int l4), some (.int l5), none]) ⟨rfl, ⟨rfl, ⟨rfl, ⟨rfl, ⟨rfl, ⟨rfl, trivial⟩⟩⟩⟩⟩⟩ (t_PF_window_50 l0 l1 l2 l3 l4 l5 M)
  · skip
    refine B_iload_n rfl ?_
    refine B_bipush (8 : Int32) bp_8 ?_
    refine B_ige (tgt := 50) (by decide) ?_ ?_
    · skip
      exact V_weak (ls' := [some (.ref l0), some (.int l1), some (.int l2), some (.int l3), some (.int l4), some (.int l5), none]) ⟨rfl, ⟨rfl, ⟨rfl, ⟨rfl, ⟨rfl, ⟨rfl, trivial⟩⟩⟩⟩⟩⟩ (t_PF_window_50 l0 l1 l2 l3 l4 l5 M)
    · skip
      refine B_iload_n rfl ?_
      refine B_bipush (-100 : Int32) bp_m100 ?_
      refine B_ilt (tgt := 50) (by decide) ?_ ?_
      · skip
        exact V_weak (ls' := [some (.ref l0), some (.int l1), some (.int l2), some (.int l3), some (.int l4), some (.int l5), none]) ⟨rfl, ⟨rfl, ⟨rfl, ⟨rfl, ⟨rfl, ⟨rfl, trivial⟩⟩⟩⟩⟩⟩ (t_PF_window_50 l0 l1 l2 l3 l4 l5 M)
      · skip
        refine B_iload_n rfl ?_
        refine B_sipush (1000 : Int32) sp_1000 ?_
        refine B_ige (tgt := 50) (by decide) ?_ ?_
        · skip
          exact V_weak (ls' := [some (.ref l0), some (.int l1), some (.int l2), some (.int l3), some (.int l4), some (.int l5), none]) ⟨rfl, ⟨rfl, ⟨rfl, ⟨rfl, ⟨rfl, ⟨rfl, trivial⟩⟩⟩⟩⟩⟩ (t_PF_window_50 l0 l1 l2 l3 l4 l5 M)
        · skip
          refine B_iload_n rfl ?_
          refine B_bipush (-100 : Int32) bp_m100 ?_
          refine B_ilt (tgt := 50) (by decide) ?_ ?_
          · skip
            exact V_weak (ls' := [some (.ref l0), some (.int l1), some (.int l2), some (.int l3), some (.int l4), some (.int l5), none]) ⟨rfl, ⟨rfl, ⟨rfl, ⟨rfl, ⟨rfl, ⟨rfl, trivial⟩⟩⟩⟩⟩⟩ (t_PF_window_50 l0 l1 l2 l3 l4 l5 M)
          · skip
            refine B_iload_n rfl ?_
            refine B_sipush (1000 : Int32) sp_1000 ?_
            refine B_ige (tgt := 50) (by decide) ?_ ?_
            · skip
              exact V_weak (ls' := [some (.ref l0), some (.int l1), some (.int l2), some (.int l3), some (.int l4), some (.int l5), none]) ⟨rfl, ⟨rfl, ⟨rfl, ⟨rfl, ⟨rfl, ⟨rfl, trivial⟩⟩⟩⟩⟩⟩ (t_PF_window_50 l0 l1 l2 l3 l4 l5 M)
            · skip
              refine B_iload rfl ?_
              refine B_iload rfl ?_
              refine C_I (vs := [.int l4, .int l5]) (st := []) (ci_S ls_PF_257 rfl) rfl rfl rfl (s_PF_isSize l4 l5 M) (fun v2 M1 => ?_)
              refine B_eq (tgt := 50) (by decide) ?_ ?_
              · skip
                exact V_weak (ls' := [some (.ref l0), some (.int l1), some (.int l2), some (.int l3), some (.int l4), some (.int l5), none]) ⟨rfl, ⟨rfl, ⟨rfl, ⟨rfl, ⟨rfl, ⟨rfl, trivial⟩⟩⟩⟩⟩⟩ (t_PF_window_50 l0 l1 l2 l3 l4 l5 M1)
              · skip
                refine B_iconst (1 : Int32) ic_1 ?_
                refine B_goto (tgt := 51) (by decide) ?_
                exact V_weak (ls' := [some (.ref l0), some (.int l1), some (.int l2), some (.int l3), some (.int l4), some (.int l5), none]) ⟨rfl, ⟨rfl, ⟨rfl, ⟨rfl, ⟨rfl, ⟨rfl, trivial⟩⟩⟩⟩⟩⟩ (t_PF_window_51 l0 l1 l2 l3 l4 l5 (1 : Int32) M1)
