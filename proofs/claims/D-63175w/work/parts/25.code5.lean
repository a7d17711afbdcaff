-- Law_window
theorem ok_Law_window_0 : okb method_5_code 0 [(.aload 6, 2), (.iconst 0, 1), (.aload_n 0, 1), (.iload_n 1, 1), (.iload_n 2, 1), (.iload_n 3, 1), (.iload 4, 2), (.iload 5, 2), (.invokevirtual 18, 3), (.ifCond .eq 7, 3), (.lconst 1, 1), (.goto 4, 3)] = true := by decide +kernel
theorem ok_Law_window_21 : okb method_5_code 21 [(.lconst 0, 1)] = true := by decide +kernel
theorem ok_Law_window_22 : okb method_5_code 22 [(.lastore, 1), (.goto 11, 3)] = true := by decide +kernel
theorem ok_Law_window_26 : okb method_5_code 26 [(.astore 7, 2), (.iconst 1, 1), (.ireturn, 1)] = true := by decide +kernel
theorem ok_Law_window_30 : okb method_5_code 30 [(.astore 7, 2), (.iconst 2, 1), (.ireturn, 1)] = true := by decide +kernel
theorem ok_Law_window_34 : okb method_5_code 34 [(.iconst 0, 1), (.ireturn, 1)] = true := by decide +kernel
set_option maxRecDepth 100000 in
def b_Law_window_22 (G : GT) (s0 : Nat) (s1 : Int32) (s2 : Int64) (M : PH) : Option (Int32 × PH) :=
  if hT M s0 = 19 then if ib s1 (hN M s0) = true then hb (sL M s0 s1.toNatClampNeg s2) fun M3 => (some ((0 : Int32), M3)) else none else none
set_option maxRecDepth 100000 in
set_option maxHeartbeats 4000000 in
theorem t_Law_window_22 {G : GT} (s0 : Nat) (s1 : Int32) (s2 : Int64) (M : PH) : VX G mi_Law_window 8 114 22 [none, none, none, none, none, none, none, none] [.long s2, .int s1, .ref s0] M qI (b_Law_window_22 G s0 s1 s2 M) := by
  unfold b_Law_window_22
  refine V_open ok_Law_window_22 ?_
  refine B_chk (fun t1 => ?_)
  refine K_last t1 (fun M3 e2 => ?_)
  refine B_goto (tgt := 34) (by decide) ?_
  refine V_open ok_Law_window_34 ?_
  refine B_iconst (0 : Int32) ic_0 ?_
  exact B_iret rfl
set_option maxRecDepth 100000 in
def f_Law_window (G : GT) (l0 : Nat) (l1 : Int32) (l2 : Int32) (l3 : Int32) (l4 : Int32) (l5 : Int32) (l6 : Nat) (M : PH) : Option (Int32 × PH) :=
  if hT M l0 = 10 then bH2 (f_PF_window G l0 l1 l2 l3 l4 l5 M) (fun v3 M2 => if v3 = 0 then (b_Law_window_22 G l6 (0 : Int32) (0 : Int64) M2) else (b_Law_window_22 G l6 (0 : Int32) (1 : Int64) M2)) (fun M2 => some ((1 : Int32), M2)) (fun M2 => some ((2 : Int32), M2)) else none
set_option maxRecDepth 100000 in
set_option maxHeartbeats 4000000 in
theorem s_Law_window {G : GT} (l0 : Nat) (l1 : Int32) (l2 : Int32) (l3 : Int32) (l4 : Int32) (l5 : Int32) (l6 : Nat) (M : PH) : VX G mi_Law_window 8 114 0 [some (.ref l0), some (.int l1), some (.int l2), some (.int l3), some (.int l4), some (.int l5), some (.ref l6), none] [] M qI (f_Law_window G l0 l1 l2 l3 l4 l5 l6 M) := by
  unfold f_Law_window
  refine V_open ok_Law_window_0 ?_
  refine B_aload rfl ?_
  refine B_iconst (0 : Int32) ic_0 ?_
  refine B_aload_n rfl ?_
  refine B_iload_n rfl ?_
  refine B_iload_n rfl ?_
  refine B_iload_n rfl ?_
  refine B_iload rfl ?_
  refine B_iload rfl ?_
  refine B_chk (fun t1 => ?_)
  refine C_H2 (vs := [.ref l0, .int l1, .int l2, .int l3, .int l4, .int l5]) (st := [.int (0 : Int32), .ref l6]) 23 26 22 30 13 (by decide) rfl lh_Law_22 lh_Law_13 (ci_V lv_Law_18 rfl rfl t1) rfl rfl rfl (s_PF_window l0 l1 l2 l3 l4 l5 M) (fun v3 M2 => ?_) (fun ah M2 => ?_) (fun ah M2 => ?_)
  · skip
    refine B_eq (tgt := 21) (by decide) ?_ ?_
    · skip
      refine V_open ok_Law_window_21 ?_
      refine B_lconst (0 : Int64) lc_0 ?_
      refine V_close ?_
      exact V_weak (ls' := [none, none, none, none, none, none, none, none]) trivial (t_Law_window_22 l6 (0 : Int32) (0 : Int64) M2)
    · skip
      refine B_lconst (1 : Int64) lc_1 ?_
      refine B_goto (tgt := 22) (by decide) ?_
      exact V_weak (ls' := [none, none, none, none, none, none, none, none]) trivial (t_Law_window_22 l6 (0 : Int32) (1 : Int64) M2)
  · skip
    refine V_open ok_Law_window_26 ?_
    refine S_a [some (.ref l0), some (.int l1), some (.int l2), some (.int l3), some (.int l4), some (.int l5), some (.ref l6), some (.ref ah)] (by decide) rfl ?_
    refine B_iconst (1 : Int32) ic_1 ?_
    exact B_iret rfl
  · skip
    refine V_open ok_Law_window_30 ?_
    refine S_a [some (.ref l0), some (.int l1), some (.int l2), some (.int l3), some (.int l4), some (.int l5), some (.ref l6), some (.ref ah)] (by decide) rfl ?_
    refine B_iconst (2 : Int32) ic_2 ?_
    exact B_iret rfl

-- Mo_tell
theorem ok_Mo_tell_0 : okb prog_13_method_33_code 0 [(.aload_n 0, 1), (.getfield 30, 3), (.aload_n 0, 1), (.getfield 267, 3), (.iload_n 1, 1), (.iastore, 1), (.aload_n 0, 1), (.dup, 1), (.getfield 267, 3), (.iconst 1, 1), (.iadd, 1), (.putfield 267, 3), (.return_, 1)] = true := by decide +kernel
set_option maxRecDepth 100000 in
def f_Mo_tell (G : GT) (l0 : Nat) (l1 : Int32) (M : PH) : Option (PH) :=
  if hT M l0 = 11 then (hR M 2224 l0).bind fun a2 => if hT M a2 = 16 then if ib (hI M 2225 l0) (hN M a2) = true then hb (sA M a2 (hI M 2225 l0).toNatClampNeg l1) fun M6 => (hb (sI M6 2225 l0 ((hI M6 2225 l0) + (1 : Int32))) fun M9 => some M9) else none else none else none
set_option maxRecDepth 100000 in
set_option maxHeartbeats 4000000 in
theorem s_Mo_tell {G : GT} (l0 : Nat) (l1 : Int32) (M : PH) : VX G mi_Mo_tell 0 0 0 [some (.ref l0), some (.int l1)] [] M qV (f_Mo_tell G l0 l1 M) := by
  unfold f_Mo_tell
  refine V_open ok_Mo_tell_0 ?_
  refine B_aload_n rfl ?_
  refine B_chk (fun t1 => ?_)
  refine K_getR 11 24 2224 lf_Mo_30 rfl rfl t1 (fun a2 r3 => ?_)
  refine B_aload_n rfl ?_
  refine K_getI 11 25 2225 lf_Mo_267 rfl rfl t1 ?_
  refine B_iload_n rfl ?_
  refine B_chk (fun t4 => ?_)
  refine K_iast t4 (fun M6 e5 => ?_)
  refine B_aload_n rfl ?_
  refine B_dup rfl ?_
  have h7 : hT M6 l0 = 11 := by rw [e5]; exact t1
  refine K_getI 11 25 2225 lf_Mo_267 rfl rfl h7 ?_
  refine B_iconst (1 : Int32) ic_1 ?_
  refine B_iadd ?_
  refine K_putI 11 25 2225 lf_Mo_267 rfl (Or.inl rfl) rfl h7 (fun M9 e8 => ?_)
  exact B_vret rfl

-- Mo_max
theorem ok_Mo_max_0 : okb prog_13_method_4_code 0 [(.iload_n 0, 1), (.iload_n 1, 1), (.if_icmp .le 7, 3), (.iload_n 0, 1), (.goto 4, 3)] = true := by decide +kernel
theorem ok_Mo_max_9 : okb prog_13_method_4_code 9 [(.iload_n 1, 1), (.ireturn, 1)] = true := by decide +kernel
theorem ok_Mo_max_10 : okb prog_13_method_4_code 10 [(.ireturn, 1)] = true := by decide +kernel
set_option maxRecDepth 100000 in
def f_Mo_max (G : GT) (l0 : Int32) (l1 : Int32) (M : PH) : Option (Int32 × PH) :=
  if l0 ≤ l1 then (some (l1, M)) else (some (l0, M))
set_option maxRecDepth 100000 in
set_option maxHeartbeats 4000000 in
theorem s_Mo_max {G : GT} (l0 : Int32) (l1 : Int32) (M : PH) : VX G mi_Mo_max 0 0 0 [some (.int l0), some (.int l1)] [] M qI (f_Mo_max G l0 l1 M) := by
  unfold f_Mo_max
  refine V_open ok_Mo_max_0 ?_
  refine B_iload_n rfl ?_
  refine B_iload_n rfl ?_
  refine B_ile (tgt := 9) (by decide) ?_ ?_
  · skip
    refine V_open ok_Mo_max_9 ?_
    refine B_iload_n rfl ?_
    exact B_iret rfl
  · skip
    refine B_iload_n rfl ?_
    refine B_goto (tgt := 10) (by decide) ?_
    refine V_open ok_Mo_max_10 ?_
    exact B_iret rfl

-- Mo_min
theorem ok_Mo_min_0 : okb prog_13_method_3_code 0 [(.iload_n 0, 1), (.iload_n 1, 1), (.if_icmp .ge 7, 3), (.iload_n 0, 1), (.goto 4, 3)] = true := by decide +kernel
theorem ok_Mo_min_9 : okb prog_13_method_3_code 9 [(.iload_n 1, 1), (.ireturn, 1)] = true := by decide +kernel
theorem ok_Mo_min_10 : okb prog_13_method_3_code 10 [(.ireturn, 1)] = true := by decide +kernel
set_option maxRecDepth 100000 in
def f_Mo_min (G : GT) (l0 : Int32) (l1 : Int32) (M : PH) : Option (Int32 × PH) :=
  if l1 ≤ l0 then (some (l1, M)) else (some (l0, M))
set_option maxRecDepth 100000 in
set_option maxHeartbeats 4000000 in
theorem s_Mo_min {G : GT} (l0 : Int32) (l1 : Int32) (M : PH) : VX G mi_Mo_min 0 0 0 [some (.int l0), some (.int l1)] [] M qI (f_Mo_min G l0 l1 M) := by
  unfold f_Mo_min
  refine V_open ok_Mo_min_0 ?_
  refine B_iload_n rfl ?_
  refine B_iload_n rfl ?_
  refine B_ige (tgt := 9) (by decide) ?_ ?_
  · skip
    refine V_open ok_Mo_min_9 ?_
    refine B_iload_n rfl ?_
    exact B_iret rfl
  · skip
    refine B_iload_n rfl ?_
    refine B_goto (tgt := 10) (by decide) ?_
    refine V_open ok_Mo_min_10 ?_
    exact B_iret rfl

-- Mo_between
theorem ok_Mo_between_0 : okb prog_13_method_5_code 0 [(.iload_n 1, 1), (.iload_n 0, 1), (.iload_n 2, 1), (.invokestatic 178, 3), (.invokestatic 182, 3), (.ireturn, 1)] = true := by decide +kernel
set_option maxRecDepth 100000 in
def f_Mo_between (G : GT) (l0 : Int32) (l1 : Int32) (l2 : Int32) (M : PH) : Option (Int32 × PH) :=
  bI (f_Mo_min G l0 l2 M) fun v2 M1 => (bI (f_Mo_max G l1 v2 M1) fun v4 M3 => (some (v4, M3)))
set_option maxRecDepth 100000 in
set_option maxHeartbeats 4000000 in
theorem s_Mo_between {G : GT} (l0 : Int32) (l1 : Int32) (l2 : Int32) (M : PH) : VX G mi_Mo_between 1 14 0 [some (.int l0), some (.int l1), some (.int l2)] [] M qI (f_Mo_between G l0 l1 l2 M) := by
  unfold f_Mo_between
  refine V_open ok_Mo_between_0 ?_
  refine B_iload_n rfl ?_
  refine B_iload_n rfl ?_
  refine B_iload_n rfl ?_
  refine C_I (vs := [.int l0, .int l2]) (st := [.int l1]) (ci_S ls_Mo_178 rfl) rfl rfl rfl (s_Mo_min l0 l2 M) (fun v2 M1 => ?_)
  refine C_I (vs := [.int l1, .int v2]) (st := []) (ci_S ls_Mo_182 rfl) rfl rfl rfl (s_Mo_max l1 v2 M1) (fun v4 M3 => ?_)
  exact B_iret rfl

-- Mo_area
theorem ok_Mo_area_0 : okb prog_13_method_31_code 0 [(.aload_n 0, 1), (.getfield 285, 3), (.istore_n 3, 1), (.aload_n 0, 1), (.dup, 1), (.getfield 285, 3), (.iconst 1, 1), (.iadd, 1), (.putfield 285, 3), (.aload_n 0, 1), (.getfield 111, 3), (.iload_n 3, 1), (.iload_n 1, 1), (.iastore, 1), (.aload_n 0, 1), (.getfield 114, 3), (.iload_n 3, 1), (.iload_n 2, 1), (.iastore, 1), (.aload_n 0, 1), (.getfield 117, 3), (.iload_n 3, 1), (.iconst 0, 1), (.iastore, 1), (.aload_n 0, 1), (.getfield 129, 3), (.iload_n 3, 1), (.iload_n 1, 1), (.iastore, 1), (.aload_n 0, 1), (.getfield 132, 3), (.iload_n 3, 1), (.iload_n 2, 1), (.iastore, 1), (.aload_n 0, 1), (.getfield 135, 3), (.iload_n 3, 1), (.iconst 0, 1), (.bastore, 1), (.aload_n 0, 1), (.getfield 138, 3), (.iload_n 3, 1), (.iconst 0, 1), (.bastore, 1), (.iload_n 3, 1), (.ireturn, 1)] = true := by decide +kernel
set_option maxRecDepth 100000 in
def f_Mo_area (G : GT) (l0 : Nat) (l1 : Int32) (l2 : Int32) (M : PH) : Option (Int32 × PH) :=
  if hT M l0 = 11 then vb (hI M 2270 l0) fun v2 => hb (sI M 2270 l0 ((hI M 2270 l0) + (1 : Int32))) fun M4 => (hR M4 2259 l0).bind fun a6 => if hT M4 a6 = 16 then if ib v2 (hN M4 a6) = true then hb (sA M4 a6 v2.toNatClampNeg l1) fun M10 => ((hR M10 2260 l0).bind fun a12 => if hT M10 a12 = 16 then if ib v2 (hN M10 a12) = true then hb (sA M10 a12 v2.toNatClampNeg l2) fun M16 => ((hR M16 2261 l0).bind fun a18 => if hT M16 a18 = 16 then if ib v2 (hN M16 a18) = true then hb (sA M16 a18 v2.toNatClampNeg (0 : Int32)) fun M22 => ((hR M22 2265 l0).bind fun a24 => if hT M22 a24 = 16 then if ib v2 (hN M22 a24) = true then hb (sA M22 a24 v2.toNatClampNeg l1) fun M28 => ((hR M28 2266 l0).bind fun a30 => if hT M28 a30 = 16 then if ib v2 (hN M28 a30) = true then hb (sA M28 a30 v2.toNatClampNeg l2) fun M34 => ((hR M34 2267 l0).bind fun a36 => if hT M34 a36 = 17 then if ib v2 (hN M34 a36) = true then hb (sA M34 a36 v2.toNatClampNeg (0 : Int32)) fun M40 => ((hR M40 2268 l0).bind fun a42 => if hT M40 a42 = 17 then if ib v2 (hN M40 a42) = true then hb (sA M40 a42 v2.toNatClampNeg (0 : Int32)) fun M46 => (some (v2, M46)) else none else none) else none else none) else none else none) else none else none) else none else none) else none else none) else none else none else none
set_option maxRecDepth 100000 in
set_option maxHeartbeats 4000000 in
theorem s_Mo_area {G : GT} (l0 : Nat) (l1 : Int32) (l2 : Int32) (M : PH) : VX G mi_Mo_area 0 0 0 [some (.ref l0), some (.int l1), some (.int l2), none] [] M qI (f_Mo_area G l0 l1 l2 M) := by
  unfold f_Mo_area
  refine V_open ok_Mo_area_0 ?_
  refine B_aload_n rfl ?_
  refine B_chk (fun t1 => ?_)
  refine K_getI 11 70 2270 lf_Mo_285 rfl rfl t1 ?_
  refine B_vb (fun v2 => ?_)
  refine S_in [some (.ref l0), some (.int l1), some (.int l2), some (.int v2)] (by decide) rfl ?_
  refine B_aload_n rfl ?_
  refine B_dup rfl ?_
  refine K_getI 11 70 2270 lf_Mo_285 rfl rfl t1 ?_
  refine B_iconst (1 : Int32) ic_1 ?_
  refine B_iadd ?_
  refine K_putI 11 70 2270 lf_Mo_285 rfl (Or.inl rfl) rfl t1 (fun M4 e3 => ?_)
  refine B_aload_n rfl ?_
  have h5 : hT M4 l0 = 11 := by rw [e3]; exact t1
  refine K_getR 11 59 2259 lf_Mo_111 rfl rfl h5 (fun a6 r7 => ?_)
  refine B_iload_n rfl ?_
  refine B_iload_n rfl ?_
  refine B_chk (fun t8 => ?_)
  refine K_iast t8 (fun M10 e9 => ?_)
  refine B_aload_n rfl ?_
  have h11 : hT M10 l0 = 11 := by rw [e9]; exact h5
  refine K_getR 11 60 2260 lf_Mo_114 rfl rfl h11 (fun a12 r13 => ?_)
  refine B_iload_n rfl ?_
  refine B_iload_n rfl ?_
  refine B_chk (fun t14 => ?_)
  refine K_iast t14 (fun M16 e15 => ?_)
  refine B_aload_n rfl ?_
  have h17 : hT M16 l0 = 11 := by rw [e15]; exact h11
  refine K_getR 11 61 2261 lf_Mo_117 rfl rfl h17 (fun a18 r19 => ?_)
  refine B_iload_n rfl ?_
  refine B_iconst (0 : Int32) ic_0 ?_
  refine B_chk (fun t20 => ?_)
  refine K_iast t20 (fun M22 e21 => ?_)
  refine B_aload_n rfl ?_
  have h23 : hT M22 l0 = 11 := by rw [e21]; exact h17
  refine K_getR 11 65 2265 lf_Mo_129 rfl rfl h23 (fun a24 r25 => ?_)
  refine B_iload_n rfl ?_
  refine B_iload_n rfl ?_
  refine B_chk (fun t26 => ?_)
  refine K_iast t26 (fun M28 e27 => ?_)
  refine B_aload_n rfl ?_
  have h29 : hT M28 l0 = 11 := by rw [e27]; exact h23
  refine K_getR 11 66 2266 lf_Mo_132 rfl rfl h29 (fun a30 r31 => ?_)
  refine B_iload_n rfl ?_
  refine B_iload_n rfl ?_
  refine B_chk (fun t32 => ?_)
  refine K_iast t32 (fun M34 e33 => ?_)
  refine B_aload_n rfl ?_
  have h35 : hT M34 l0 = 11 := by rw [e33]; exact h29
  refine K_getR 11 67 2267 lf_Mo_135 rfl rfl h35 (fun a36 r37 => ?_)
  refine B_iload_n rfl ?_
  refine B_iconst (0 : Int32) ic_0 ?_
  refine B_chk (fun t38 => ?_)
  refine K_zast t38 (Or.inl rfl) (fun M40 e39 => ?_)
  refine B_aload_n rfl ?_
  have h41 : hT M40 l0 = 11 := by rw [e39]; exact h35
  refine K_getR 11 68 2268 lf_Mo_138 rfl rfl h41 (fun a42 r43 => ?_)
  refine B_iload_n rfl ?_
  refine B_iconst (0 : Int32) ic_0 ?_
  refine B_chk (fun t44 => ?_)
  refine K_zast t44 (Or.inl rfl) (fun M46 e45 => ?_)
  refine B_iload_n rfl ?_
  exact B_iret rfl

-- Mo_openThing
theorem ok_Mo_openThing_0 : okb prog_13_method_30_code 0 [(.aload_n 0, 1), (.getfield 93, 3), (.aload_n 0, 1), (.getfield 279, 3), (.iload_n 1, 1), (.iastore, 1), (.aload_n 0, 1), (.getfield 96, 3), (.aload_n 0, 1), (.getfield 279, 3), (.aload_n 0, 1), (.getfield 282, 3), (.iastore, 1), (.aload_n 0, 1), (.getfield 102, 3), (.aload_n 0, 1), (.getfield 279, 3), (.iload_n 2, 1), (.iastore, 1), (.aload_n 0, 1), (.getfield 105, 3), (.aload_n 0, 1), (.getfield 279, 3), (.iload_n 3, 1), (.iastore, 1), (.iconst 0, 1), (.istore 4, 2)] = true := by decide +kernel
theorem ok_Mo_openThing_46 : okb prog_13_method_30_code 46 [(.iload 4, 2), (.iconst 4, 1), (.if_icmp .ge 30, 3), (.aload_n 0, 1), (.getfield 99, 3), (.iconst 4, 1), (.aload_n 0, 1), (.getfield 279, 3), (.imul, 1), (.iload 4, 2), (.iadd, 1), (.aload_n 0, 1), (.getfield 147, 3), (.iload 4, 2), (.iaload, 1), (.iastore, 1), (.iinc 4 1, 3), (.goto (-30), 3)] = true := by decide +kernel
theorem ok_Mo_openThing_79 : okb prog_13_method_30_code 79 [(.aload_n 0, 1), (.dup, 1), (.getfield 279, 3), (.iconst 1, 1), (.iadd, 1), (.putfield 279, 3), (.return_, 1)] = true := by decide +kernel
set_option maxRecDepth 100000 in
def b_Mo_openThing_46 (G : GT) (k46 : Nat → Int32 → PH → Option (PH)) (l0 : Nat) (l4 : Int32) (M : PH) : Option (PH) :=
  if (4 : Int32) ≤ l4 then (if hT M l0 = 11 then hb (sI M 2256 l0 ((hI M 2256 l0) + (1 : Int32))) fun M3 => some M3 else none) else (if hT M l0 = 11 then (hR M 2253 l0).bind fun a5 => (hR M 2272 l0).bind fun a7 => if hT M a7 = 16 then if ib l4 (hN M a7) = true then if hT M a5 = 16 then if ib (((4 : Int32) * (hI M 2256 l0)) + l4) (hN M a5) = true then hb (sA M a5 (((4 : Int32) * (hI M 2256 l0)) + l4).toNatClampNeg (hA M a7 l4.toNatClampNeg)) fun M12 => (k46 l0 (l4 + (1 : Int32)) M12) else none else none else none else none else none)
set_option maxRecDepth 100000 in
set_option maxHeartbeats 4000000 in
theorem t_Mo_openThing_46 {G : GT} {k46 : Nat → Int32 → PH → Option (PH)} (hk46 : ∀ (l0 : Nat) (l4 : Int32) (M : PH), VX G mi_Mo_openThing 0 0 46 [some (.ref l0), none, none, none, some (.int l4)] [] M qV (k46 l0 l4 M)) (l0 : Nat) (l4 : Int32) (M : PH) : VX G mi_Mo_openThing 0 0 46 [some (.ref l0), none, none, none, some (.int l4)] [] M qV (b_Mo_openThing_46 G k46 l0 l4 M) := by
  unfold b_Mo_openThing_46
  refine V_open ok_Mo_openThing_46 ?_
  refine B_iload rfl ?_
  refine B_iconst (4 : Int32) ic_4 ?_
  refine B_ige (tgt := 79) (by decide) ?_ ?_
  · skip
    refine V_open ok_Mo_openThing_79 ?_
    refine B_aload_n rfl ?_
    refine B_dup rfl ?_
    refine B_chk (fun t1 => ?_)
    refine K_getI 11 56 2256 lf_Mo_279 rfl rfl t1 ?_
    refine B_iconst (1 : Int32) ic_1 ?_
    refine B_iadd ?_
    refine K_putI 11 56 2256 lf_Mo_279 rfl (Or.inl rfl) rfl t1 (fun M3 e2 => ?_)
    exact B_vret rfl
  · skip
    refine B_aload_n rfl ?_
    refine B_chk (fun t4 => ?_)
    refine K_getR 11 53 2253 lf_Mo_99 rfl rfl t4 (fun a5 r6 => ?_)
    refine B_iconst (4 : Int32) ic_4 ?_
    refine B_aload_n rfl ?_
    refine K_getI 11 56 2256 lf_Mo_279 rfl rfl t4 ?_
    refine B_imul ?_
    refine B_iload rfl ?_
    refine B_iadd ?_
    refine B_aload_n rfl ?_
    refine K_getR 11 72 2272 lf_Mo_147 rfl rfl t4 (fun a7 r8 => ?_)
    refine B_iload rfl ?_
    refine B_chk (fun t9 => ?_)
    refine K_iald t9 ?_
    refine B_chk (fun t10 => ?_)
    refine K_iast t10 (fun M12 e11 => ?_)
    refine S_inc (1 : Int32) [some (.ref l0), none, none, none, some (.int (l4 + (1 : Int32)))] ic_1 rfl (by decide) rfl ?_
    refine B_goto (tgt := 46) (by decide) ?_
    exact V_weak (ls' := [some (.ref l0), none, none, none, some (.int (l4 + (1 : Int32)))]) ⟨rfl, ⟨rfl, trivial⟩⟩ (hk46 l0 (l4 + (1 : Int32)) M12)
set_option maxRecDepth 100000 in
def w_Mo_openThing_46 (G : GT) : Nat → Nat → Int32 → PH → Option (PH)
  | 0 => fun _ _ _ => none
  | n + 1 => b_Mo_openThing_46 G (w_Mo_openThing_46 G n)
set_option maxRecDepth 100000 in
set_option maxHeartbeats 4000000 in
theorem tw_Mo_openThing_46 {G : GT} : ∀ (n : Nat) (l0 : Nat) (l4 : Int32) (M : PH), VX G mi_Mo_openThing 0 0 46 [some (.ref l0), none, none, none, some (.int l4)] [] M qV (w_Mo_openThing_46 G n l0 l4 M)
  | 0, _, _, _ => X_none
  | n + 1, l0, l4, M => t_Mo_openThing_46 (tw_Mo_openThing_46 n) l0 l4 M
set_option maxRecDepth 100000 in
def f_Mo_openThing (G : GT) (l0 : Nat) (l1 : Int32) (l2 : Int32) (l3 : Int32) (M : PH) : Option (PH) :=
  if hT M l0 = 11 then (hR M 2251 l0).bind fun a2 => if hT M a2 = 16 then if ib (hI M 2256 l0) (hN M a2) = true then hb (sA M a2 (hI M 2256 l0).toNatClampNeg l1) fun M6 => ((hR M6 2252 l0).bind fun a8 => if hT M6 a8 = 16 then if ib (hI M6 2256 l0) (hN M6 a8) = true then hb (sA M6 a8 (hI M6 2256 l0).toNatClampNeg (hI M6 2258 l0)) fun M12 => ((hR M12 2254 l0).bind fun a14 => if hT M12 a14 = 16 then if ib (hI M12 2256 l0) (hN M12 a14) = true then hb (sA M12 a14 (hI M12 2256 l0).toNatClampNeg l2) fun M18 => ((hR M18 2255 l0).bind fun a20 => if hT M18 a20 = 16 then if ib (hI M18 2256 l0) (hN M18 a20) = true then hb (sA M18 a20 (hI M18 2256 l0).toNatClampNeg l3) fun M24 => (w_Mo_openThing_46 G FU l0 (0 : Int32) M24) else none else none) else none else none) else none else none) else none else none else none
set_option maxRecDepth 100000 in
set_option maxHeartbeats 4000000 in
theorem s_Mo_openThing {G : GT} (l0 : Nat) (l1 : Int32) (l2 : Int32) (l3 : Int32) (M : PH) : VX G mi_Mo_openThing 0 0 0 [some (.ref l0), some (.int l1), some (.int l2), some (.int l3), none] [] M qV (f_Mo_openThing G l0 l1 l2 l3 M) := by
  unfold f_Mo_openThing
  refine V_open ok_Mo_openThing_0 ?_
  refine B_aload_n rfl ?_
  refine B_chk (fun t1 => ?_)
  refine K_getR 11 51 2251 lf_Mo_93 rfl rfl t1 (fun a2 r3 => ?_)
  refine B_aload_n rfl ?_
  refine K_getI 11 56 2256 lf_Mo_279 rfl rfl t1 ?_
  refine B_iload_n rfl ?_
  refine B_chk (fun t4 => ?_)
  refine K_iast t4 (fun M6 e5 => ?_)
  refine B_aload_n rfl ?_
  have h7 : hT M6 l0 = 11 := by rw [e5]; exact t1
  refine K_getR 11 52 2252 lf_Mo_96 rfl rfl h7 (fun a8 r9 => ?_)
  refine B_aload_n rfl ?_
  refine K_getI 11 56 2256 lf_Mo_279 rfl rfl h7 ?_
  refine B_aload_n rfl ?_
  refine K_getI 11 58 2258 lf_Mo_282 rfl rfl h7 ?_
  refine B_chk (fun t10 => ?_)
  refine K_iast t10 (fun M12 e11 => ?_)
  refine B_aload_n rfl ?_
  have h13 : hT M12 l0 = 11 := by rw [e11]; exact h7
  refine K_getR 11 54 2254 lf_Mo_102 rfl rfl h13 (fun a14 r15 => ?_)
  refine B_aload_n rfl ?_
  refine K_getI 11 56 2256 lf_Mo_279 rfl rfl h13 ?_
  refine B_iload_n rfl ?_
  refine B_chk (fun t16 => ?_)
  refine K_iast t16 (fun M18 e17 => ?_)
  refine B_aload_n rfl ?_
  have h19 : hT M18 l0 = 11 := by rw [e17]; exact h13
  refine K_getR 11 55 2255 lf_Mo_105 rfl rfl h19 (fun a20 r21 => ?_)
  refine B_aload_n rfl ?_
  refine K_getI 11 56 2256 lf_Mo_279 rfl rfl h19 ?_
  refine B_iload_n rfl ?_
  refine B_chk (fun t22 => ?_)
  refine K_iast t22 (fun M24 e23 => ?_)
  refine B_iconst (0 : Int32) ic_0 ?_
  refine S_i [some (.ref l0), some (.int l1), some (.int l2), some (.int l3), some (.int (0 : Int32))] (by decide) rfl ?_
  refine V_close ?_
  exact V_weak (ls' := [some (.ref l0), none, none, none, some (.int (0 : Int32))]) ⟨rfl, ⟨rfl, trivial⟩⟩ (tw_Mo_openThing_46 FU l0 (0 : Int32) M24)

-- Mo_push
theorem ok_Mo_push_0 : okb prog_13_method_32_code 0 [(.aload_n 0, 1), (.getfield 108, 3), (.aload_n 0, 1), (.getfield 282, 3), (.iload_n 1, 1), (.iastore, 1), (.aload_n 0, 1), (.dup, 1), (.getfield 282, 3), (.iconst 1, 1), (.iadd, 1), (.putfield 282, 3), (.return_, 1)] = true := by decide +kernel
set_option maxRecDepth 100000 in
def f_Mo_push (G : GT) (l0 : Nat) (l1 : Int32) (M : PH) : Option (PH) :=
  if hT M l0 = 11 then (hR M 2257 l0).bind fun a2 => if hT M a2 = 16 then if ib (hI M 2258 l0) (hN M a2) = true then hb (sA M a2 (hI M 2258 l0).toNatClampNeg l1) fun M6 => (hb (sI M6 2258 l0 ((hI M6 2258 l0) + (1 : Int32))) fun M9 => some M9) else none else none else none
set_option maxRecDepth 100000 in
set_option maxHeartbeats 4000000 in
theorem s_Mo_push {G : GT} (l0 : Nat) (l1 : Int32) (M : PH) : VX G mi_Mo_push 0 0 0 [some (.ref l0), some (.int l1)] [] M qV (f_Mo_push G l0 l1 M) := by
  unfold f_Mo_push
  refine V_open ok_Mo_push_0 ?_
  refine B_aload_n rfl ?_
  refine B_chk (fun t1 => ?_)
  refine K_getR 11 57 2257 lf_Mo_108 rfl rfl t1 (fun a2 r3 => ?_)
  refine B_aload_n rfl ?_
  refine K_getI 11 58 2258 lf_Mo_282 rfl rfl t1 ?_
  refine B_iload_n rfl ?_
  refine B_chk (fun t4 => ?_)
  refine K_iast t4 (fun M6 e5 => ?_)
  refine B_aload_n rfl ?_
  refine B_dup rfl ?_
  have h7 : hT M6 l0 = 11 := by rw [e5]; exact t1
  refine K_getI 11 58 2258 lf_Mo_282 rfl rfl h7 ?_
  refine B_iconst (1 : Int32) ic_1 ?_
  refine B_iadd ?_
  refine K_putI 11 58 2258 lf_Mo_282 rfl (Or.inl rfl) rfl h7 (fun M9 e8 => ?_)
  exact B_vret rfl

-- Mo_quad
theorem ok_Mo_quad_0 : okb prog_13_method_26_code 0 [(.iload_n 1, 1), (.iload 7, 2), (.invokestatic 182, 3), (.iload_n 3, 1), (.iload 9, 2), (.invokestatic 178, 3), (.if_icmp .ge 19, 3), (.iload_n 2, 1), (.iload 8, 2), (.invokestatic 182, 3), (.iload 4, 2), (.iload 10, 2), (.invokestatic 178, 3), (.if_icmp .lt 4, 3), (.return_, 1)] = true := by decide +kernel
theorem ok_Mo_quad_31 : okb prog_13_method_26_code 31 [(.return_, 1)] = true := by decide +kernel
theorem ok_Mo_quad_32 : okb prog_13_method_26_code 32 [(.bipush 11, 2), (.aload_n 0, 1), (.getfield 288, 3), (.imul, 1), (.istore 11, 2), (.aload_n 0, 1), (.getfield 169, 3), (.iload 11, 2), (.aload_n 0, 1), (.getfield 144, 3), (.iastore, 1), (.aload_n 0, 1), (.getfield 169, 3), (.iload 11, 2), (.iconst 1, 1), (.iadd, 1), (.iload_n 1, 1), (.iastore, 1), (.aload_n 0, 1), (.getfield 169, 3), (.iload 11, 2), (.iconst 2, 1), (.iadd, 1), (.iload_n 2, 1), (.iastore, 1), (.aload_n 0, 1), (.getfield 169, 3), (.iload 11, 2), (.iconst 3, 1), (.iadd, 1), (.iload_n 3, 1), (.iastore, 1), (.aload_n 0, 1), (.getfield 169, 3), (.iload 11, 2), (.iconst 4, 1), (.iadd, 1), (.iload 4, 2), (.iastore, 1), (.aload_n 0, 1), (.getfield 169, 3), (.iload 11, 2), (.iconst 5, 1), (.iadd, 1), (.iload 5, 2), (.iastore, 1), (.aload_n 0, 1), (.getfield 169, 3), (.iload 11, 2), (.bipush 6, 2), (.iadd, 1), (.iload 6, 2), (.iastore, 1), (.aload_n 0, 1), (.getfield 169, 3), (.iload 11, 2), (.bipush 7, 2), (.iadd, 1), (.iload 7, 2), (.iastore, 1), (.aload_n 0, 1), (.getfield 169, 3), (.iload 11, 2), (.bipush 8, 2), (.iadd, 1), (.iload 8, 2), (.iastore, 1), (.aload_n 0, 1), (.getfield 169, 3), (.iload 11, 2), (.bipush 9, 2), (.iadd, 1), (.iload 9, 2), (.iastore, 1), (.aload_n 0, 1), (.getfield 169, 3), (.iload 11, 2), (.bipush 10, 2), (.iadd, 1), (.iload 10, 2), (.iastore, 1), (.aload_n 0, 1), (.dup, 1), (.getfield 288, 3), (.iconst 1, 1), (.iadd, 1), (.putfield 288, 3), (.return_, 1)] = true := by decide +kernel
set_option maxRecDepth 100000 in
def f_Mo_quad (G : GT) (l0 : Nat) (l1 : Int32) (l2 : Int32) (l3 : Int32) (l4 : Int32) (l5 : Int32) (l6 : Int32) (l7 : Int32) (l8 : Int32) (l9 : Int32) (l10 : Int32) (M : PH) : Option (PH) :=
  bI (f_Mo_max G l1 l7 M) fun v2 M1 => (bI (f_Mo_min G l3 l9 M1) fun v4 M3 => (if v4 ≤ v2 then (some M3) else (bI (f_Mo_max G l2 l8 M3) fun v6 M5 => (bI (f_Mo_min G l4 l10 M5) fun v8 M7 => (if v6 < v8 then (if hT M7 l0 = 11 then vb ((11 : Int32) * (hI M7 2282 l0)) fun v10 => (hR M7 2280 l0).bind fun a11 => if hT M7 a11 = 16 then if ib v10 (hN M7 a11) = true then hb (sA M7 a11 v10.toNatClampNeg (hI M7 2271 l0)) fun M15 => (if ib (v10 + (1 : Int32)) (hN M15 a11) = true then hb (sA M15 a11 (v10 + (1 : Int32)).toNatClampNeg l1) fun M20 => (if ib (v10 + (2 : Int32)) (hN M20 a11) = true then hb (sA M20 a11 (v10 + (2 : Int32)).toNatClampNeg l2) fun M25 => (if ib (v10 + (3 : Int32)) (hN M25 a11) = true then hb (sA M25 a11 (v10 + (3 : Int32)).toNatClampNeg l3) fun M30 => (if ib (v10 + (4 : Int32)) (hN M30 a11) = true then hb (sA M30 a11 (v10 + (4 : Int32)).toNatClampNeg l4) fun M35 => (if ib (v10 + (5 : Int32)) (hN M35 a11) = true then hb (sA M35 a11 (v10 + (5 : Int32)).toNatClampNeg l5) fun M40 => (if ib (v10 + (6 : Int32)) (hN M40 a11) = true then hb (sA M40 a11 (v10 + (6 : Int32)).toNatClampNeg l6) fun M45 => (if ib (v10 + (7 : Int32)) (hN M45 a11) = true then hb (sA M45 a11 (v10 + (7 : Int32)).toNatClampNeg l7) fun M50 => (if ib (v10 + (8 : Int32)) (hN M50 a11) = true then hb (sA M50 a11 (v10 + (8 : Int32)).toNatClampNeg l8) fun M55 => (if ib (v10 + (9 : Int32)) (hN M55 a11) = true then hb (sA M55 a11 (v10 + (9 : Int32)).toNatClampNeg l9) fun M60 => (if ib (v10 + (10 : Int32)) (hN M60 a11) = true then hb (sA M60 a11 (v10 + (10 : Int32)).toNatClampNeg l10) fun M65 => (hb (sI M65 2282 l0 ((hI M65 2282 l0) + (1 : Int32))) fun M68 => some M68) else none) else none) else none) else none) else none) else none) else none) else none) else none) else none) else none else none else none) else (some M7))))))
set_option maxRecDepth 100000 in
set_option maxHeartbeats 4000000 in
theorem s_Mo_quad {G : GT} (l0 : Nat) (l1 : Int32) (l2 : Int32) (l3 : Int32) (l4 : Int32) (l5 : Int32) (l6 : Int32) (l7 : Int32) (l8 : Int32) (l9 : Int32) (l10 : Int32) (M : PH) : VX G mi_Mo_quad 1 14 0 [some (.ref l0), some (.int l1), some (.int l2), some (.int l3), some (.int l4), some (.int l5), some (.int l6), some (.int l7), some (.int l8), some (.int l9), some (.int l10), none] [] M qV (f_Mo_quad G l0 l1 l2 l3 l4 l5 l6 l7 l8 l9 l10 M) := by
  unfold f_Mo_quad
  refine V_open ok_Mo_quad_0 ?_
  refine B_iload_n rfl ?_
  refine B_iload rfl ?_
  refine C_I (vs := [.int l1, .int l7]) (st := []) (ci_S ls_Mo_182 rfl) rfl rfl rfl (s_Mo_max l1 l7 M) (fun v2 M1 => ?_)
  refine B_iload_n rfl ?_
  refine B_iload rfl ?_
  refine C_I (vs := [.int l3, .int l9]) (st := [.int v2]) (ci_S ls_Mo_178 rfl) rfl rfl rfl (s_Mo_min l3 l9 M1) (fun v4 M3 => ?_)
  refine B_ige (tgt := 31) (by decide) ?_ ?_
  · skip
    refine V_open ok_Mo_quad_31 ?_
    exact B_vret rfl
  · skip
    refine B_iload_n rfl ?_
    refine B_iload rfl ?_
    refine C_I (vs := [.int l2, .int l8]) (st := []) (ci_S ls_Mo_182 rfl) rfl rfl rfl (s_Mo_max l2 l8 M3) (fun v6 M5 => ?_)
    refine B_iload rfl ?_
    refine B_iload rfl ?_
    refine C_I (vs := [.int l4, .int l10]) (st := [.int v6]) (ci_S ls_Mo_178 rfl) rfl rfl rfl (s_Mo_min l4 l10 M5) (fun v8 M7 => ?_)
    refine B_ilt (tgt := 32) (by decide) ?_ ?_
    · skip
      refine V_open ok_Mo_quad_32 ?_
      refine B_bipush (11 : Int32) bp_11 ?_
      refine B_aload_n rfl ?_
      refine B_chk (fun t9 => ?_)
      refine K_getI 11 82 2282 lf_Mo_288 rfl rfl t9 ?_
      refine B_imul ?_
      refine B_vb (fun v10 => ?_)
      refine S_i [some (.ref l0), some (.int l1), some (.int l2), some (.int l3), some (.int l4), some (.int l5), some (.int l6), some (.int l7), some (.int l8), some (.int l9), some (.int l10), some (.int v10)] (by decide) rfl ?_
      refine B_aload_n rfl ?_
      refine K_getR 11 80 2280 lf_Mo_169 rfl rfl t9 (fun a11 r12 => ?_)
      refine B_iload rfl ?_
      refine B_aload_n rfl ?_
      refine K_getI 11 71 2271 lf_Mo_144 rfl rfl t9 ?_
      refine B_chk (fun t13 => ?_)
      refine K_iast t13 (fun M15 e14 => ?_)
      refine B_aload_n rfl ?_
      have h16 : hT M15 l0 = 11 := by rw [e14]; exact t9
      have h17 : hR M15 2280 l0 = some a11 := by rw [e14]; exact r12
      refine K_getRk 11 80 2280 lf_Mo_169 rfl rfl h16 h17 ?_
      refine B_iload rfl ?_
      refine B_iconst (1 : Int32) ic_1 ?_
      refine B_iadd ?_
      refine B_iload_n rfl ?_
      have h18 : hT M15 a11 = 16 := by rw [e14]; exact t13
      refine K_iast h18 (fun M20 e19 => ?_)
      refine B_aload_n rfl ?_
      have h21 : hT M20 l0 = 11 := by rw [e19]; exact h16
      have h22 : hR M20 2280 l0 = some a11 := by rw [e19]; exact h17
      refine K_getRk 11 80 2280 lf_Mo_169 rfl rfl h21 h22 ?_
      refine B_iload rfl ?_
      refine B_iconst (2 : Int32) ic_2 ?_
      refine B_iadd ?_
      refine B_iload_n rfl ?_
      have h23 : hT M20 a11 = 16 := by rw [e19]; exact h18
      refine K_iast h23 (fun M25 e24 => ?_)
      refine B_aload_n rfl ?_
      have h26 : hT M25 l0 = 11 := by rw [e24]; exact h21
      have h27 : hR M25 2280 l0 = some a11 := by rw [e24]; exact h22
      refine K_getRk 11 80 2280 lf_Mo_169 rfl rfl h26 h27 ?_
      refine B_iload rfl ?_
      refine B_iconst (3 : Int32) ic_3 ?_
      refine B_iadd ?_
      refine B_iload_n rfl ?_
      have h28 : hT M25 a11 = 16 := by rw [e24]; exact h23
      refine K_iast h28 (fun M30 e29 => ?_)
      refine B_aload_n rfl ?_
      have h31 : hT M30 l0 = 11 := by rw [e29]; exact h26
      have h32 : hR M30 2280 l0 = some a11 := by rw [e29]; exact h27
      refine K_getRk 11 80 2280 lf_Mo_169 rfl rfl h31 h32 ?_
      refine B_iload rfl ?_
      refine B_iconst (4 : Int32) ic_4 ?_
      refine B_iadd ?_
      refine B_iload rfl ?_
      have h33 : hT M30 a11 = 16 := by rw [e29]; exact h28
      refine K_iast h33 (fun M35 e34 => ?_)
      refine B_aload_n rfl ?_
      have h36 : hT M35 l0 = 11 := by rw [e34]; exact h31
      have h37 : hR M35 2280 l0 = some a11 := by rw [e34]; exact h32
      refine K_getRk 11 80 2280 lf_Mo_169 rfl rfl h36 h37 ?_
      refine B_iload rfl ?_
      refine B_iconst (5 : Int32) ic_5 ?_
      refine B_iadd ?_
      refine B_iload rfl ?_
      have h38 : hT M35 a11 = 16 := by rw [e34]; exact h33
      refine K_iast h38 (fun M40 e39 => ?_)
      refine B_aload_n rfl ?_
      have h41 : hT M40 l0 = 11 := by rw [e39]; exact h36
      have h42 : hR M40 2280 l0 = some a11 := by rw [e39]; exact h37
      refine K_getRk 11 80 2280 lf_Mo_169 rfl rfl h41 h42 ?_
      refine B_iload rfl ?_
      refine B_bipush (6 : Int32) bp_6 ?_
      refine B_iadd ?_
      refine B_iload rfl ?_
      have h43 : hT M40 a11 = 16 := by rw [e39]; exact h38
      refine K_iast h43 (fun M45 e44 => ?_)
      refine B_aload_n rfl ?_
      have h46 : hT M45 l0 = 11 := by rw [e44]; exact h41
      have h47 : hR M45 2280 l0 = some a11 := by rw [e44]; exact h42
      refine K_getRk 11 80 2280 lf_Mo_169 rfl rfl h46 h47 ?_
      refine B_iload rfl ?_
      refine B_bipush (7 : Int32) bp_7 ?_
      refine B_iadd ?_
      refine B_iload rfl ?_
      have h48 : hT M45 a11 = 16 := by rw [e44]; exact h43
      refine K_iast h48 (fun M50 e49 => ?_)
      refine B_aload_n rfl ?_
      have h51 : hT M50 l0 = 11 := by rw [e49]; exact h46
      have h52 : hR M50 2280 l0 = some a11 := by rw [e49]; exact h47
      refine K_getRk 11 80 2280 lf_Mo_169 rfl rfl h51 h52 ?_
      refine B_iload rfl ?_
      refine B_bipush (8 : Int32) bp_8 ?_
      refine B_iadd ?_
      refine B_iload rfl ?_
      have h53 : hT M50 a11 = 16 := by rw [e49]; exact h48
      refine K_iast h53 (fun M55 e54 => ?_)
      refine B_aload_n rfl ?_
      have h56 : hT M55 l0 = 11 := by rw [e54]; exact h51
      have h57 : hR M55 2280 l0 = some a11 := by rw [e54]; exact h52
      refine K_getRk 11 80 2280 lf_Mo_169 rfl rfl h56 h57 ?_
      refine B_iload rfl ?_
      refine B_bipush (9 : Int32) bp_9 ?_
      refine B_iadd ?_
      refine B_iload rfl ?_
      have h58 : hT M55 a11 = 16 := by rw [e54]; exact h53
      refine K_iast h58 (fun M60 e59 => ?_)
      refine B_aload_n rfl ?_
      have h61 : hT M60 l0 = 11 := by rw [e59]; exact h56
      have h62 : hR M60 2280 l0 = some a11 := by rw [e59]; exact h57
      refine K_getRk 11 80 2280 lf_Mo_169 rfl rfl h61 h62 ?_
      refine B_iload rfl ?_
      refine B_bipush (10 : Int32) bp_10 ?_
      refine B_iadd ?_
      refine B_iload rfl ?_
      have h63 : hT M60 a11 = 16 := by rw [e59]; exact h58
      refine K_iast h63 (fun M65 e64 => ?_)
      refine B_aload_n rfl ?_
      refine B_dup rfl ?_
      have h66 : hT M65 l0 = 11 := by rw [e64]; exact h61
      refine K_getI 11 82 2282 lf_Mo_288 rfl rfl h66 ?_
      refine B_iconst (1 : Int32) ic_1 ?_
      refine B_iadd ?_
      refine K_putI 11 82 2282 lf_Mo_288 rfl (Or.inl rfl) rfl h66 (fun M68 e67 => ?_)
      exact B_vret rfl
    · skip
      exact B_vret rfl

-- Mo_quadClipped
theorem ok_Mo_quadClipped_0 : okb prog_13_method_27_code 0 [(.aload_n 0, 1), (.iload_n 1, 1), (.iload_n 2, 1), (.iload_n 3, 1), (.iload 4, 2), (.iload 5, 2), (.iload 6, 2), (.aload_n 0, 1), (.getfield 147, 3), (.iconst 0, 1), (.iaload, 1), (.aload_n 0, 1), (.getfield 147, 3), (.iconst 1, 1), (.iaload, 1), (.aload_n 0, 1), (.getfield 147, 3), (.iconst 2, 1), (.iaload, 1), (.aload_n 0, 1), (.getfield 147, 3), (.iconst 3, 1), (.iaload, 1), (.invokevirtual 316, 3), (.return_, 1)] = true := by decide +kernel
set_option maxRecDepth 100000 in
def f_Mo_quadClipped (G : GT) (l0 : Nat) (l1 : Int32) (l2 : Int32) (l3 : Int32) (l4 : Int32) (l5 : Int32) (l6 : Int32) (M : PH) : Option (PH) :=
  if hT M l0 = 11 then (hR M 2272 l0).bind fun a2 => if hT M a2 = 16 then if 0 < hN M a2 then if 1 < hN M a2 then if 2 < hN M a2 then if 3 < hN M a2 then bV (f_Mo_quad G l0 l1 l2 l3 l4 l5 l6 (hA M a2 0) (hA M a2 1) (hA M a2 2) (hA M a2 3) M) fun M5 => (some M5) else none else none else none else none else none else none
set_option maxRecDepth 100000 in
set_option maxHeartbeats 4000000 in
theorem s_Mo_quadClipped {G : GT} (l0 : Nat) (l1 : Int32) (l2 : Int32) (l3 : Int32) (l4 : Int32) (l5 : Int32) (l6 : Int32) (M : PH) : VX G mi_Mo_quadClipped 2 37 0 [some (.ref l0), some (.int l1), some (.int l2), some (.int l3), some (.int l4), some (.int l5), some (.int l6)] [] M qV (f_Mo_quadClipped G l0 l1 l2 l3 l4 l5 l6 M) := by
  unfold f_Mo_quadClipped
  refine V_open ok_Mo_quadClipped_0 ?_
  refine B_aload_n rfl ?_
  refine B_iload_n rfl ?_
  refine B_iload_n rfl ?_
  refine B_iload_n rfl ?_
  refine B_iload rfl ?_
  refine B_iload rfl ?_
  refine B_iload rfl ?_
  refine B_aload_n rfl ?_
  refine B_chk (fun t1 => ?_)
  refine K_getR 11 72 2272 lf_Mo_147 rfl rfl t1 (fun a2 r3 => ?_)
  refine B_iconst (0 : Int32) ic_0 ?_
  refine B_chk (fun t4 => ?_)
  refine K_ialdc 0 rfl t4 ?_
  refine B_aload_n rfl ?_
  refine K_getRk 11 72 2272 lf_Mo_147 rfl rfl t1 r3 ?_
  refine B_iconst (1 : Int32) ic_1 ?_
  refine K_ialdc 1 rfl t4 ?_
  refine B_aload_n rfl ?_
  refine K_getRk 11 72 2272 lf_Mo_147 rfl rfl t1 r3 ?_
  refine B_iconst (2 : Int32) ic_2 ?_
  refine K_ialdc 2 rfl t4 ?_
  refine B_aload_n rfl ?_
  refine K_getRk 11 72 2272 lf_Mo_147 rfl rfl t1 r3 ?_
  refine B_iconst (3 : Int32) ic_3 ?_
  refine K_ialdc 3 rfl t4 ?_
  refine C_V (vs := [.ref l0, .int l1, .int l2, .int l3, .int l4, .int l5, .int l6, .int (hA M a2 0), .int (hA M a2 1), .int (hA M a2 2), .int (hA M a2 3)]) (st := []) (ci_V lv_Mo_316 rfl rfl t1) rfl rfl rfl (s_Mo_quad l0 l1 l2 l3 l4 l5 l6 (hA M a2 0) (hA M a2 1) (hA M a2 2) (hA M a2 3) M) (fun M5 => ?_)
  exact B_vret rfl

-- Mo_tellWindow
theorem ok_Mo_tellWindow_0 : okb prog_13_method_35_code 0 [(.sipush 1000, 3), (.iload_n 1, 1), (.iadd, 1), (.istore 4, 2), (.iload_n 1, 1), (.bipush 8, 2), (.if_icmp .ne 7, 3), (.iconst 0, 1), (.goto 5, 3)] = true := by decide +kernel
theorem ok_Mo_tellWindow_17 : okb prog_13_method_35_code 17 [(.bipush 12, 2)] = true := by decide +kernel
theorem ok_Mo_tellWindow_19 : okb prog_13_method_35_code 19 [(.istore 5, 2), (.aload_n 0, 1), (.getfield 42, 3), (.iload_n 1, 1), (.iload_n 2, 1), (.iastore, 1), (.aload_n 0, 1), (.getfield 45, 3), (.iload_n 1, 1), (.iload_n 3, 1), (.iastore, 1), (.aload_n 0, 1), (.getfield 60, 3), (.iload_n 1, 1), (.iconst 1, 1), (.bastore, 1), (.aload_n 0, 1), (.getfield 66, 3), (.iload_n 1, 1), (.iconst 1, 1), (.bastore, 1), (.aload_n 0, 1), (.iload 4, 2), (.invokevirtual 324, 3), (.aload_n 0, 1), (.getfield 26, 3), (.iload_n 1, 1), (.if_icmp .ne 27, 3), (.aload_n 0, 1), (.getfield 90, 3), (.iconst (-1), 1), (.if_icmp .ne 19, 3), (.aload_n 0, 1), (.getfield 48, 3), (.iload_n 1, 1), (.dup2, 1), (.iaload, 1), (.bipush 10, 2), (.aload_n 0, 1), (.getfield 214, 3), (.imul, 1), (.iadd, 1), (.iastore, 1)] = true := by decide +kernel
theorem ok_Mo_tellWindow_87 : okb prog_13_method_35_code 87 [(.aload_n 0, 1), (.getfield 48, 3), (.iload_n 1, 1), (.aload_n 0, 1), (.getfield 48, 3), (.iload_n 1, 1), (.iaload, 1), (.iconst 0, 1), (.iconst 0, 1), (.aload_n 0, 1), (.getfield 51, 3), (.iload_n 1, 1), (.iaload, 1), (.iload_n 3, 1), (.iload 5, 2), (.isub, 1), (.isub, 1), (.invokestatic 182, 3), (.invokestatic 327, 3), (.iastore, 1), (.iload_n 1, 1), (.bipush 8, 2), (.if_icmp .eq 142, 3), (.aload_n 0, 1), (.aload_n 0, 1), (.getfield 192, 3), (.aload_n 0, 1), (.getfield 195, 3), (.aload_n 0, 1), (.getfield 36, 3), (.iload_n 1, 1), (.iaload, 1), (.aload_n 0, 1), (.getfield 39, 3), (.iload_n 1, 1), (.iaload, 1), (.aload_n 0, 1), (.getfield 36, 3), (.iload_n 1, 1), (.iaload, 1), (.iload_n 2, 1), (.iadd, 1), (.aload_n 0, 1), (.getfield 39, 3), (.iload_n 1, 1), (.iaload, 1), (.bipush 12, 2), (.iadd, 1), (.invokevirtual 228, 3), (.istore 6, 2), (.aload_n 0, 1), (.getfield 26, 3), (.iload_n 1, 1), (.if_icmp .ne 28, 3), (.aload_n 0, 1), (.getfield 202, 3), (.ifCond .eq 21, 3), (.iload 6, 2), (.ifCond .eq 16, 3), (.aload_n 0, 1), (.getfield 255, 3), (.ifCond .ne 9, 3), (.aload_n 0, 1), (.iload 4, 2), (.putfield 255, 3)] = true := by decide +kernel
theorem ok_Mo_tellWindow_200 : okb prog_13_method_35_code 200 [(.aload_n 0, 1), (.getfield 255, 3), (.iload 4, 2), (.if_icmp .ne 57, 3), (.aload_n 0, 1), (.getfield 205, 3), (.ifCond .eq 50, 3), (.aload_n 0, 1), (.iconst 0, 1), (.putfield 255, 3), (.aload_n 0, 1), (.getfield 192, 3), (.aload_n 0, 1), (.getfield 208, 3), (.if_icmp .ne 34, 3), (.aload_n 0, 1), (.getfield 195, 3), (.aload_n 0, 1), (.getfield 211, 3), (.if_icmp .ne 23, 3), (.aload_n 0, 1), (.getfield 57, 3), (.iload_n 1, 1), (.aload_n 0, 1), (.getfield 57, 3), (.iload_n 1, 1), (.baload, 1), (.ifCond .ne 7, 3), (.iconst 1, 1), (.goto 4, 3)] = true := by decide +kernel
theorem ok_Mo_tellWindow_261 : okb prog_13_method_35_code 261 [(.iconst 0, 1)] = true := by decide +kernel
theorem ok_Mo_tellWindow_262 : okb prog_13_method_35_code 262 [(.bastore, 1)] = true := by decide +kernel
theorem ok_Mo_tellWindow_263 : okb prog_13_method_35_code 263 [(.aload_n 0, 1), (.iload_n 1, 1), (.putfield 144, 3), (.aload_n 0, 1), (.getfield 36, 3), (.iload_n 1, 1), (.iaload, 1), (.istore 6, 2), (.aload_n 0, 1), (.getfield 39, 3), (.iload_n 1, 1), (.iaload, 1), (.istore 7, 2), (.iload 6, 2), (.iload_n 2, 1), (.iadd, 1), (.istore 8, 2), (.iload 7, 2), (.aload_n 0, 1), (.iload_n 1, 1), (.invokevirtual 224, 3), (.iadd, 1), (.istore 9, 2), (.aload_n 0, 1), (.iconst 0, 1), (.aload_n 0, 1), (.iload 6, 2), (.iconst 4, 1), (.iadd, 1), (.iload 7, 2), (.iload 5, 2), (.iadd, 1), (.iconst 4, 1), (.iadd, 1), (.aload_n 0, 1), (.getfield 48, 3), (.iload_n 1, 1), (.iaload, 1), (.isub, 1), (.invokevirtual 331, 3), (.iload_n 1, 1), (.invokevirtual 334, 3), (.aload_n 0, 1), (.iload 4, 2), (.invokevirtual 337, 3), (.aload_n 0, 1), (.getfield 147, 3), (.iconst 0, 1), (.iload 6, 2), (.iconst 0, 1), (.invokestatic 182, 3), (.iastore, 1), (.aload_n 0, 1), (.getfield 147, 3), (.iconst 1, 1), (.iload 7, 2), (.iconst 0, 1), (.invokestatic 182, 3), (.iastore, 1), (.aload_n 0, 1), (.getfield 147, 3), (.iconst 2, 1), (.iload 8, 2), (.sipush 1000, 3), (.invokestatic 178, 3), (.iastore, 1), (.aload_n 0, 1), (.getfield 147, 3), (.iconst 3, 1), (.iload 9, 2), (.sipush 1000, 3), (.invokestatic 178, 3), (.iastore, 1), (.aload_n 0, 1), (.iload 6, 2), (.iload 7, 2), (.iload 8, 2), (.iload 9, 2), (.iconst 1, 1), (.iconst 0, 1), (.invokevirtual 320, 3), (.iload 5, 2), (.ifCond .le 20, 3), (.aload_n 0, 1), (.iload 6, 2), (.iload 7, 2), (.iload 8, 2), (.iload 7, 2), (.bipush 12, 2), (.iadd, 1), (.iconst 2, 1), (.iconst 0, 1), (.invokevirtual 320, 3)] = true := by decide +kernel
theorem ok_Mo_tellWindow_422 : okb prog_13_method_35_code 422 [(.aload_n 0, 1), (.getfield 147, 3), (.iconst 1, 1), (.iload 7, 2), (.iload 5, 2), (.iadd, 1), (.iconst 0, 1), (.invokestatic 182, 3), (.iastore, 1), (.return_, 1)] = true := by decide +kernel
set_option maxRecDepth 100000 in
def b_Mo_tellWindow_422 (G : GT) (l0 : Nat) (l5 : Int32) (l7 : Int32) (M : PH) : Option (PH) :=
  if hT M l0 = 11 then (hR M 2272 l0).bind fun a2 => bI (f_Mo_max G (l7 + l5) (0 : Int32) M) fun v5 M4 => (if hT M4 a2 = 16 then if 1 < hN M4 a2 then hb (sA M4 a2 1 v5) fun M8 => (some M8) else none else none) else none
set_option maxRecDepth 100000 in
set_option maxHeartbeats 4000000 in
theorem t_Mo_tellWindow_422 {G : GT} (l0 : Nat) (l5 : Int32) (l7 : Int32) (M : PH) : VX G mi_Mo_tellWindow 3 55 422 [some (.ref l0), none, none, none, none, some (.int l5), none, some (.int l7), none, none] [] M qV (b_Mo_tellWindow_422 G l0 l5 l7 M) := by
  unfold b_Mo_tellWindow_422
  refine V_open ok_Mo_tellWindow_422 ?_
  refine B_aload_n rfl ?_
  refine B_chk (fun t1 => ?_)
  refine K_getR 11 72 2272 lf_Mo_147 rfl rfl t1 (fun a2 r3 => ?_)
  refine B_iconst (1 : Int32) ic_1 ?_
  refine B_iload rfl ?_
  refine B_iload rfl ?_
  refine B_iadd ?_
  refine B_iconst (0 : Int32) ic_0 ?_
  refine C_I (vs := [.int (l7 + l5), .int (0 : Int32)]) (st := [.int (1 : Int32), .ref a2]) (ci_S ls_Mo_182 rfl) rfl rfl rfl (s_Mo_max (l7 + l5) (0 : Int32) M) (fun v5 M4 => ?_)
  refine B_chk (fun t6 => ?_)
  refine K_iastc 1 rfl t6 (fun M8 e7 => ?_)
  exact B_vret rfl
set_option maxRecDepth 100000 in
def b_Mo_tellWindow_263 (G : GT) (l0 : Nat) (l1 : Int32) (l2 : Int32) (l4 : Int32) (l5 : Int32) (M : PH) : Option (PH) :=
  if hT M l0 = 11 then hb (sI M 2271 l0 l1) fun M3 => (hR M3 2229 l0).bind fun a5 => if hT M3 a5 = 16 then if ib l1 (hN M3 a5) = true then vb (hA M3 a5 l1.toNatClampNeg) fun v8 => (hR M3 2230 l0).bind fun a9 => if hT M3 a9 = 16 then if ib l1 (hN M3 a9) = true then vb (hA M3 a9 l1.toNatClampNeg) fun v12 => vb (v8 + l2) fun v13 => bI (f_Mo_height G l0 l1 M3) fun v15 M14 => (vb (v12 + v15) fun v16 => if hT M14 l0 = 11 then (hR M14 2233 l0).bind fun a18 => if hT M14 a18 = 16 then if ib l1 (hN M14 a18) = true then bI (f_Mo_area G l0 (v8 + (4 : Int32)) (((v12 + l5) + (4 : Int32)) - (hA M14 a18 l1.toNatClampNeg)) M14) fun v22 M21 => (if hT M21 l0 = 11 then bV (f_Mo_openThing G l0 (0 : Int32) v22 l1 M21) fun M24 => (if hT M24 l0 = 11 then bV (f_Mo_push G l0 l4 M24) fun M26 => (if hT M26 l0 = 11 then (hR M26 2272 l0).bind fun a28 => bI (f_Mo_max G v8 (0 : Int32) M26) fun v31 M30 => (if hT M30 a28 = 16 then if 0 < hN M30 a28 then hb (sA M30 a28 0 v31) fun M34 => (if hT M34 l0 = 11 then (hR M34 2272 l0).bind fun a36 => bI (f_Mo_max G v12 (0 : Int32) M34) fun v39 M38 => (if hT M38 a36 = 16 then if 1 < hN M38 a36 then hb (sA M38 a36 1 v39) fun M42 => (if hT M42 l0 = 11 then (hR M42 2272 l0).bind fun a44 => bI (f_Mo_min G v13 (1000 : Int32) M42) fun v47 M46 => (if hT M46 a44 = 16 then if 2 < hN M46 a44 then hb (sA M46 a44 2 v47) fun M50 => (if hT M50 l0 = 11 then (hR M50 2272 l0).bind fun a52 => bI (f_Mo_min G v16 (1000 : Int32) M50) fun v55 M54 => (if hT M54 a52 = 16 then if 3 < hN M54 a52 then hb (sA M54 a52 3 v55) fun M58 => (if hT M58 l0 = 11 then bV (f_Mo_quadClipped G l0 v8 v12 v13 v16 (1 : Int32) (0 : Int32) M58) fun M60 => (if l5 ≤ 0 then (b_Mo_tellWindow_422 G l0 l5 v12 M60) else (if hT M60 l0 = 11 then bV (f_Mo_quadClipped G l0 v8 v12 v13 (v12 + (12 : Int32)) (2 : Int32) (0 : Int32) M60) fun M62 => (b_Mo_tellWindow_422 G l0 l5 v12 M62) else none)) else none) else none else none) else none) else none else none) else none) else none else none) else none) else none else none) else none) else none) else none) else none else none else none) else none else none else none else none else none
set_option maxRecDepth 100000 in
set_option maxHeartbeats 4000000 in
theorem t_Mo_tellWindow_263 {G : GT} (l0 : Nat) (l1 : Int32) (l2 : Int32) (l4 : Int32) (l5 : Int32) (M : PH) : VX G mi_Mo_tellWindow 3 55 263 [some (.ref l0), some (.int l1), some (.int l2), none, some (.int l4), some (.int l5), none, none, none, none] [] M qV (b_Mo_tellWindow_263 G l0 l1 l2 l4 l5 M) := by
  unfold b_Mo_tellWindow_263
  refine V_open ok_Mo_tellWindow_263 ?_
  refine B_aload_n rfl ?_
  refine B_iload_n rfl ?_
  refine B_chk (fun t1 => ?_)
  refine K_putI 11 71 2271 lf_Mo_144 rfl (Or.inl rfl) rfl t1 (fun M3 e2 => ?_)
  refine B_aload_n rfl ?_
  have h4 : hT M3 l0 = 11 := by rw [e2]; exact t1
  refine K_getR 11 29 2229 lf_Mo_36 rfl rfl h4 (fun a5 r6 => ?_)
  refine B_iload_n rfl ?_
  refine B_chk (fun t7 => ?_)
  refine K_iald t7 ?_
  refine B_vb (fun v8 => ?_)
  refine S_i [some (.ref l0), some (.int l1), some (.int l2), none, some (.int l4), some (.int l5), some (.int v8), none, none, none] (by decide) rfl ?_
  refine B_aload_n rfl ?_
  refine K_getR 11 30 2230 lf_Mo_39 rfl rfl h4 (fun a9 r10 => ?_)
  refine B_iload_n rfl ?_
  refine B_chk (fun t11 => ?_)
  refine K_iald t11 ?_
  refine B_vb (fun v12 => ?_)
  refine S_i [some (.ref l0), some (.int l1), some (.int l2), none, some (.int l4), some (.int l5), some (.int v8), some (.int v12), none, none] (by decide) rfl ?_
  refine B_iload rfl ?_
  refine B_iload_n rfl ?_
  refine B_iadd ?_
  refine B_vb (fun v13 => ?_)
  refine S_i [some (.ref l0), some (.int l1), some (.int l2), none, some (.int l4), some (.int l5), some (.int v8), some (.int v12), some (.int v13), none] (by decide) rfl ?_
  refine B_iload rfl ?_
  refine B_aload_n rfl ?_
  refine B_iload_n rfl ?_
  refine C_I (vs := [.ref l0, .int l1]) (st := [.int v12]) (ci_V lv_Mo_224 rfl rfl h4) rfl rfl rfl (s_Mo_height l0 l1 M3) (fun v15 M14 => ?_)
  refine B_iadd ?_
  refine B_vb (fun v16 => ?_)
  refine S_i [some (.ref l0), some (.int l1), some (.int l2), none, some (.int l4), some (.int l5), some (.int v8), some (.int v12), some (.int v13), some (.int v16)] (by decide) rfl ?_
  refine B_aload_n rfl ?_
  refine B_iconst (0 : Int32) ic_0 ?_
  refine B_aload_n rfl ?_
  refine B_iload rfl ?_
  refine B_iconst (4 : Int32) ic_4 ?_
  refine B_iadd ?_
  refine B_iload rfl ?_
  refine B_iload rfl ?_
  refine B_iadd ?_
  refine B_iconst (4 : Int32) ic_4 ?_
  refine B_iadd ?_
  refine B_aload_n rfl ?_
  refine B_chk (fun t17 => ?_)
  refine K_getR 11 33 2233 lf_Mo_48 rfl rfl t17 (fun a18 r19 => ?_)
  refine B_iload_n rfl ?_
  refine B_chk (fun t20 => ?_)
  refine K_iald t20 ?_
  refine B_isub ?_
  refine C_I (vs := [.ref l0, .int (v8 + (4 : Int32)), .int (((v12 + l5) + (4 : Int32)) - (hA M14 a18 l1.toNatClampNeg))]) (st := [.int (0 : Int32), .ref l0]) (ci_V lv_Mo_331 rfl rfl t17) rfl rfl rfl (s_Mo_area l0 (v8 + (4 : Int32)) (((v12 + l5) + (4 : Int32)) - (hA M14 a18 l1.toNatClampNeg)) M14) (fun v22 M21 => ?_)
  refine B_iload_n rfl ?_
  refine B_chk (fun t23 => ?_)
  refine C_V (vs := [.ref l0, .int (0 : Int32), .int v22, .int l1]) (st := []) (ci_V lv_Mo_334 rfl rfl t23) rfl rfl rfl (s_Mo_openThing l0 (0 : Int32) v22 l1 M21) (fun M24 => ?_)
  refine B_aload_n rfl ?_
  refine B_iload rfl ?_
  refine B_chk (fun t25 => ?_)
  refine C_V (vs := [.ref l0, .int l4]) (st := []) (ci_V lv_Mo_337 rfl rfl t25) rfl rfl rfl (s_Mo_push l0 l4 M24) (fun M26 => ?_)
  refine B_aload_n rfl ?_
  refine B_chk (fun t27 => ?_)
  refine K_getR 11 72 2272 lf_Mo_147 rfl rfl t27 (fun a28 r29 => ?_)
  refine B_iconst (0 : Int32) ic_0 ?_
  refine B_iload rfl ?_
  refine B_iconst (0 : Int32) ic_0 ?_
  refine C_I (vs := [.int v8, .int (0 : Int32)]) (st := [.int (0 : Int32), .ref a28]) (ci_S ls_Mo_182 rfl) rfl rfl rfl (s_Mo_max v8 (0 : Int32) M26) (fun v31 M30 => ?_)
  refine B_chk (fun t32 => ?_)
  refine K_iastc 0 rfl t32 (fun M34 e33 => ?_)
  refine B_aload_n rfl ?_
  refine B_chk (fun t35 => ?_)
  refine K_getR 11 72 2272 lf_Mo_147 rfl rfl t35 (fun a36 r37 => ?_)
  refine B_iconst (1 : Int32) ic_1 ?_
  refine B_iload rfl ?_
  refine B_iconst (0 : Int32) ic_0 ?_
  refine C_I (vs := [.int v12, .int (0 : Int32)]) (st := [.int (1 : Int32), .ref a36]) (ci_S ls_Mo_182 rfl) rfl rfl rfl (s_Mo_max v12 (0 : Int32) M34) (fun v39 M38 => ?_)
  refine B_chk (fun t40 => ?_)
  refine K_iastc 1 rfl t40 (fun M42 e41 => ?_)
  refine B_aload_n rfl ?_
  refine B_chk (fun t43 => ?_)
  refine K_getR 11 72 2272 lf_Mo_147 rfl rfl t43 (fun a44 r45 => ?_)
  refine B_iconst (2 : Int32) ic_2 ?_
  refine B_iload rfl ?_
  refine B_sipush (1000 : Int32) sp_1000 ?_
  refine C_I (vs := [.int v13, .int (1000 : Int32)]) (st := [.int (2 : Int32), .ref a44]) (ci_S ls_Mo_178 rfl) rfl rfl rfl (s_Mo_min v13 (1000 : Int32) M42) (fun v47 M46 => ?_)
  refine B_chk (fun t48 => ?_)
  refine K_iastc 2 rfl t48 (fun M50 e49 => ?_)
  refine B_aload_n rfl ?_
  refine B_chk (fun t51 => ?_)
  refine K_getR 11 72 2272 lf_Mo_147 rfl rfl t51 (fun a52 r53 => ?_)
  refine B_iconst (3 : Int32) ic_3 ?_
  refine B_iload rfl ?_
  refine B_sipush (1000 : Int32) sp_1000 ?_
  refine C_I (vs := [.int v16, .int (1000 : Int32)]) (st := [.int (3 : Int32), .ref a52]) (ci_S ls_Mo_178 rfl) rfl rfl rfl (s_Mo_min v16 (1000 : Int32) M50) (fun v55 M54 => ?_)
  refine B_chk (fun t56 => ?_)
  refine K_iastc 3 rfl t56 (fun M58 e57 => ?_)
  refine B_aload_n rfl ?_
  refine B_iload rfl ?_
  refine B_iload rfl ?_
  refine B_iload rfl ?_
  refine B_iload rfl ?_
  refine B_iconst (1 : Int32) ic_1 ?_
  refine B_iconst (0 : Int32) ic_0 ?_
  refine B_chk (fun t59 => ?_)
  refine C_V (vs := [.ref l0, .int v8, .int v12, .int v13, .int v16, .int (1 : Int32), .int (0 : Int32)]) (st := []) (ci_V lv_Mo_320 rfl rfl t59) rfl rfl rfl (s_Mo_quadClipped l0 v8 v12 v13 v16 (1 : Int32) (0 : Int32) M58) (fun M60 => ?_)
  refine B_iload rfl ?_
  refine B_le (tgt := 422) (by decide) ?_ ?_
  · skip
    exact V_weak (ls' := [some (.ref l0), none, none, none, none, some (.int l5), none, some (.int v12), none, none]) ⟨rfl, ⟨rfl, ⟨rfl, trivial⟩⟩⟩ (t_Mo_tellWindow_422 l0 l5 v12 M60)
  · skip
    refine B_aload_n rfl ?_
    refine B_iload rfl ?_
    refine B_iload rfl ?_
    refine B_iload rfl ?_
    refine B_iload rfl ?_
    refine B_bipush (12 : Int32) bp_12 ?_
    refine B_iadd ?_
    refine B_iconst (2 : Int32) ic_2 ?_
    refine B_iconst (0 : Int32) ic_0 ?_
    refine B_chk (fun t61 => ?_)
    refine C_V (vs := [.ref l0, .int v8, .int v12, .int v13, .int (v12 + (12 : Int32)), .int (2 : Int32), .int (0 : Int32)]) (st := []) (ci_V lv_Mo_320 rfl rfl t61) rfl rfl rfl (s_Mo_quadClipped l0 v8 v12 v13 (v12 + (12 : Int32)) (2 : Int32) (0 : Int32) M60) (fun M62 => ?_)
    refine V_close ?_
    exact V_weak (ls' := [some (.ref l0), none, none, none, none, some (.int l5), none, some (.int v12), none, none]) ⟨rfl, ⟨rfl, ⟨rfl, trivial⟩⟩⟩ (t_Mo_tellWindow_422 l0 l5 v12 M62)
set_option maxRecDepth 100000 in
def b_Mo_tellWindow_262 (G : GT) (l0 : Nat) (l1 : Int32) (l2 : Int32) (l4 : Int32) (l5 : Int32) (s0 : Nat) (s1 : Int32) (s2 : Int32) (M : PH) : Option (PH) :=
  if hT M s0 = 17 then if s2 = 0 ∨ s2 = 1 then if ib s1 (hN M s0) = true then hb (sA M s0 s1.toNatClampNeg s2) fun M4 => (b_Mo_tellWindow_263 G l0 l1 l2 l4 l5 M4) else none else none else none
set_option maxRecDepth 100000 in
set_option maxHeartbeats 4000000 in
theorem t_Mo_tellWindow_262 {G : GT} (l0 : Nat) (l1 : Int32) (l2 : Int32) (l4 : Int32) (l5 : Int32) (s0 : Nat) (s1 : Int32) (s2 : Int32) (M : PH) : VX G mi_Mo_tellWindow 3 55 262 [some (.ref l0), some (.int l1), some (.int l2), none, some (.int l4), some (.int l5), none, none, none, none] [.int s2, .int s1, .ref s0] M qV (b_Mo_tellWindow_262 G l0 l1 l2 l4 l5 s0 s1 s2 M) := by
  unfold b_Mo_tellWindow_262
  refine V_open ok_Mo_tellWindow_262 ?_
  refine B_chk (fun t1 => ?_)
  refine B_chk (fun z2 => ?_)
  refine K_zast t1 z2 (fun M4 e3 => ?_)
  refine V_close ?_
  exact V_weak (ls' := [some (.ref l0), some (.int l1), some (.int l2), none, some (.int l4), some (.int l5), none, none, none, none]) ⟨rfl, ⟨rfl, ⟨rfl, ⟨rfl, ⟨rfl, trivial⟩⟩⟩⟩⟩ (t_Mo_tellWindow_263 l0 l1 l2 l4 l5 M4)
set_option maxRecDepth 100000 in
def b_Mo_tellWindow_200 (G : GT) (l0 : Nat) (l1 : Int32) (l2 : Int32) (l4 : Int32) (l5 : Int32) (M : PH) : Option (PH) :=
  if hT M l0 = 11 then if ¬ hI M 2219 l0 = l4 then (b_Mo_tellWindow_263 G l0 l1 l2 l4 l5 M) else (if hI M 2214 l0 = 0 then (b_Mo_tellWindow_263 G l0 l1 l2 l4 l5 M) else (hb (sI M 2219 l0 (0 : Int32)) fun M3 => if ¬ hI M3 2203 l0 = hI M3 2207 l0 then (b_Mo_tellWindow_263 G l0 l1 l2 l4 l5 M3) else (if ¬ hI M3 2204 l0 = hI M3 2208 l0 then (b_Mo_tellWindow_263 G l0 l1 l2 l4 l5 M3) else ((hR M3 2236 l0).bind fun a5 => if hT M3 a5 = 17 then if ib l1 (hN M3 a5) = true then if ¬ hA M3 a5 l1.toNatClampNeg = 0 then (b_Mo_tellWindow_262 G l0 l1 l2 l4 l5 a5 l1 (0 : Int32) M3) else (b_Mo_tellWindow_262 G l0 l1 l2 l4 l5 a5 l1 (1 : Int32) M3) else none else none)))) else none
set_option maxRecDepth 100000 in
set_option maxHeartbeats 4000000 in
theorem t_Mo_tellWindow_200 {G : GT} (l0 : Nat) (l1 : Int32) (l2 : Int32) (l4 : Int32) (l5 : Int32) (M : PH) : VX G mi_Mo_tellWindow 3 55 200 [some (.ref l0), some (.int l1), some (.int l2), none, some (.int l4), some (.int l5), none, none, none, none] [] M qV (b_Mo_tellWindow_200 G l0 l1 l2 l4 l5 M) := by
  unfold b_Mo_tellWindow_200
  refine V_open ok_Mo_tellWindow_200 ?_
  refine B_aload_n rfl ?_
  refine B_chk (fun t1 => ?_)
  refine K_getI 11 19 2219 lf_Mo_255 rfl rfl t1 ?_
  refine B_iload rfl ?_
  refine B_ine (tgt := 263) (by decide) ?_ ?_
  · skip
    exact V_weak (ls' := [some (.ref l0), some (.int l1), some (.int l2), none, some (.int l4), some (.int l5), none, none, none, none]) ⟨rfl, ⟨rfl, ⟨rfl, ⟨rfl, ⟨rfl, trivial⟩⟩⟩⟩⟩ (t_Mo_tellWindow_263 l0 l1 l2 l4 l5 M)
  · skip
    refine B_aload_n rfl ?_
    refine K_getI 11 14 2214 lf_Mo_205 rfl rfl t1 ?_
    refine B_eq (tgt := 263) (by decide) ?_ ?_
    · skip
      exact V_weak (ls' := [some (.ref l0), some (.int l1), some (.int l2), none, some (.int l4), some (.int l5), none, none, none, none]) ⟨rfl, ⟨rfl, ⟨rfl, ⟨rfl, ⟨rfl, trivial⟩⟩⟩⟩⟩ (t_Mo_tellWindow_263 l0 l1 l2 l4 l5 M)
    · skip
      refine B_aload_n rfl ?_
      refine B_iconst (0 : Int32) ic_0 ?_
      refine K_putI 11 19 2219 lf_Mo_255 rfl (Or.inl rfl) rfl t1 (fun M3 e2 => ?_)
      refine B_aload_n rfl ?_
      have h4 : hT M3 l0 = 11 := by rw [e2]; exact t1
      refine K_getI 11 3 2203 lf_Mo_192 rfl rfl h4 ?_
      refine B_aload_n rfl ?_
      refine K_getI 11 7 2207 lf_Mo_208 rfl rfl h4 ?_
      refine B_ine (tgt := 263) (by decide) ?_ ?_
      · skip
        exact V_weak (ls' := [some (.ref l0), some (.int l1), some (.int l2), none, some (.int l4), some (.int l5), none, none, none, none]) ⟨rfl, ⟨rfl, ⟨rfl, ⟨rfl, ⟨rfl, trivial⟩⟩⟩⟩⟩ (t_Mo_tellWindow_263 l0 l1 l2 l4 l5 M3)
      · skip
        refine B_aload_n rfl ?_
        refine K_getI 11 4 2204 lf_Mo_195 rfl rfl h4 ?_
        refine B_aload_n rfl ?_
        refine K_getI 11 8 2208 lf_Mo_211 rfl rfl h4 ?_
        refine B_ine (tgt := 263) (by decide) ?_ ?_
        · skip
          exact V_weak (ls' := [some (.ref l0), some (.int l1), some (.int l2), none, some (.int l4), some (.int l5), none, none, none, none]) ⟨rfl, ⟨rfl, ⟨rfl, ⟨rfl, ⟨rfl, trivial⟩⟩⟩⟩⟩ (t_Mo_tellWindow_263 l0 l1 l2 l4 l5 M3)
        · skip
          refine B_aload_n rfl ?_
          refine K_getR 11 36 2236 lf_Mo_57 rfl rfl h4 (fun a5 r6 => ?_)
          refine B_iload_n rfl ?_
          refine B_aload_n rfl ?_
          refine K_getRk 11 36 2236 lf_Mo_57 rfl rfl h4 r6 ?_
          refine B_iload_n rfl ?_
          refine B_chk (fun t7 => ?_)
          refine K_zald t7 ?_
          refine B_ne (tgt := 261) (by decide) ?_ ?_
          · skip
            refine V_open ok_Mo_tellWindow_261 ?_
            refine B_iconst (0 : Int32) ic_0 ?_
            refine V_close ?_
            exact V_weak (ls' := [some (.ref l0), some (.int l1), some (.int l2), none, some (.int l4), some (.int l5), none, none, none, none]) ⟨rfl, ⟨rfl, ⟨rfl, ⟨rfl, ⟨rfl, trivial⟩⟩⟩⟩⟩ (t_Mo_tellWindow_262 l0 l1 l2 l4 l5 a5 l1 (0 : Int32) M3)
          · skip
            refine B_iconst (1 : Int32) ic_1 ?_
            refine B_goto (tgt := 262) (by decide) ?_
            exact V_weak (ls' := [some (.ref l0), some (.int l1), some (.int l2), none, some (.int l4), some (.int l5), none, none, none, none]) ⟨rfl, ⟨rfl, ⟨rfl, ⟨rfl, ⟨rfl, trivial⟩⟩⟩⟩⟩ (t_Mo_tellWindow_262 l0 l1 l2 l4 l5 a5 l1 (1 : Int32) M3)
set_option maxRecDepth 100000 in
def b_Mo_tellWindow_87 (G : GT) (l0 : Nat) (l1 : Int32) (l2 : Int32) (l3 : Int32) (l4 : Int32) (l5 : Int32) (M : PH) : Option (PH) :=
  if hT M l0 = 11 then (hR M 2233 l0).bind fun a2 => if hT M a2 = 16 then if ib l1 (hN M a2) = true then (hR M 2234 l0).bind fun a5 => if hT M a5 = 16 then if ib l1 (hN M a5) = true then bI (f_Mo_max G (0 : Int32) ((hA M a5 l1.toNatClampNeg) - (l3 - l5)) M) fun v9 M8 => (bI (f_Mo_between G (hA M a2 l1.toNatClampNeg) (0 : Int32) v9 M8) fun v11 M10 => (if hT M10 a2 = 16 then if ib l1 (hN M10 a2) = true then hb (sA M10 a2 l1.toNatClampNeg v11) fun M14 => (if l1 = (8 : Int32) then (b_Mo_tellWindow_263 G l0 l1 l2 l4 l5 M14) else (if hT M14 l0 = 11 then (hR M14 2229 l0).bind fun a16 => if hT M14 a16 = 16 then if ib l1 (hN M14 a16) = true then (hR M14 2230 l0).bind fun a19 => if hT M14 a19 = 16 then if ib l1 (hN M14 a19) = true then if ib l1 (hN M14 a16) = true then if ib l1 (hN M14 a19) = true then bI (f_Mo_isIn G l0 (hI M14 2203 l0) (hI M14 2204 l0) (hA M14 a16 l1.toNatClampNeg) (hA M14 a19 l1.toNatClampNeg) ((hA M14 a16 l1.toNatClampNeg) + l2) ((hA M14 a19 l1.toNatClampNeg) + (12 : Int32)) M14) fun v23 M22 => (if hT M22 l0 = 11 then if ¬ hI M22 2223 l0 = l1 then (b_Mo_tellWindow_200 G l0 l1 l2 l4 l5 M22) else (if hI M22 2213 l0 = 0 then (b_Mo_tellWindow_200 G l0 l1 l2 l4 l5 M22) else (if v23 = 0 then (b_Mo_tellWindow_200 G l0 l1 l2 l4 l5 M22) else (if ¬ hI M22 2219 l0 = 0 then (b_Mo_tellWindow_200 G l0 l1 l2 l4 l5 M22) else (hb (sI M22 2219 l0 l4) fun M26 => b_Mo_tellWindow_200 G l0 l1 l2 l4 l5 M26)))) else none) else none else none else none else none else none else none else none)) else none else none)) else none else none else none else none else none
set_option maxRecDepth 100000 in
set_option maxHeartbeats 4000000 in
theorem t_Mo_tellWindow_87 {G : GT} (l0 : Nat) (l1 : Int32) (l2 : Int32) (l3 : Int32) (l4 : Int32) (l5 : Int32) (M : PH) : VX G mi_Mo_tellWindow 3 55 87 [some (.ref l0), some (.int l1), some (.int l2), some (.int l3), some (.int l4), some (.int l5), none, none, none, none] [] M qV (b_Mo_tellWindow_87 G l0 l1 l2 l3 l4 l5 M) := by
  unfold b_Mo_tellWindow_87
  refine V_open ok_Mo_tellWindow_87 ?_
  refine B_aload_n rfl ?_
  refine B_chk (fun t1 => ?_)
  refine K_getR 11 33 2233 lf_Mo_48 rfl rfl t1 (fun a2 r3 => ?_)
  refine B_iload_n rfl ?_
  refine B_aload_n rfl ?_
  refine K_getRk 11 33 2233 lf_Mo_48 rfl rfl t1 r3 ?_
  refine B_iload_n rfl ?_
  refine B_chk (fun t4 => ?_)
  refine K_iald t4 ?_
  refine B_iconst (0 : Int32) ic_0 ?_
  refine B_iconst (0 : Int32) ic_0 ?_
  refine B_aload_n rfl ?_
  refine K_getR 11 34 2234 lf_Mo_51 rfl rfl t1 (fun a5 r6 => ?_)
  refine B_iload_n rfl ?_
  refine B_chk (fun t7 => ?_)
  refine K_iald t7 ?_
  refine B_iload_n rfl ?_
  refine B_iload rfl ?_
  refine B_isub ?_
  refine B_isub ?_
  refine C_I (vs := [.int (0 : Int32), .int ((hA M a5 l1.toNatClampNeg) - (l3 - l5))]) (st := [.int (0 : Int32), .int (hA M a2 l1.toNatClampNeg), .int l1, .ref a2]) (ci_S ls_Mo_182 rfl) rfl rfl rfl (s_Mo_max (0 : Int32) ((hA M a5 l1.toNatClampNeg) - (l3 - l5)) M) (fun v9 M8 => ?_)
  refine C_I (vs := [.int (hA M a2 l1.toNatClampNeg), .int (0 : Int32), .int v9]) (st := [.int l1, .ref a2]) (ci_S ls_Mo_327 rfl) rfl rfl rfl (s_Mo_between (hA M a2 l1.toNatClampNeg) (0 : Int32) v9 M8) (fun v11 M10 => ?_)
  refine B_chk (fun t12 => ?_)
  refine K_iast t12 (fun M14 e13 => ?_)
  refine B_iload_n rfl ?_
  refine B_bipush (8 : Int32) bp_8 ?_
  refine B_ieq (tgt := 263) (by decide) ?_ ?_
  · skip
    exact V_weak (ls' := [some (.ref l0), some (.int l1), some (.int l2), none, some (.int l4), some (.int l5), none, none, none, none]) ⟨rfl, ⟨rfl, ⟨rfl, ⟨rfl, ⟨rfl, trivial⟩⟩⟩⟩⟩ (t_Mo_tellWindow_263 l0 l1 l2 l4 l5 M14)
  · skip
    refine B_aload_n rfl ?_
    refine B_aload_n rfl ?_
    refine B_chk (fun t15 => ?_)
    refine K_getI 11 3 2203 lf_Mo_192 rfl rfl t15 ?_
    refine B_aload_n rfl ?_
    refine K_getI 11 4 2204 lf_Mo_195 rfl rfl t15 ?_
    refine B_aload_n rfl ?_
    refine K_getR 11 29 2229 lf_Mo_36 rfl rfl t15 (fun a16 r17 => ?_)
    refine B_iload_n rfl ?_
    refine B_chk (fun t18 => ?_)
    refine K_iald t18 ?_
    refine B_aload_n rfl ?_
    refine K_getR 11 30 2230 lf_Mo_39 rfl rfl t15 (fun a19 r20 => ?_)
    refine B_iload_n rfl ?_
    refine B_chk (fun t21 => ?_)
    refine K_iald t21 ?_
    refine B_aload_n rfl ?_
    refine K_getRk 11 29 2229 lf_Mo_36 rfl rfl t15 r17 ?_
    refine B_iload_n rfl ?_
    refine K_iald t18 ?_
    refine B_iload_n rfl ?_
    refine B_iadd ?_
    refine B_aload_n rfl ?_
    refine K_getRk 11 30 2230 lf_Mo_39 rfl rfl t15 r20 ?_
    refine B_iload_n rfl ?_
    refine K_iald t21 ?_
    refine B_bipush (12 : Int32) bp_12 ?_
    refine B_iadd ?_
    refine C_I (vs := [.ref l0, .int (hI M14 2203 l0), .int (hI M14 2204 l0), .int (hA M14 a16 l1.toNatClampNeg), .int (hA M14 a19 l1.toNatClampNeg), .int ((hA M14 a16 l1.toNatClampNeg) + l2), .int ((hA M14 a19 l1.toNatClampNeg) + (12 : Int32))]) (st := []) (ci_V lv_Mo_228 rfl rfl t15) rfl rfl rfl (s_Mo_isIn l0 (hI M14 2203 l0) (hI M14 2204 l0) (hA M14 a16 l1.toNatClampNeg) (hA M14 a19 l1.toNatClampNeg) ((hA M14 a16 l1.toNatClampNeg) + l2) ((hA M14 a19 l1.toNatClampNeg) + (12 : Int32)) M14) (fun v23 M22 => ?_)
    refine S_i [some (.ref l0), some (.int l1), some (.int l2), some (.int l3), some (.int l4), some (.int l5), some (.int v23), none, none, none] (by decide) rfl ?_
    refine B_aload_n rfl ?_
    refine B_chk (fun t24 => ?_)
    refine K_getI 11 23 2223 lf_Mo_26 rfl rfl t24 ?_
    refine B_iload_n rfl ?_
    refine B_ine (tgt := 200) (by decide) ?_ ?_
    · skip
      exact V_weak (ls' := [some (.ref l0), some (.int l1), some (.int l2), none, some (.int l4), some (.int l5), none, none, none, none]) ⟨rfl, ⟨rfl, ⟨rfl, ⟨rfl, ⟨rfl, trivial⟩⟩⟩⟩⟩ (t_Mo_tellWindow_200 l0 l1 l2 l4 l5 M22)
    · skip
      refine B_aload_n rfl ?_
      refine K_getI 11 13 2213 lf_Mo_202 rfl rfl t24 ?_
      refine B_eq (tgt := 200) (by decide) ?_ ?_
      · skip
        exact V_weak (ls' := [some (.ref l0), some (.int l1), some (.int l2), none, some (.int l4), some (.int l5), none, none, none, none]) ⟨rfl, ⟨rfl, ⟨rfl, ⟨rfl, ⟨rfl, trivial⟩⟩⟩⟩⟩ (t_Mo_tellWindow_200 l0 l1 l2 l4 l5 M22)
      · skip
        refine B_iload rfl ?_
        refine B_eq (tgt := 200) (by decide) ?_ ?_
        · skip
          exact V_weak (ls' := [some (.ref l0), some (.int l1), some (.int l2), none, some (.int l4), some (.int l5), none, none, none, none]) ⟨rfl, ⟨rfl, ⟨rfl, ⟨rfl, ⟨rfl, trivial⟩⟩⟩⟩⟩ (t_Mo_tellWindow_200 l0 l1 l2 l4 l5 M22)
        · skip
          refine B_aload_n rfl ?_
          refine K_getI 11 19 2219 lf_Mo_255 rfl rfl t24 ?_
          refine B_ne (tgt := 200) (by decide) ?_ ?_
          · skip
            exact V_weak (ls' := [some (.ref l0), some (.int l1), some (.int l2), none, some (.int l4), some (.int l5), none, none, none, none]) ⟨rfl, ⟨rfl, ⟨rfl, ⟨rfl, ⟨rfl, trivial⟩⟩⟩⟩⟩ (t_Mo_tellWindow_200 l0 l1 l2 l4 l5 M22)
          · skip
            refine B_aload_n rfl ?_
            refine B_iload rfl ?_
            refine K_putI 11 19 2219 lf_Mo_255 rfl (Or.inl rfl) rfl t24 (fun M26 e25 => ?_)
            refine V_close ?_
            exact V_weak (ls' := [some (.ref l0), some (.int l1), some (.int l2), none, some (.int l4), some (.int l5), none, none, none, none]) ⟨rfl, ⟨rfl, ⟨rfl, ⟨rfl, ⟨rfl, trivial⟩⟩⟩⟩⟩ (t_Mo_tellWindow_200 l0 l1 l2 l4 l5 M26)
set_option maxRecDepth 100000 in
def b_Mo_tellWindow_19 (G : GT) (l0 : Nat) (l1 : Int32) (l2 : Int32) (l3 : Int32) (l4 : Int32) (s0 : Int32) (M : PH) : Option (PH) :=
  if hT M l0 = 11 then (hR M 2231 l0).bind fun a2 => if hT M a2 = 16 then if ib l1 (hN M a2) = true then hb (sA M a2 l1.toNatClampNeg l2) fun M6 => ((hR M6 2232 l0).bind fun a8 => if hT M6 a8 = 16 then if ib l1 (hN M6 a8) = true then hb (sA M6 a8 l1.toNatClampNeg l3) fun M12 => ((hR M12 2237 l0).bind fun a14 => if hT M12 a14 = 17 then if ib l1 (hN M12 a14) = true then hb (sA M12 a14 l1.toNatClampNeg (1 : Int32)) fun M18 => ((hR M18 2239 l0).bind fun a20 => if hT M18 a20 = 17 then if ib l1 (hN M18 a20) = true then hb (sA M18 a20 l1.toNatClampNeg (1 : Int32)) fun M24 => (bV (f_Mo_tell G l0 l4 M24) fun M26 => (if hT M26 l0 = 11 then if ¬ hI M26 2223 l0 = l1 then (b_Mo_tellWindow_87 G l0 l1 l2 l3 l4 s0 M26) else (if ¬ hI M26 2250 l0 = (-1 : Int32) then (b_Mo_tellWindow_87 G l0 l1 l2 l3 l4 s0 M26) else ((hR M26 2233 l0).bind fun a28 => if hT M26 a28 = 16 then if ib l1 (hN M26 a28) = true then if ib l1 (hN M26 a28) = true then hb (sA M26 a28 l1.toNatClampNeg ((hA M26 a28 l1.toNatClampNeg) + ((10 : Int32) * (hI M26 2215 l0)))) fun M32 => (b_Mo_tellWindow_87 G l0 l1 l2 l3 l4 s0 M32) else none else none else none)) else none)) else none else none) else none else none) else none else none) else none else none else none
set_option maxRecDepth 100000 in
set_option maxHeartbeats 4000000 in
theorem t_Mo_tellWindow_19 {G : GT} (l0 : Nat) (l1 : Int32) (l2 : Int32) (l3 : Int32) (l4 : Int32) (s0 : Int32) (M : PH) : VX G mi_Mo_tellWindow 3 55 19 [some (.ref l0), some (.int l1), some (.int l2), some (.int l3), some (.int l4), none, none, none, none, none] [.int s0] M qV (b_Mo_tellWindow_19 G l0 l1 l2 l3 l4 s0 M) := by
  unfold b_Mo_tellWindow_19
  refine V_open ok_Mo_tellWindow_19 ?_
  refine S_i [some (.ref l0), some (.int l1), some (.int l2), some (.int l3), some (.int l4), some (.int s0), none, none, none, none] (by decide) rfl ?_
  refine B_aload_n rfl ?_
  refine B_chk (fun t1 => ?_)
  refine K_getR 11 31 2231 lf_Mo_42 rfl rfl t1 (fun a2 r3 => ?_)
  refine B_iload_n rfl ?_
  refine B_iload_n rfl ?_
  refine B_chk (fun t4 => ?_)
  refine K_iast t4 (fun M6 e5 => ?_)
  refine B_aload_n rfl ?_
  have h7 : hT M6 l0 = 11 := by rw [e5]; exact t1
  refine K_getR 11 32 2232 lf_Mo_45 rfl rfl h7 (fun a8 r9 => ?_)
  refine B_iload_n rfl ?_
  refine B_iload_n rfl ?_
  refine B_chk (fun t10 => ?_)
  refine K_iast t10 (fun M12 e11 => ?_)
  refine B_aload_n rfl ?_
  have h13 : hT M12 l0 = 11 := by rw [e11]; exact h7
  refine K_getR 11 37 2237 lf_Mo_60 rfl rfl h13 (fun a14 r15 => ?_)
  refine B_iload_n rfl ?_
  refine B_iconst (1 : Int32) ic_1 ?_
  refine B_chk (fun t16 => ?_)
  refine K_zast t16 (Or.inr rfl) (fun M18 e17 => ?_)
  refine B_aload_n rfl ?_
  have h19 : hT M18 l0 = 11 := by rw [e17]; exact h13
  refine K_getR 11 39 2239 lf_Mo_66 rfl rfl h19 (fun a20 r21 => ?_)
  refine B_iload_n rfl ?_
  refine B_iconst (1 : Int32) ic_1 ?_
  refine B_chk (fun t22 => ?_)
  refine K_zast t22 (Or.inr rfl) (fun M24 e23 => ?_)
  refine B_aload_n rfl ?_
  refine B_iload rfl ?_
  have h25 : hT M24 l0 = 11 := by rw [e23]; exact h19
  refine C_V (vs := [.ref l0, .int l4]) (st := []) (ci_V lv_Mo_324 rfl rfl h25) rfl rfl rfl (s_Mo_tell l0 l4 M24) (fun M26 => ?_)
  refine B_aload_n rfl ?_
  refine B_chk (fun t27 => ?_)
  refine K_getI 11 23 2223 lf_Mo_26 rfl rfl t27 ?_
  refine B_iload_n rfl ?_
  refine B_ine (tgt := 87) (by decide) ?_ ?_
  · skip
    exact V_weak (ls' := [some (.ref l0), some (.int l1), some (.int l2), some (.int l3), some (.int l4), some (.int s0), none, none, none, none]) ⟨rfl, ⟨rfl, ⟨rfl, ⟨rfl, ⟨rfl, ⟨rfl, trivial⟩⟩⟩⟩⟩⟩ (t_Mo_tellWindow_87 l0 l1 l2 l3 l4 s0 M26)
  · skip
    refine B_aload_n rfl ?_
    refine K_getI 11 50 2250 lf_Mo_90 rfl rfl t27 ?_
    refine B_iconst (-1 : Int32) ic_m1 ?_
    refine B_ine (tgt := 87) (by decide) ?_ ?_
    · skip
      exact V_weak (ls' := [some (.ref l0), some (.int l1), some (.int l2), some (.int l3), some (.int l4), some (.int s0), none, none, none, none]) ⟨rfl, ⟨rfl, ⟨rfl, ⟨rfl, ⟨rfl, ⟨rfl, trivial⟩⟩⟩⟩⟩⟩ (t_Mo_tellWindow_87 l0 l1 l2 l3 l4 s0 M26)
    · skip
      refine B_aload_n rfl ?_
      refine K_getR 11 33 2233 lf_Mo_48 rfl rfl t27 (fun a28 r29 => ?_)
      refine B_iload_n rfl ?_
      refine B_dup2 rfl rfl ?_
      refine B_chk (fun t30 => ?_)
      refine K_iald t30 ?_
      refine B_bipush (10 : Int32) bp_10 ?_
      refine B_aload_n rfl ?_
      refine K_getI 11 15 2215 lf_Mo_214 rfl rfl t27 ?_
      refine B_imul ?_
      refine B_iadd ?_
      refine K_iast t30 (fun M32 e31 => ?_)
      refine V_close ?_
      exact V_weak (ls' := [some (.ref l0), some (.int l1), some (.int l2), some (.int l3), some (.int l4), some (.int s0), none, none, none, none]) ⟨rfl, ⟨rfl, ⟨rfl, ⟨rfl, ⟨rfl, ⟨rfl, trivial⟩⟩⟩⟩⟩⟩ (t_Mo_tellWindow_87 l0 l1 l2 l3 l4 s0 M32)
set_option maxRecDepth 100000 in
def f_Mo_tellWindow (G : GT) (l0 : Nat) (l1 : Int32) (l2 : Int32) (l3 : Int32) (M : PH) : Option (PH) :=
  vb ((1000 : Int32) + l1) fun v1 => if ¬ l1 = (8 : Int32) then (b_Mo_tellWindow_19 G l0 l1 l2 l3 v1 (12 : Int32) M) else (b_Mo_tellWindow_19 G l0 l1 l2 l3 v1 (0 : Int32) M)
set_option maxRecDepth 100000 in
set_option maxHeartbeats 4000000 in
theorem s_Mo_tellWindow {G : GT} (l0 : Nat) (l1 : Int32) (l2 : Int32) (l3 : Int32) (M : PH) : VX G mi_Mo_tellWindow 3 55 0 [some (.ref l0), some (.int l1), some (.int l2), some (.int l3), none, none, none, none, none, none] [] M qV (f_Mo_tellWindow G l0 l1 l2 l3 M) := by
  unfold f_Mo_tellWindow
  refine V_open ok_Mo_tellWindow_0 ?_
  refine B_sipush (1000 : Int32) sp_1000 ?_
  refine B_iload_n rfl ?_
  refine B_iadd ?_
  refine B_vb (fun v1 => ?_)
  refine S_i [some (.ref l0), some (.int l1), some (.int l2), some (.int l3), some (.int v1), none, none, none, none, none] (by decide) rfl ?_
  refine B_iload_n rfl ?_
  refine B_bipush (8 : Int32) bp_8 ?_
  refine B_ine (tgt := 17) (by decide) ?_ ?_
  · skip
    refine V_open ok_Mo_tellWindow_17 ?_
    refine B_bipush (12 : Int32) bp_12 ?_
    refine V_close ?_
    exact V_weak (ls' := [some (.ref l0), some (.int l1), some (.int l2), some (.int l3), some (.int v1), none, none, none, none, none]) ⟨rfl, ⟨rfl, ⟨rfl, ⟨rfl, ⟨rfl, trivial⟩⟩⟩⟩⟩ (t_Mo_tellWindow_19 l0 l1 l2 l3 v1 (12 : Int32) M)
  · skip
    refine B_iconst (0 : Int32) ic_0 ?_
    refine B_goto (tgt := 19) (by decide) ?_
    exact V_weak (ls' := [some (.ref l0), some (.int l1), some (.int l2), some (.int l3), some (.int v1), none, none, none, none, none]) ⟨rfl, ⟨rfl, ⟨rfl, ⟨rfl, ⟨rfl, trivial⟩⟩⟩⟩⟩ (t_Mo_tellWindow_19 l0 l1 l2 l3 v1 (0 : Int32) M)

-- Mo_window
theorem ok_Mo_window_0 : okb prog_13_method_36_code 0 [(.aload_n 0, 1), (.iconst 0, 1), (.putfield 175, 3), (.iload_n 1, 1), (.ifCond .lt 65, 3), (.iload_n 1, 1), (.bipush 7, 2), (.if_icmp .gt 59, 3), (.iload_n 2, 1), (.bipush (-100), 2), (.if_icmp .lt 53, 3), (.iload_n 2, 1), (.sipush 999, 3), (.if_icmp .gt 46, 3), (.iload_n 3, 1), (.bipush (-100), 2), (.if_icmp .lt 40, 3), (.iload_n 3, 1), (.sipush 999, 3), (.if_icmp .gt 33, 3), (.iload 4, 2), (.bipush 40, 2), (.if_icmp .lt 26, 3), (.iload 4, 2), (.sipush 400, 3), (.if_icmp .gt 18, 3), (.iload 5, 2), (.bipush 30, 2), (.if_icmp .lt 11, 3), (.iload 5, 2), (.sipush 400, 3), (.if_icmp .le 10, 3)] = true := by decide +kernel
theorem ok_Mo_window_71 : okb prog_13_method_36_code 71 [(.aload_n 0, 1), (.iconst 1, 1), (.putfield 175, 3), (.iconst 0, 1), (.ireturn, 1)] = true := by decide +kernel
theorem ok_Mo_window_78 : okb prog_13_method_36_code 78 [(.aload_n 0, 1), (.getfield 236, 3), (.ifCond .eq 19, 3), (.aload_n 0, 1), (.getfield 279, 3), (.ifCond .gt 12, 3), (.aload_n 0, 1), (.getfield 60, 3), (.iload_n 1, 1), (.baload, 1), (.ifCond .eq 17, 3)] = true := by decide +kernel
theorem ok_Mo_window_101 : okb prog_13_method_36_code 101 [(.aload_n 0, 1), (.iconst 2, 1), (.invokevirtual 297, 3), (.ifCond .le 7, 3), (.iconst 1, 1), (.goto 4, 3)] = true := by decide +kernel
theorem ok_Mo_window_113 : okb prog_13_method_36_code 113 [(.iconst 0, 1), (.ireturn, 1)] = true := by decide +kernel
theorem ok_Mo_window_114 : okb prog_13_method_36_code 114 [(.ireturn, 1)] = true := by decide +kernel
theorem ok_Mo_window_115 : okb prog_13_method_36_code 115 [(.aload_n 0, 1), (.getfield 66, 3), (.iload_n 1, 1), (.baload, 1), (.ifCond .ne 17, 3), (.aload_n 0, 1), (.getfield 36, 3), (.iload_n 1, 1), (.iload_n 2, 1), (.iastore, 1), (.aload_n 0, 1), (.getfield 39, 3), (.iload_n 1, 1), (.iload_n 3, 1), (.iastore, 1)] = true := by decide +kernel
theorem ok_Mo_window_138 : okb prog_13_method_36_code 138 [(.aload_n 0, 1), (.iload_n 1, 1), (.iload 4, 2), (.iload 5, 2), (.invokevirtual 340, 3), (.aload_n 0, 1), (.getfield 57, 3), (.iload_n 1, 1), (.baload, 1), (.ifCond .ne 7, 3), (.iconst 1, 1), (.goto 4, 3)] = true := by decide +kernel
theorem ok_Mo_window_160 : okb prog_13_method_36_code 160 [(.iconst 0, 1), (.ireturn, 1)] = true := by decide +kernel
theorem ok_Mo_window_161 : okb prog_13_method_36_code 161 [(.ireturn, 1)] = true := by decide +kernel
set_option maxRecDepth 100000 in
def b_Mo_window_71 (G : GT) (l0 : Nat) (M : PH) : Option (Int32 × PH) :=
  if hT M l0 = 11 then hb (sI M 2200 l0 (1 : Int32)) fun M3 => some ((0 : Int32), M3) else none
set_option maxRecDepth 100000 in
set_option maxHeartbeats 4000000 in
theorem t_Mo_window_71 {G : GT} (l0 : Nat) (M : PH) : VX G mi_Mo_window 4 76 71 [some (.ref l0), none, none, none, none, none] [] M qI (b_Mo_window_71 G l0 M) := by
  unfold b_Mo_window_71
  refine V_open ok_Mo_window_71 ?_
  refine B_aload_n rfl ?_
  refine B_iconst (1 : Int32) ic_1 ?_
  refine B_chk (fun t1 => ?_)
  refine K_putI 11 0 2200 lf_Mo_175 rfl (Or.inl rfl) rfl t1 (fun M3 e2 => ?_)
  refine B_iconst (0 : Int32) ic_0 ?_
  exact Z_ret rfl (Or.inl rfl)
set_option maxRecDepth 100000 in
def b_Mo_window_101 (G : GT) (l0 : Nat) (M : PH) : Option (Int32 × PH) :=
  if hT M l0 = 11 then bI (f_Mo_fails G l0 (2 : Int32) M) fun v3 M2 => (if v3 ≤ 0 then (some ((0 : Int32), M2)) else (some ((1 : Int32), M2))) else none
set_option maxRecDepth 100000 in
set_option maxHeartbeats 4000000 in
theorem t_Mo_window_101 {G : GT} (l0 : Nat) (M : PH) : VX G mi_Mo_window 4 76 101 [some (.ref l0), none, none, none, none, none] [] M qI (b_Mo_window_101 G l0 M) := by
  unfold b_Mo_window_101
  refine V_open ok_Mo_window_101 ?_
  refine B_aload_n rfl ?_
  refine B_iconst (2 : Int32) ic_2 ?_
  refine B_chk (fun t1 => ?_)
  refine C_I (vs := [.ref l0, .int (2 : Int32)]) (st := []) (ci_V lv_Mo_297 rfl rfl t1) rfl rfl rfl (s_Mo_fails l0 (2 : Int32) M) (fun v3 M2 => ?_)
  refine B_le (tgt := 113) (by decide) ?_ ?_
  · skip
    refine V_open ok_Mo_window_113 ?_
    refine B_iconst (0 : Int32) ic_0 ?_
    exact Z_ret rfl (Or.inl rfl)
  · skip
    refine B_iconst (1 : Int32) ic_1 ?_
    refine B_goto (tgt := 114) (by decide) ?_
    refine V_open ok_Mo_window_114 ?_
    exact Z_ret rfl (Or.inr rfl)
set_option maxRecDepth 100000 in
def b_Mo_window_138 (G : GT) (l0 : Nat) (l1 : Int32) (l4 : Int32) (l5 : Int32) (M : PH) : Option (Int32 × PH) :=
  if hT M l0 = 11 then bV (f_Mo_tellWindow G l0 l1 l4 l5 M) fun M2 => (if hT M2 l0 = 11 then (hR M2 2236 l0).bind fun a4 => if hT M2 a4 = 17 then if ib l1 (hN M2 a4) = true then if ¬ hA M2 a4 l1.toNatClampNeg = 0 then (some ((0 : Int32), M2)) else (some ((1 : Int32), M2)) else none else none else none) else none
set_option maxRecDepth 100000 in
set_option maxHeartbeats 4000000 in
theorem t_Mo_window_138 {G : GT} (l0 : Nat) (l1 : Int32) (l4 : Int32) (l5 : Int32) (M : PH) : VX G mi_Mo_window 4 76 138 [some (.ref l0), some (.int l1), none, none, some (.int l4), some (.int l5)] [] M qI (b_Mo_window_138 G l0 l1 l4 l5 M) := by
  unfold b_Mo_window_138
  refine V_open ok_Mo_window_138 ?_
  refine B_aload_n rfl ?_
  refine B_iload_n rfl ?_
  refine B_iload rfl ?_
  refine B_iload rfl ?_
  refine B_chk (fun t1 => ?_)
  refine C_V (vs := [.ref l0, .int l1, .int l4, .int l5]) (st := []) (ci_V lv_Mo_340 rfl rfl t1) rfl rfl rfl (s_Mo_tellWindow l0 l1 l4 l5 M) (fun M2 => ?_)
  refine B_aload_n rfl ?_
  refine B_chk (fun t3 => ?_)
  refine K_getR 11 36 2236 lf_Mo_57 rfl rfl t3 (fun a4 r5 => ?_)
  refine B_iload_n rfl ?_
  refine B_chk (fun t6 => ?_)
  refine K_zald t6 ?_
  refine B_ne (tgt := 160) (by decide) ?_ ?_
  · skip
    refine V_open ok_Mo_window_160 ?_
    refine B_iconst (0 : Int32) ic_0 ?_
    exact Z_ret rfl (Or.inl rfl)
  · skip
    refine B_iconst (1 : Int32) ic_1 ?_
    refine B_goto (tgt := 161) (by decide) ?_
    refine V_open ok_Mo_window_161 ?_
    exact Z_ret rfl (Or.inr rfl)
set_option maxRecDepth 100000 in
def f_Mo_window (G : GT) (l0 : Nat) (l1 : Int32) (l2 : Int32) (l3 : Int32) (l4 : Int32) (l5 : Int32) (M : PH) : Option (Int32 × PH) :=
  if hT M l0 = 11 then hb (sI M 2200 l0 (0 : Int32)) fun M3 => if l1 < 0 then (b_Mo_window_71 G l0 M3) else (if (7 : Int32) < l1 then (b_Mo_window_71 G l0 M3) else (if l2 < (-100 : Int32) then (b_Mo_window_71 G l0 M3) else (if (999 : Int32) < l2 then (b_Mo_window_71 G l0 M3) else (if l3 < (-100 : Int32) then (b_Mo_window_71 G l0 M3) else (if (999 : Int32) < l3 then (b_Mo_window_71 G l0 M3) else (if l4 < (40 : Int32) then (b_Mo_window_71 G l0 M3) else (if (400 : Int32) < l4 then (b_Mo_window_71 G l0 M3) else (if l5 < (30 : Int32) then (b_Mo_window_71 G l0 M3) else (if l5 ≤ (400 : Int32) then (if hI M3 2218 l0 = 0 then (b_Mo_window_101 G l0 M3) else (if 0 < hI M3 2256 l0 then (b_Mo_window_101 G l0 M3) else ((hR M3 2237 l0).bind fun a5 => if hT M3 a5 = 17 then if ib l1 (hN M3 a5) = true then if hA M3 a5 l1.toNatClampNeg = 0 then ((hR M3 2239 l0).bind fun a8 => if hT M3 a8 = 17 then if ib l1 (hN M3 a8) = true then if ¬ hA M3 a8 l1.toNatClampNeg = 0 then (b_Mo_window_138 G l0 l1 l4 l5 M3) else ((hR M3 2229 l0).bind fun a11 => if hT M3 a11 = 16 then if ib l1 (hN M3 a11) = true then hb (sA M3 a11 l1.toNatClampNeg l2) fun M15 => ((hR M15 2230 l0).bind fun a17 => if hT M15 a17 = 16 then if ib l1 (hN M15 a17) = true then hb (sA M15 a17 l1.toNatClampNeg l3) fun M21 => (b_Mo_window_138 G l0 l1 l4 l5 M21) else none else none) else none else none) else none else none) else (b_Mo_window_101 G l0 M3) else none else none))) else (b_Mo_window_71 G l0 M3)))))))))) else none
set_option maxRecDepth 100000 in
set_option maxHeartbeats 4000000 in
theorem s_Mo_window {G : GT} (l0 : Nat) (l1 : Int32) (l2 : Int32) (l3 : Int32) (l4 : Int32) (l5 : Int32) (M : PH) : VX G mi_Mo_window 4 76 0 [some (.ref l0), some (.int l1), some (.int l2), some (.int l3), some (.int l4), some (.int l5)] [] M qI (f_Mo_window G l0 l1 l2 l3 l4 l5 M) := by
  unfold f_Mo_window
  refine V_open ok_Mo_window_0 ?_
  refine B_aload_n rfl ?_
  refine B_iconst (0 : Int32) ic_0 ?_
  refine B_chk (fun t1 => ?_)
  refine K_putI 11 0 2200 lf_Mo_175 rfl (Or.inl rfl) rfl t1 (fun M3 e2 => ?_)
  refine B_iload_n rfl ?_
  refine B_lt (tgt := 71) (by decide) ?_ ?_
  · skip
    exact V_weak (ls' := [some (.ref l0), none, none, none, none, none]) ⟨rfl, trivial⟩ (t_Mo_window_71 l0 M3)
  · skip
    refine B_iload_n rfl ?_
    refine B_bipush (7 : Int32) bp_7 ?_
    refine B_igt (tgt := 71) (by decide) ?_ ?_
    · skip
      exact V_weak (ls' := [some (.ref l0), none, none, none, none, none]) ⟨rfl, trivial⟩ (t_Mo_window_71 l0 M3)
    · skip
      refine B_iload_n rfl ?_
      refine B_bipush (-100 : Int32) bp_m100 ?_
      refine B_ilt (tgt := 71) (by decide) ?_ ?_
      · skip
        exact V_weak (ls' := [some (.ref l0), none, none, none, none, none]) ⟨rfl, trivial⟩ (t_Mo_window_71 l0 M3)
      · skip
        refine B_iload_n rfl ?_
        refine B_sipush (999 : Int32) sp_999 ?_
        refine B_igt (tgt := 71) (by decide) ?_ ?_
        · skip
          exact V_weak (ls' := [some (.ref l0), none, none, none, none, none]) ⟨rfl, trivial⟩ (t_Mo_window_71 l0 M3)
        · skip
          refine B_iload_n rfl ?_
          refine B_bipush (-100 : Int32) bp_m100 ?_
          refine B_ilt (tgt := 71) (by decide) ?_ ?_
          · skip
            exact V_weak (ls' := [some (.ref l0), none, none, none, none, none]) ⟨rfl, trivial⟩ (t_Mo_window_71 l0 M3)
          · skip
            refine B_iload_n rfl ?_
            refine B_sipush (999 : Int32) sp_999 ?_
            refine B_igt (tgt := 71) (by decide) ?_ ?_
            · skip
              exact V_weak (ls' := [some (.ref l0), none, none, none, none, none]) ⟨rfl, trivial⟩ (t_Mo_window_71 l0 M3)
            · skip
              refine B_iload rfl ?_
              refine B_bipush (40 : Int32) bp_40 ?_
              refine B_ilt (tgt := 71) (by decide) ?_ ?_
              · skip
                exact V_weak (ls' := [some (.ref l0), none, none, none, none, none]) ⟨rfl, trivial⟩ (t_Mo_window_71 l0 M3)
              · skip
                refine B_iload rfl ?_
                refine B_sipush (400 : Int32) sp_400 ?_
                refine B_igt (tgt := 71) (by decide) ?_ ?_
                · skip
                  exact V_weak (ls' := [some (.ref l0), none, none, none, none, none]) ⟨rfl, trivial⟩ (t_Mo_window_71 l0 M3)
                · skip
                  refine B_iload rfl ?_
                  refine B_bipush (30 : Int32) bp_30 ?_
                  refine B_ilt (tgt := 71) (by decide) ?_ ?_
                  · skip
                    exact V_weak (ls' := [some (.ref l0), none, none, none, none, none]) ⟨rfl, trivial⟩ (t_Mo_window_71 l0 M3)
                  · skip
                    refine B_iload rfl ?_
                    refine B_sipush (400 : Int32) sp_400 ?_
                    refine B_ile (tgt := 78) (by decide) ?_ ?_
                    · skip
                      refine V_open ok_Mo_window_78 ?_
                      refine B_aload_n rfl ?_
                      have h4 : hT M3 l0 = 11 := by rw [e2]; exact t1
                      refine K_getI 11 18 2218 lf_Mo_236 rfl rfl h4 ?_
                      refine B_eq (tgt := 101) (by decide) ?_ ?_
                      · skip
                        exact V_weak (ls' := [some (.ref l0), none, none, none, none, none]) ⟨rfl, trivial⟩ (t_Mo_window_101 l0 M3)
                      · skip
                        refine B_aload_n rfl ?_
                        refine K_getI 11 56 2256 lf_Mo_279 rfl rfl h4 ?_
                        refine B_gt (tgt := 101) (by decide) ?_ ?_
                        · skip
                          exact V_weak (ls' := [some (.ref l0), none, none, none, none, none]) ⟨rfl, trivial⟩ (t_Mo_window_101 l0 M3)
                        · skip
                          refine B_aload_n rfl ?_
                          refine K_getR 11 37 2237 lf_Mo_60 rfl rfl h4 (fun a5 r6 => ?_)
                          refine B_iload_n rfl ?_
                          refine B_chk (fun t7 => ?_)
                          refine K_zald t7 ?_
                          refine B_eq (tgt := 115) (by decide) ?_ ?_
                          · skip
                            refine V_open ok_Mo_window_115 ?_
                            refine B_aload_n rfl ?_
                            refine K_getR 11 39 2239 lf_Mo_66 rfl rfl h4 (fun a8 r9 => ?_)
                            refine B_iload_n rfl ?_
                            refine B_chk (fun t10 => ?_)
                            refine K_zald t10 ?_
                            refine B_ne (tgt := 138) (by decide) ?_ ?_
                            · skip
                              exact V_weak (ls' := [some (.ref l0), some (.int l1), none, none, some (.int l4), some (.int l5)]) ⟨rfl, ⟨rfl, ⟨rfl, ⟨rfl, trivial⟩⟩⟩⟩ (t_Mo_window_138 l0 l1 l4 l5 M3)
                            · skip
                              refine B_aload_n rfl ?_
                              refine K_getR 11 29 2229 lf_Mo_36 rfl rfl h4 (fun a11 r12 => ?_)
                              refine B_iload_n rfl ?_
                              refine B_iload_n rfl ?_
                              refine B_chk (fun t13 => ?_)
                              refine K_iast t13 (fun M15 e14 => ?_)
                              refine B_aload_n rfl ?_
                              have h16 : hT M15 l0 = 11 := by rw [e14]; exact h4
                              refine K_getR 11 30 2230 lf_Mo_39 rfl rfl h16 (fun a17 r18 => ?_)
                              refine B_iload_n rfl ?_
                              refine B_iload_n rfl ?_
                              refine B_chk (fun t19 => ?_)
                              refine K_iast t19 (fun M21 e20 => ?_)
                              refine V_close ?_
                              exact V_weak (ls' := [some (.ref l0), some (.int l1), none, none, some (.int l4), some (.int l5)]) ⟨rfl, ⟨rfl, ⟨rfl, ⟨rfl, trivial⟩⟩⟩⟩ (t_Mo_window_138 l0 l1 l4 l5 M21)
                          · skip
                            refine V_close ?_
                            exact V_weak (ls' := [some (.ref l0), none, none, none, none, none]) ⟨rfl, trivial⟩ (t_Mo_window_101 l0 M3)
                    · skip
                      refine V_close ?_
                      exact V_weak (ls' := [some (.ref l0), none, none, none, none, none]) ⟨rfl, trivial⟩ (t_Mo_window_71 l0 M3)

-- PF_isLabel
theorem ok_PF_isLabel_0 : okb prog_1_method_16_code 0 [(.iload_n 0, 1), (.ifCond .lt 14, 3), (.iload_n 0, 1), (.sipush 1000, 3), (.if_icmp .ge 7, 3), (.iconst 1, 1), (.goto 4, 3)] = true := by decide +kernel
theorem ok_PF_isLabel_15 : okb prog_1_method_16_code 15 [(.iconst 0, 1), (.ireturn, 1)] = true := by decide +kernel
theorem ok_PF_isLabel_16 : okb prog_1_method_16_code 16 [(.ireturn, 1)] = true := by decide +kernel
set_option maxRecDepth 100000 in
def f_PF_isLabel (G : GT) (l0 : Int32) (M : PH) : Option (Int32 × PH) :=
  if l0 < 0 then (some ((0 : Int32), M)) else (if (1000 : Int32) ≤ l0 then (some ((0 : Int32), M)) else (some ((1 : Int32), M)))
set_option maxRecDepth 100000 in
set_option maxHeartbeats 4000000 in
theorem s_PF_isLabel {G : GT} (l0 : Int32) (M : PH) : VX G mi_PF_isLabel 0 0 0 [some (.int l0)] [] M qI (f_PF_isLabel G l0 M) := by
  unfold f_PF_isLabel
  refine V_open ok_PF_isLabel_0 ?_
  refine B_iload_n rfl ?_
  refine B_lt (tgt := 15) (by decide) ?_ ?_
  · skip
    refine V_open ok_PF_isLabel_15 ?_
    refine B_iconst (0 : Int32) ic_0 ?_
    exact Z_ret rfl (Or.inl rfl)
  · skip
    refine B_iload_n rfl ?_
    refine B_sipush (1000 : Int32) sp_1000 ?_
    refine B_ige (tgt := 15) (by decide) ?_ ?_
    · skip
      refine V_open ok_PF_isLabel_15 ?_
      refine B_iconst (0 : Int32) ic_0 ?_
      exact Z_ret rfl (Or.inl rfl)
    · skip
      refine B_iconst (1 : Int32) ic_1 ?_
      refine B_goto (tgt := 16) (by decide) ?_
      refine V_open ok_PF_isLabel_16 ?_
      exact Z_ret rfl (Or.inr rfl)

-- PF_open
theorem ok_PF_open_0 : okb prog_1_method_26_code 0 [(.iload_n 1, 1), (.invokestatic 319, 3), (.invokestatic 260, 3), (.aload_n 0, 1), (.aload_n 0, 1), (.getfield 104, 3), (.invokevirtual 130, 3), (.aload_n 0, 1), (.getfield 32, 3), (.bipush 8, 2), (.aaload, 1), (.astore_n 2, 1), (.aload_n 2, 1), (.getfield 123, 3), (.ifCond .eq 5, 3), (.iconst 0, 1), (.ireturn, 1)] = true := by decide +kernel
theorem ok_PF_open_32 : okb prog_1_method_26_code 32 [(.aload_n 0, 1), (.iload_n 1, 1), (.putfield 50, 3), (.aload_n 0, 1), (.iconst 1, 1), (.putfield 179, 3), (.aload_n 2, 1), (.iconst 1, 1), (.putfield 263, 3), (.aload_n 2, 1), (.getfield 182, 3), (.aload_n 0, 1), (.getfield 10, 3), (.getfield 141, 3), (.aload_n 0, 1), (.getfield 10, 3), (.getfield 147, 3), (.aload_n 0, 1), (.getfield 10, 3), (.getfield 141, 3), (.aload_n 2, 1), (.getfield 323, 3), (.iadd, 1), (.aload_n 0, 1), (.getfield 10, 3), (.getfield 147, 3), (.aload_n 2, 1), (.getfield 326, 3), (.iadd, 1), (.invokevirtual 97, 3), (.iconst 1, 1), (.ireturn, 1)] = true := by decide +kernel
set_option maxRecDepth 100000 in
def f_PF_open (G : GT) (l0 : Nat) (l1 : Int32) (M : PH) : Option (Nat × Int32 × PH) :=
  bI (f_PF_isLabel G l1 M) fun v2 M1 => (bT (f_PF_want G v2 M1) fun M3 => (if hT M3 l0 = 10 then bT (f_PF_may G l0 (hI M3 2007 l0) M3) fun M5 => (if hT M5 l0 = 10 then (hR M5 2003 l0).bind fun a7 => if hT M5 a7 = 20 then if 8 < hN M5 a7 then (hX M5 a7 8).bind fun a10 => (if hT M5 a10 = 7 then if hI M5 1409 a10 = 0 then (hb (sI M5 2013 l0 l1) fun M13 => hb (sI M13 2014 l0 (1 : Int32)) fun M16 => hb (sI M16 1406 a10 (1 : Int32)) fun M19 => (hR M19 1401 a10).bind fun a21 => (hR M19 2000 l0).bind fun a24 => if hT M19 a24 = 2 then if hT M19 a21 = 1 then bV (f_Rect_be G a21 (hI M19 405 a24) (hI M19 406 a24) ((hI M19 405 a24) + (hI M19 1404 a10)) ((hI M19 406 a24) + (hI M19 1405 a10)) M19) fun M28 => (some (0, (1 : Int32), M28)) else none else none) else (some (0, (0 : Int32), M5)) else none) else none else none else none) else none))
set_option maxRecDepth 100000 in
set_option maxHeartbeats 4000000 in
theorem s_PF_open {G : GT} (l0 : Nat) (l1 : Int32) (M : PH) : VX G mi_PF_open 7 94 0 [some (.ref l0), some (.int l1), none] [] M qT (f_PF_open G l0 l1 M) := by
  unfold f_PF_open
  refine V_open ok_PF_open_0 ?_
  refine B_iload_n rfl ?_
  refine C_I (vs := [.int l1]) (st := []) (ci_S ls_PF_319 rfl) rfl rfl rfl (s_PF_isLabel l1 M) (fun v2 M1 => ?_)
  refine C_T (vs := [.int v2]) (st := []) rfl (ci_S ls_PF_260 rfl) rfl rfl rfl (s_PF_want v2 M1) (fun M3 => ?_)
  refine B_aload_n rfl ?_
  refine B_aload_n rfl ?_
  refine B_chk (fun t4 => ?_)
  refine K_getI 10 7 2007 lf_PF_104 rfl rfl t4 ?_
  refine C_T (vs := [.ref l0, .int (hI M3 2007 l0)]) (st := []) rfl (ci_V lv_PF_130 rfl rfl t4) rfl rfl rfl (s_PF_may l0 (hI M3 2007 l0) M3) (fun M5 => ?_)
  refine B_aload_n rfl ?_
  refine B_chk (fun t6 => ?_)
  refine K_getR 10 3 2003 lf_PF_32 rfl rfl t6 (fun a7 r8 => ?_)
  refine B_bipush (8 : Int32) bp_8 ?_
  refine B_chk (fun t9 => ?_)
  refine K_aaldc 20 8 rfl rfl t9 (fun a10 => ?_)
  refine S_an [some (.ref l0), some (.int l1), some (.ref a10)] (by decide) rfl ?_
  refine B_aload_n rfl ?_
  refine B_chk (fun t11 => ?_)
  refine K_getI 7 9 1409 lf_PF_123 rfl rfl t11 ?_
  refine B_eq (tgt := 32) (by decide) ?_ ?_
  · skip
    refine V_open ok_PF_open_32 ?_
    refine B_aload_n rfl ?_
    refine B_iload_n rfl ?_
    refine K_putI 10 13 2013 lf_PF_50 rfl (Or.inl rfl) rfl t6 (fun M13 e12 => ?_)
    refine B_aload_n rfl ?_
    refine B_iconst (1 : Int32) ic_1 ?_
    have h14 : hT M13 l0 = 10 := by rw [e12]; exact t6
    refine K_putZ 10 14 2014 lf_PF_179 rfl (Or.inl rfl) rfl h14 (Or.inr rfl) (fun M16 e15 => ?_)
    refine B_aload_n rfl ?_
    refine B_iconst (1 : Int32) ic_1 ?_
    have h17 : hT M16 a10 = 7 := by rw [e15, e12]; exact t11
    refine K_putZ 7 6 1406 lf_PF_263 rfl (Or.inl rfl) rfl h17 (Or.inr rfl) (fun M19 e18 => ?_)
    refine B_aload_n rfl ?_
    have h20 : hT M19 a10 = 7 := by rw [e18]; exact h17
    refine K_getR 7 1 1401 lf_PF_182 rfl rfl h20 (fun a21 r22 => ?_)
    refine B_aload_n rfl ?_
    have h23 : hT M19 l0 = 10 := by rw [e18, e15]; exact h14
    refine K_getR 10 0 2000 lf_PF_10 rfl rfl h23 (fun a24 r25 => ?_)
    refine B_chk (fun t26 => ?_)
    refine K_getI 2 5 405 lf_PF_141 rfl rfl t26 ?_
    refine B_aload_n rfl ?_
    refine K_getRk 10 0 2000 lf_PF_10 rfl rfl h23 r25 ?_
    refine K_getI 2 6 406 lf_PF_147 rfl rfl t26 ?_
    refine B_aload_n rfl ?_
    refine K_getRk 10 0 2000 lf_PF_10 rfl rfl h23 r25 ?_
    refine K_getI 2 5 405 lf_PF_141 rfl rfl t26 ?_
    refine B_aload_n rfl ?_
    refine K_getI 7 4 1404 lf_PF_323 rfl rfl h20 ?_
    refine B_iadd ?_
    refine B_aload_n rfl ?_
    refine K_getRk 10 0 2000 lf_PF_10 rfl rfl h23 r25 ?_
    refine K_getI 2 6 406 lf_PF_147 rfl rfl t26 ?_
    refine B_aload_n rfl ?_
    refine K_getI 7 5 1405 lf_PF_326 rfl rfl h20 ?_
    refine B_iadd ?_
    refine B_chk (fun t27 => ?_)
    refine C_V (vs := [.ref a21, .int (hI M19 405 a24), .int (hI M19 406 a24), .int ((hI M19 405 a24) + (hI M19 1404 a10)), .int ((hI M19 406 a24) + (hI M19 1405 a10))]) (st := []) (ci_V lv_PF_97 rfl rfl t27) rfl rfl rfl (s_Rect_be a21 (hI M19 405 a24) (hI M19 406 a24) ((hI M19 405 a24) + (hI M19 1404 a10)) ((hI M19 406 a24) + (hI M19 1405 a10)) M19) (fun M28 => ?_)
    refine B_iconst (1 : Int32) ic_1 ?_
    exact Z_tret rfl (Or.inr rfl)
  · skip
    refine B_iconst (0 : Int32) ic_0 ?_
    exact Z_tret rfl (Or.inl rfl)

-- Law_open
theorem ok_Law_open_0 : okb method_6_code 0 [(.aload_n 2, 1), (.iconst 0, 1), (.aload_n 0, 1), (.iload_n 1, 1), (.invokevirtual 24, 3), (.ifCond .eq 7, 3), (.lconst 1, 1), (.goto 4, 3)] = true := by decide +kernel
theorem ok_Law_open_14 : okb method_6_code 14 [(.lconst 0, 1)] = true := by decide +kernel
theorem ok_Law_open_15 : okb method_6_code 15 [(.lastore, 1), (.goto 9, 3)] = true := by decide +kernel
theorem ok_Law_open_19 : okb method_6_code 19 [(.astore_n 3, 1), (.iconst 1, 1), (.ireturn, 1)] = true := by decide +kernel
theorem ok_Law_open_22 : okb method_6_code 22 [(.astore_n 3, 1), (.iconst 2, 1), (.ireturn, 1)] = true := by decide +kernel
theorem ok_Law_open_25 : okb method_6_code 25 [(.iconst 0, 1), (.ireturn, 1)] = true := by decide +kernel
set_option maxRecDepth 100000 in
def b_Law_open_15 (G : GT) (s0 : Nat) (s1 : Int32) (s2 : Int64) (M : PH) : Option (Int32 × PH) :=
  if hT M s0 = 19 then if ib s1 (hN M s0) = true then hb (sL M s0 s1.toNatClampNeg s2) fun M3 => (some ((0 : Int32), M3)) else none else none
set_option maxRecDepth 100000 in
set_option maxHeartbeats 4000000 in
theorem t_Law_open_15 {G : GT} (s0 : Nat) (s1 : Int32) (s2 : Int64) (M : PH) : VX G mi_Law_open 8 110 15 [none, none, none, none] [.long s2, .int s1, .ref s0] M qI (b_Law_open_15 G s0 s1 s2 M) := by
  unfold b_Law_open_15
  refine V_open ok_Law_open_15 ?_
  refine B_chk (fun t1 => ?_)
  refine K_last t1 (fun M3 e2 => ?_)
  refine B_goto (tgt := 25) (by decide) ?_
  refine V_open ok_Law_open_25 ?_
  refine B_iconst (0 : Int32) ic_0 ?_
  exact B_iret rfl
set_option maxRecDepth 100000 in
def f_Law_open (G : GT) (l0 : Nat) (l1 : Int32) (l2 : Nat) (M : PH) : Option (Int32 × PH) :=
  if hT M l0 = 10 then bH2 (f_PF_open G l0 l1 M) (fun v3 M2 => if v3 = 0 then (b_Law_open_15 G l2 (0 : Int32) (0 : Int64) M2) else (b_Law_open_15 G l2 (0 : Int32) (1 : Int64) M2)) (fun M2 => some ((1 : Int32), M2)) (fun M2 => some ((2 : Int32), M2)) else none
set_option maxRecDepth 100000 in
set_option maxHeartbeats 4000000 in
theorem s_Law_open {G : GT} (l0 : Nat) (l1 : Int32) (l2 : Nat) (M : PH) : VX G mi_Law_open 8 110 0 [some (.ref l0), some (.int l1), some (.ref l2), none] [] M qI (f_Law_open G l0 l1 l2 M) := by
  unfold f_Law_open
  refine V_open ok_Law_open_0 ?_
  refine B_aload_n rfl ?_
  refine B_iconst (0 : Int32) ic_0 ?_
  refine B_aload_n rfl ?_
  refine B_iload_n rfl ?_
  refine B_chk (fun t1 => ?_)
  refine C_H2 (vs := [.ref l0, .int l1]) (st := [.int (0 : Int32), .ref l2]) 16 19 22 22 13 (by decide) rfl lh_Law_22 lh_Law_13 (ci_V lv_Law_24 rfl rfl t1) rfl rfl rfl (s_PF_open l0 l1 M) (fun v3 M2 => ?_) (fun ah M2 => ?_) (fun ah M2 => ?_)
  · skip
    refine B_eq (tgt := 14) (by decide) ?_ ?_
    · skip
      refine V_open ok_Law_open_14 ?_
      refine B_lconst (0 : Int64) lc_0 ?_
      refine V_close ?_
      exact V_weak (ls' := [none, none, none, none]) trivial (t_Law_open_15 l2 (0 : Int32) (0 : Int64) M2)
    · skip
      refine B_lconst (1 : Int64) lc_1 ?_
      refine B_goto (tgt := 15) (by decide) ?_
      exact V_weak (ls' := [none, none, none, none]) trivial (t_Law_open_15 l2 (0 : Int32) (1 : Int64) M2)
  · skip
    refine V_open ok_Law_open_19 ?_
    refine S_an [some (.ref l0), some (.int l1), some (.ref l2), some (.ref ah)] (by decide) rfl ?_
    refine B_iconst (1 : Int32) ic_1 ?_
    exact B_iret rfl
  · skip
    refine V_open ok_Law_open_22 ?_
    refine S_an [some (.ref l0), some (.int l1), some (.ref l2), some (.ref ah)] (by decide) rfl ?_
    refine B_iconst (2 : Int32) ic_2 ?_
    exact B_iret rfl

-- Mo_isLabel
theorem ok_Mo_isLabel_0 : okb prog_13_method_34_code 0 [(.iload_n 1, 1), (.ifCond .lt 14, 3), (.iload_n 1, 1), (.sipush 1000, 3), (.if_icmp .ge 7, 3), (.iconst 1, 1), (.goto 4, 3)] = true := by decide +kernel
theorem ok_Mo_isLabel_15 : okb prog_13_method_34_code 15 [(.iconst 0, 1), (.ireturn, 1)] = true := by decide +kernel
theorem ok_Mo_isLabel_16 : okb prog_13_method_34_code 16 [(.ireturn, 1)] = true := by decide +kernel
set_option maxRecDepth 100000 in
def f_Mo_isLabel (G : GT) (l0 : Nat) (l1 : Int32) (M : PH) : Option (Int32 × PH) :=
  if l1 < 0 then (some ((0 : Int32), M)) else (if (1000 : Int32) ≤ l1 then (some ((0 : Int32), M)) else (some ((1 : Int32), M)))
set_option maxRecDepth 100000 in
set_option maxHeartbeats 4000000 in
theorem s_Mo_isLabel {G : GT} (l0 : Nat) (l1 : Int32) (M : PH) : VX G mi_Mo_isLabel 0 0 0 [some (.ref l0), some (.int l1)] [] M qI (f_Mo_isLabel G l0 l1 M) := by
  unfold f_Mo_isLabel
  refine V_open ok_Mo_isLabel_0 ?_
  refine B_iload_n rfl ?_
  refine B_lt (tgt := 15) (by decide) ?_ ?_
  · skip
    refine V_open ok_Mo_isLabel_15 ?_
    refine B_iconst (0 : Int32) ic_0 ?_
    exact Z_ret rfl (Or.inl rfl)
  · skip
    refine B_iload_n rfl ?_
    refine B_sipush (1000 : Int32) sp_1000 ?_
    refine B_ige (tgt := 15) (by decide) ?_ ?_
    · skip
      refine V_open ok_Mo_isLabel_15 ?_
      refine B_iconst (0 : Int32) ic_0 ?_
      exact Z_ret rfl (Or.inl rfl)
    · skip
      refine B_iconst (1 : Int32) ic_1 ?_
      refine B_goto (tgt := 16) (by decide) ?_
      refine V_open ok_Mo_isLabel_16 ?_
      exact Z_ret rfl (Or.inr rfl)

-- Mo_open
theorem ok_Mo_open_0 : okb prog_13_method_37_code 0 [(.aload_n 0, 1), (.aload_n 0, 1), (.iload_n 1, 1), (.invokevirtual 343, 3), (.ifCond .eq 7, 3), (.iconst 0, 1), (.goto 4, 3)] = true := by decide +kernel
theorem ok_Mo_open_13 : okb prog_13_method_37_code 13 [(.iconst 1, 1)] = true := by decide +kernel
theorem ok_Mo_open_14 : okb prog_13_method_37_code 14 [(.putfield 175, 3), (.aload_n 0, 1), (.getfield 175, 3), (.ifCond .le 5, 3), (.iconst 0, 1), (.ireturn, 1)] = true := by decide +kernel
theorem ok_Mo_open_26 : okb prog_13_method_37_code 26 [(.aload_n 0, 1), (.getfield 236, 3), (.ifCond .ne 17, 3), (.aload_n 0, 1), (.iconst 2, 1), (.invokevirtual 297, 3), (.ifCond .le 7, 3), (.iconst 1, 1), (.goto 4, 3)] = true := by decide +kernel
theorem ok_Mo_open_45 : okb prog_13_method_37_code 45 [(.iconst 0, 1), (.ireturn, 1)] = true := by decide +kernel
theorem ok_Mo_open_46 : okb prog_13_method_37_code 46 [(.ireturn, 1)] = true := by decide +kernel
theorem ok_Mo_open_47 : okb prog_13_method_37_code 47 [(.aload_n 0, 1), (.getfield 60, 3), (.bipush 8, 2), (.baload, 1), (.ifCond .eq 5, 3), (.iconst 0, 1), (.ireturn, 1)] = true := by decide +kernel
theorem ok_Mo_open_59 : okb prog_13_method_37_code 59 [(.aload_n 0, 1), (.iload_n 1, 1), (.putfield 69, 3), (.aload_n 0, 1), (.getfield 36, 3), (.bipush 8, 2), (.aload_n 0, 1), (.getfield 192, 3), (.iastore, 1), (.aload_n 0, 1), (.getfield 39, 3), (.bipush 8, 2), (.aload_n 0, 1), (.getfield 195, 3), (.iastore, 1), (.aload_n 0, 1), (.iconst 1, 1), (.putfield 276, 3), (.iconst 1, 1), (.ireturn, 1)] = true := by decide +kernel
set_option maxRecDepth 100000 in
def b_Mo_open_14 (G : GT) (l0 : Nat) (l1 : Int32) (s0 : Nat) (s1 : Int32) (M : PH) : Option (Int32 × PH) :=
  if hT M s0 = 11 then hb (sI M 2200 s0 s1) fun M3 => if hT M3 l0 = 11 then if hI M3 2200 l0 ≤ 0 then (if ¬ hI M3 2218 l0 = 0 then ((hR M3 2237 l0).bind fun a5 => if hT M3 a5 = 17 then if 8 < hN M3 a5 then if hA M3 a5 8 = 0 then (hb (sI M3 2240 l0 l1) fun M9 => (hR M9 2229 l0).bind fun a11 => if hT M9 a11 = 16 then if 8 < hN M9 a11 then hb (sA M9 a11 8 (hI M9 2203 l0)) fun M15 => ((hR M15 2230 l0).bind fun a17 => if hT M15 a17 = 16 then if 8 < hN M15 a17 then hb (sA M15 a17 8 (hI M15 2204 l0)) fun M21 => (hb (sI M21 2241 l0 (1 : Int32)) fun M24 => some ((1 : Int32), M24)) else none else none) else none else none) else (some ((0 : Int32), M3)) else none else none) else (bI (f_Mo_fails G l0 (2 : Int32) M3) fun v26 M25 => (if v26 ≤ 0 then (some ((0 : Int32), M25)) else (some ((1 : Int32), M25))))) else (some ((0 : Int32), M3)) else none else none
set_option maxRecDepth 100000 in
set_option maxHeartbeats 4000000 in
theorem t_Mo_open_14 {G : GT} (l0 : Nat) (l1 : Int32) (s0 : Nat) (s1 : Int32) (M : PH) : VX G mi_Mo_open 1 14 14 [some (.ref l0), some (.int l1)] [.int s1, .ref s0] M qI (b_Mo_open_14 G l0 l1 s0 s1 M) := by
  unfold b_Mo_open_14
  refine V_open ok_Mo_open_14 ?_
  refine B_chk (fun t1 => ?_)
  refine K_putI 11 0 2200 lf_Mo_175 rfl (Or.inl rfl) rfl t1 (fun M3 e2 => ?_)
  refine B_aload_n rfl ?_
  refine B_chk (fun t4 => ?_)
  refine K_getI 11 0 2200 lf_Mo_175 rfl rfl t4 ?_
  refine B_le (tgt := 26) (by decide) ?_ ?_
  · skip
    refine V_open ok_Mo_open_26 ?_
    refine B_aload_n rfl ?_
    refine K_getI 11 18 2218 lf_Mo_236 rfl rfl t4 ?_
    refine B_ne (tgt := 47) (by decide) ?_ ?_
    · skip
      refine V_open ok_Mo_open_47 ?_
      refine B_aload_n rfl ?_
      refine K_getR 11 37 2237 lf_Mo_60 rfl rfl t4 (fun a5 r6 => ?_)
      refine B_bipush (8 : Int32) bp_8 ?_
      refine B_chk (fun t7 => ?_)
      refine K_zaldc 8 rfl t7 ?_
      refine B_eq (tgt := 59) (by decide) ?_ ?_
      · skip
        refine V_open ok_Mo_open_59 ?_
        refine B_aload_n rfl ?_
        refine B_iload_n rfl ?_
        refine K_putI 11 40 2240 lf_Mo_69 rfl (Or.inl rfl) rfl t4 (fun M9 e8 => ?_)
        refine B_aload_n rfl ?_
        have h10 : hT M9 l0 = 11 := by rw [e8]; exact t4
        refine K_getR 11 29 2229 lf_Mo_36 rfl rfl h10 (fun a11 r12 => ?_)
        refine B_bipush (8 : Int32) bp_8 ?_
        refine B_aload_n rfl ?_
        refine K_getI 11 3 2203 lf_Mo_192 rfl rfl h10 ?_
        refine B_chk (fun t13 => ?_)
        refine K_iastc 8 rfl t13 (fun M15 e14 => ?_)
        refine B_aload_n rfl ?_
        have h16 : hT M15 l0 = 11 := by rw [e14]; exact h10
        refine K_getR 11 30 2230 lf_Mo_39 rfl rfl h16 (fun a17 r18 => ?_)
        refine B_bipush (8 : Int32) bp_8 ?_
        refine B_aload_n rfl ?_
        refine K_getI 11 4 2204 lf_Mo_195 rfl rfl h16 ?_
        refine B_chk (fun t19 => ?_)
        refine K_iastc 8 rfl t19 (fun M21 e20 => ?_)
        refine B_aload_n rfl ?_
        refine B_iconst (1 : Int32) ic_1 ?_
        have h22 : hT M21 l0 = 11 := by rw [e20]; exact h16
        refine K_putZ 11 41 2241 lf_Mo_276 rfl (Or.inl rfl) rfl h22 (Or.inr rfl) (fun M24 e23 => ?_)
        refine B_iconst (1 : Int32) ic_1 ?_
        exact Z_ret rfl (Or.inr rfl)
      · skip
        refine B_iconst (0 : Int32) ic_0 ?_
        exact Z_ret rfl (Or.inl rfl)
    · skip
      refine B_aload_n rfl ?_
      refine B_iconst (2 : Int32) ic_2 ?_
      refine C_I (vs := [.ref l0, .int (2 : Int32)]) (st := []) (ci_V lv_Mo_297 rfl rfl t4) rfl rfl rfl (s_Mo_fails l0 (2 : Int32) M3) (fun v26 M25 => ?_)
      refine B_le (tgt := 45) (by decide) ?_ ?_
      · skip
        refine V_open ok_Mo_open_45 ?_
        refine B_iconst (0 : Int32) ic_0 ?_
        exact Z_ret rfl (Or.inl rfl)
      · skip
        refine B_iconst (1 : Int32) ic_1 ?_
        refine B_goto (tgt := 46) (by decide) ?_
        refine V_open ok_Mo_open_46 ?_
        exact Z_ret rfl (Or.inr rfl)
  · skip
    refine B_iconst (0 : Int32) ic_0 ?_
    exact Z_ret rfl (Or.inl rfl)
set_option maxRecDepth 100000 in
def f_Mo_open (G : GT) (l0 : Nat) (l1 : Int32) (M : PH) : Option (Int32 × PH) :=
  if hT M l0 = 11 then bI (f_Mo_isLabel G l0 l1 M) fun v3 M2 => (if v3 = 0 then (b_Mo_open_14 G l0 l1 l0 (1 : Int32) M2) else (b_Mo_open_14 G l0 l1 l0 (0 : Int32) M2)) else none
set_option maxRecDepth 100000 in
set_option maxHeartbeats 4000000 in
theorem s_Mo_open {G : GT} (l0 : Nat) (l1 : Int32) (M : PH) : VX G mi_Mo_open 1 14 0 [some (.ref l0), some (.int l1)] [] M qI (f_Mo_open G l0 l1 M) := by
  unfold f_Mo_open
  refine V_open ok_Mo_open_0 ?_
  refine B_aload_n rfl ?_
  refine B_aload_n rfl ?_
  refine B_iload_n rfl ?_
  refine B_chk (fun t1 => ?_)
  refine C_I (vs := [.ref l0, .int l1]) (st := [.ref l0]) (ci_V lv_Mo_343 rfl rfl t1) rfl rfl rfl (s_Mo_isLabel l0 l1 M) (fun v3 M2 => ?_)
  refine B_eq (tgt := 13) (by decide) ?_ ?_
  · skip
    refine V_open ok_Mo_open_13 ?_
    refine B_iconst (1 : Int32) ic_1 ?_
    refine V_close ?_
    exact V_weak (ls' := [some (.ref l0), some (.int l1)]) ⟨rfl, ⟨rfl, trivial⟩⟩ (t_Mo_open_14 l0 l1 l0 (1 : Int32) M2)
  · skip
    refine B_iconst (0 : Int32) ic_0 ?_
    refine B_goto (tgt := 14) (by decide) ?_
    exact V_weak (ls' := [some (.ref l0), some (.int l1)]) ⟨rfl, ⟨rfl, trivial⟩⟩ (t_Mo_open_14 l0 l1 l0 (0 : Int32) M2)

-- PF_popup
theorem ok_PF_popup_0 : okb prog_1_method_27_code 0 [(.iload_n 1, 1), (.invokestatic 319, 3), (.ifCond .eq 15, 3), (.iload_n 2, 1), (.iload_n 3, 1), (.invokestatic 257, 3), (.ifCond .eq 7, 3), (.iconst 1, 1), (.goto 4, 3)] = true := by decide +kernel
theorem ok_PF_popup_19 : okb prog_1_method_27_code 19 [(.iconst 0, 1)] = true := by decide +kernel
theorem ok_PF_popup_20 : okb prog_1_method_27_code 20 [(.invokestatic 260, 3), (.aload_n 0, 1), (.aload_n 0, 1), (.getfield 104, 3), (.ifCond .eq 27, 3), (.aload_n 0, 1), (.getfield 114, 3), (.ifCond .ne 20, 3), (.aload_n 0, 1), (.getfield 32, 3), (.bipush 8, 2), (.aaload, 1), (.getfield 123, 3), (.ifCond .ne 7, 3), (.iconst 1, 1), (.goto 4, 3)] = true := by decide +kernel
theorem ok_PF_popup_55 : okb prog_1_method_27_code 55 [(.iconst 0, 1)] = true := by decide +kernel
theorem ok_PF_popup_56 : okb prog_1_method_27_code 56 [(.invokevirtual 130, 3), (.iload_n 1, 1), (.aload_n 0, 1), (.getfield 50, 3), (.if_icmp .eq 5, 3), (.iconst 0, 1), (.ireturn, 1)] = true := by decide +kernel
theorem ok_PF_popup_69 : okb prog_1_method_27_code 69 [(.aload_n 0, 1), (.getfield 26, 3), (.aload_n 0, 1), (.getfield 32, 3), (.bipush 8, 2), (.aaload, 1), (.invokevirtual 277, 3), (.invokevirtual 279, 3), (.aload_n 0, 1), (.aload_n 0, 1), (.getfield 32, 3), (.bipush 8, 2), (.aaload, 1), (.iload_n 2, 1), (.iload_n 3, 1), (.invokevirtual 270, 3), (.iconst 1, 1), (.ireturn, 1)] = true := by decide +kernel
set_option maxRecDepth 100000 in
def b_PF_popup_56 (G : GT) (l0 : Nat) (l1 : Int32) (l2 : Int32) (l3 : Int32) (s0 : Nat) (s1 : Int32) (M : PH) : Option (Nat × Int32 × PH) :=
  if hT M s0 = 10 then bT (f_PF_may G s0 s1 M) fun M2 => (if hT M2 l0 = 10 then if l1 = hI M2 2013 l0 then ((hR M2 2002 l0).bind fun a4 => (hR M2 2003 l0).bind fun a6 => if hT M2 a6 = 20 then if 8 < hN M2 a6 then (hX M2 a6 8).bind fun a9 => (if hT M2 a9 = 7 then bI (f_Panel_id G a9 M2) fun v12 M11 => (if hT M11 a4 = 9 then bV (f_Att_tell G a4 v12 M11) fun M14 => (if hT M14 l0 = 10 then (hR M14 2003 l0).bind fun a16 => if hT M14 a16 = 20 then if 8 < hN M14 a16 then (hX M14 a16 8).bind fun a19 => (bV (f_PF_tell G l0 a19 l2 l3 M14) fun M20 => (some (0, (1 : Int32), M20))) else none else none else none) else none) else none) else none else none) else (some (0, (0 : Int32), M2)) else none) else none
set_option maxRecDepth 100000 in
set_option maxHeartbeats 4000000 in
theorem t_PF_popup_56 {G : GT} (l0 : Nat) (l1 : Int32) (l2 : Int32) (l3 : Int32) (s0 : Nat) (s1 : Int32) (M : PH) : VX G mi_PF_popup 7 94 56 [some (.ref l0), some (.int l1), some (.int l2), some (.int l3)] [.int s1, .ref s0] M qT (b_PF_popup_56 G l0 l1 l2 l3 s0 s1 M) := by
  unfold b_PF_popup_56
  refine V_open ok_PF_popup_56 ?_
  refine B_chk (fun t1 => ?_)
  refine C_T (vs := [.ref s0, .int s1]) (st := []) rfl (ci_V lv_PF_130 rfl rfl t1) rfl rfl rfl (s_PF_may s0 s1 M) (fun M2 => ?_)
  refine B_iload_n rfl ?_
  refine B_aload_n rfl ?_
  refine B_chk (fun t3 => ?_)
  refine K_getI 10 13 2013 lf_PF_50 rfl rfl t3 ?_
  refine B_ieq (tgt := 69) (by decide) ?_ ?_
  · skip
    refine V_open ok_PF_popup_69 ?_
    refine B_aload_n rfl ?_
    refine K_getR 10 2 2002 lf_PF_26 rfl rfl t3 (fun a4 r5 => ?_)
    refine B_aload_n rfl ?_
    refine K_getR 10 3 2003 lf_PF_32 rfl rfl t3 (fun a6 r7 => ?_)
    refine B_bipush (8 : Int32) bp_8 ?_
    refine B_chk (fun t8 => ?_)
    refine K_aaldc 20 8 rfl rfl t8 (fun a9 => ?_)
    refine B_chk (fun t10 => ?_)
    refine C_I (vs := [.ref a9]) (st := [.ref a4]) (ci_V lv_PF_277 rfl rfl t10) rfl rfl rfl (s_Panel_id a9 M2) (fun v12 M11 => ?_)
    refine B_chk (fun t13 => ?_)
    refine C_V (vs := [.ref a4, .int v12]) (st := []) (ci_V lv_PF_279 rfl rfl t13) rfl rfl rfl (s_Att_tell a4 v12 M11) (fun M14 => ?_)
    refine B_aload_n rfl ?_
    refine B_aload_n rfl ?_
    refine B_chk (fun t15 => ?_)
    refine K_getR 10 3 2003 lf_PF_32 rfl rfl t15 (fun a16 r17 => ?_)
    refine B_bipush (8 : Int32) bp_8 ?_
    refine B_chk (fun t18 => ?_)
    refine K_aaldc 20 8 rfl rfl t18 (fun a19 => ?_)
    refine B_iload_n rfl ?_
    refine B_iload_n rfl ?_
    refine C_V (vs := [.ref l0, .ref a19, .int l2, .int l3]) (st := []) (ci_V lv_PF_270 rfl rfl t15) rfl rfl rfl (s_PF_tell l0 a19 l2 l3 M14) (fun M20 => ?_)
    refine B_iconst (1 : Int32) ic_1 ?_
    exact Z_tret rfl (Or.inr rfl)
  · skip
    refine B_iconst (0 : Int32) ic_0 ?_
    exact Z_tret rfl (Or.inl rfl)
set_option maxRecDepth 100000 in
def b_PF_popup_55 (G : GT) (l0 : Nat) (l1 : Int32) (l2 : Int32) (l3 : Int32) (s0 : Nat) (M : PH) : Option (Nat × Int32 × PH) :=
  b_PF_popup_56 G l0 l1 l2 l3 s0 (0 : Int32) M
set_option maxRecDepth 100000 in
set_option maxHeartbeats 4000000 in
theorem t_PF_popup_55 {G : GT} (l0 : Nat) (l1 : Int32) (l2 : Int32) (l3 : Int32) (s0 : Nat) (M : PH) : VX G mi_PF_popup 7 94 55 [some (.ref l0), some (.int l1), some (.int l2), some (.int l3)] [.ref s0] M qT (b_PF_popup_55 G l0 l1 l2 l3 s0 M) := by
  unfold b_PF_popup_55
  refine V_open ok_PF_popup_55 ?_
  refine B_iconst (0 : Int32) ic_0 ?_
  refine V_close ?_
  exact V_weak (ls' := [some (.ref l0), some (.int l1), some (.int l2), some (.int l3)]) ⟨rfl, ⟨rfl, ⟨rfl, ⟨rfl, trivial⟩⟩⟩⟩ (t_PF_popup_56 l0 l1 l2 l3 s0 (0 : Int32) M)
set_option maxRecDepth 100000 in
def b_PF_popup_20 (G : GT) (l0 : Nat) (l1 : Int32) (l2 : Int32) (l3 : Int32) (s0 : Int32) (M : PH) : Option (Nat × Int32 × PH) :=
  bT (f_PF_want G s0 M) fun M1 => (if hT M1 l0 = 10 then if hI M1 2007 l0 = 0 then (b_PF_popup_55 G l0 l1 l2 l3 l0 M1) else (if ¬ hI M1 2006 l0 = 0 then (b_PF_popup_55 G l0 l1 l2 l3 l0 M1) else ((hR M1 2003 l0).bind fun a3 => if hT M1 a3 = 20 then if 8 < hN M1 a3 then (hX M1 a3 8).bind fun a6 => (if hT M1 a6 = 7 then if ¬ hI M1 1409 a6 = 0 then (b_PF_popup_55 G l0 l1 l2 l3 l0 M1) else (b_PF_popup_56 G l0 l1 l2 l3 l0 (1 : Int32) M1) else none) else none else none)) else none)
set_option maxRecDepth 100000 in
set_option maxHeartbeats 4000000 in
theorem t_PF_popup_20 {G : GT} (l0 : Nat) (l1 : Int32) (l2 : Int32) (l3 : Int32) (s0 : Int32) (M : PH) : VX G mi_PF_popup 7 94 20 [some (.ref l0), some (.int l1), some (.int l2), some (.int l3)] [.int s0] M qT (b_PF_popup_20 G l0 l1 l2 l3 s0 M) := by
  unfold b_PF_popup_20
  refine V_open ok_PF_popup_20 ?_
  refine C_T (vs := [.int s0]) (st := []) rfl (ci_S ls_PF_260 rfl) rfl rfl rfl (s_PF_want s0 M) (fun M1 => ?_)
  refine B_aload_n rfl ?_
  refine B_aload_n rfl ?_
  refine B_chk (fun t2 => ?_)
  refine K_getI 10 7 2007 lf_PF_104 rfl rfl t2 ?_
  refine B_eq (tgt := 55) (by decide) ?_ ?_
  · skip
    exact V_weak (ls' := [some (.ref l0), some (.int l1), some (.int l2), some (.int l3)]) ⟨rfl, ⟨rfl, ⟨rfl, ⟨rfl, trivial⟩⟩⟩⟩ (t_PF_popup_55 l0 l1 l2 l3 l0 M1)
  · skip
    refine B_aload_n rfl ?_
    refine K_getI 10 6 2006 lf_PF_114 rfl rfl t2 ?_
    refine B_ne (tgt := 55) (by decide) ?_ ?_
    · skip
      exact V_weak (ls' := [some (.ref l0), some (.int l1), some (.int l2), some (.int l3)]) ⟨rfl, ⟨rfl, ⟨rfl, ⟨rfl, trivial⟩⟩⟩⟩ (t_PF_popup_55 l0 l1 l2 l3 l0 M1)
    · skip
      refine B_aload_n rfl ?_
      refine K_getR 10 3 2003 lf_PF_32 rfl rfl t2 (fun a3 r4 => ?_)
      refine B_bipush (8 : Int32) bp_8 ?_
      refine B_chk (fun t5 => ?_)
      refine K_aaldc 20 8 rfl rfl t5 (fun a6 => ?_)
      refine B_chk (fun t7 => ?_)
      refine K_getI 7 9 1409 lf_PF_123 rfl rfl t7 ?_
      refine B_ne (tgt := 55) (by decide) ?_ ?_
      · skip
        exact V_weak (ls' := [some (.ref l0), some (.int l1), some (.int l2), some (.int l3)]) ⟨rfl, ⟨rfl, ⟨rfl, ⟨rfl, trivial⟩⟩⟩⟩ (t_PF_popup_55 l0 l1 l2 l3 l0 M1)
      · skip
        refine B_iconst (1 : Int32) ic_1 ?_
        refine B_goto (tgt := 56) (by decide) ?_
        exact V_weak (ls' := [some (.ref l0), some (.int l1), some (.int l2), some (.int l3)]) ⟨rfl, ⟨rfl, ⟨rfl, ⟨rfl, trivial⟩⟩⟩⟩ (t_PF_popup_56 l0 l1 l2 l3 l0 (1 : Int32) M1)
set_option maxRecDepth 100000 in
def b_PF_popup_19 (G : GT) (l0 : Nat) (l1 : Int32) (l2 : Int32) (l3 : Int32) (M : PH) : Option (Nat × Int32 × PH) :=
  b_PF_popup_20 G l0 l1 l2 l3 (0 : Int32) M
set_option maxRecDepth 100000 in
set_option maxHeartbeats 4000000 in
theorem t_PF_popup_19 {G : GT} (l0 : Nat) (l1 : Int32) (l2 : Int32) (l3 : Int32) (M : PH) : VX G mi_PF_popup 7 94 19 [some (.ref l0), some (.int l1), some (.int l2), some (.int l3)] [] M qT (b_PF_popup_19 G l0 l1 l2 l3 M) := by
  unfold b_PF_popup_19
  refine V_open ok_PF_popup_19 ?_
  refine B_iconst (0 : Int32) ic_0 ?_
  refine V_close ?_
  exact V_weak (ls' := [some (.ref l0), some (.int l1), some (.int l2), some (.int l3)]) ⟨rfl, ⟨rfl, ⟨rfl, ⟨rfl, trivial⟩⟩⟩⟩ (t_PF_popup_20 l0 l1 l2 l3 (0 : Int32) M)
set_option maxRecDepth 100000 in
def f_PF_popup (G : GT) (l0 : Nat) (l1 : Int32) (l2 : Int32) (l3 : Int32) (M : PH) : Option (Nat × Int32 × PH) :=
  bI (f_PF_isLabel G l1 M) fun v2 M1 => (if v2 = 0 then (b_PF_popup_19 G l0 l1 l2 l3 M1) else (bI (f_PF_isSize G l2 l3 M1) fun v4 M3 => (if v4 = 0 then (b_PF_popup_19 G l0 l1 l2 l3 M3) else (b_PF_popup_20 G l0 l1 l2 l3 (1 : Int32) M3))))
set_option maxRecDepth 100000 in
set_option maxHeartbeats 4000000 in
theorem s_PF_popup {G : GT} (l0 : Nat) (l1 : Int32) (l2 : Int32) (l3 : Int32) (M : PH) : VX G mi_PF_popup 7 94 0 [some (.ref l0), some (.int l1), some (.int l2), some (.int l3)] [] M qT (f_PF_popup G l0 l1 l2 l3 M) := by
  unfold f_PF_popup
  refine V_open ok_PF_popup_0 ?_
  refine B_iload_n rfl ?_
  refine C_I (vs := [.int l1]) (st := []) (ci_S ls_PF_319 rfl) rfl rfl rfl (s_PF_isLabel l1 M) (fun v2 M1 => ?_)
  refine B_eq (tgt := 19) (by decide) ?_ ?_
  · skip
    exact V_weak (ls' := [some (.ref l0), some (.int l1), some (.int l2), some (.int l3)]) ⟨rfl, ⟨rfl, ⟨rfl, ⟨rfl, trivial⟩⟩⟩⟩ (t_PF_popup_19 l0 l1 l2 l3 M1)
  · skip
    refine B_iload_n rfl ?_
    refine B_iload_n rfl ?_
    refine C_I (vs := [.int l2, .int l3]) (st := []) (ci_S ls_PF_257 rfl) rfl rfl rfl (s_PF_isSize l2 l3 M1) (fun v4 M3 => ?_)
    refine B_eq (tgt := 19) (by decide) ?_ ?_
    · skip
      exact V_weak (ls' := [some (.ref l0), some (.int l1), some (.int l2), some (.int l3)]) ⟨rfl, ⟨rfl, ⟨rfl, ⟨rfl, trivial⟩⟩⟩⟩ (t_PF_popup_19 l0 l1 l2 l3 M3)
    · skip
      refine B_iconst (1 : Int32) ic_1 ?_
      refine B_goto (tgt := 20) (by decide) ?_
      exact V_weak (ls' := [some (.ref l0), some (.int l1), some (.int l2), some (.int l3)]) ⟨rfl, ⟨rfl, ⟨rfl, ⟨rfl, trivial⟩⟩⟩⟩ (t_PF_popup_20 l0 l1 l2 l3 (1 : Int32) M3)

-- Law_popup
theorem ok_Law_popup_0 : okb method_7_code 0 [(.aload 4, 2), (.iconst 0, 1), (.aload_n 0, 1), (.iload_n 1, 1), (.iload_n 2, 1), (.iload_n 3, 1), (.invokevirtual 28, 3), (.ifCond .eq 7, 3), (.lconst 1, 1), (.goto 4, 3)] = true := by decide +kernel
theorem ok_Law_popup_17 : okb method_7_code 17 [(.lconst 0, 1)] = true := by decide +kernel
theorem ok_Law_popup_18 : okb method_7_code 18 [(.lastore, 1), (.goto 11, 3)] = true := by decide +kernel
theorem ok_Law_popup_22 : okb method_7_code 22 [(.astore 5, 2), (.iconst 1, 1), (.ireturn, 1)] = true := by decide +kernel
theorem ok_Law_popup_26 : okb method_7_code 26 [(.astore 5, 2), (.iconst 2, 1), (.ireturn, 1)] = true := by decide +kernel
theorem ok_Law_popup_30 : okb method_7_code 30 [(.iconst 0, 1), (.ireturn, 1)] = true := by decide +kernel
set_option maxRecDepth 100000 in
def b_Law_popup_18 (G : GT) (s0 : Nat) (s1 : Int32) (s2 : Int64) (M : PH) : Option (Int32 × PH) :=
  if hT M s0 = 19 then if ib s1 (hN M s0) = true then hb (sL M s0 s1.toNatClampNeg s2) fun M3 => (some ((0 : Int32), M3)) else none else none
set_option maxRecDepth 100000 in
set_option maxHeartbeats 4000000 in
theorem t_Law_popup_18 {G : GT} (s0 : Nat) (s1 : Int32) (s2 : Int64) (M : PH) : VX G mi_Law_popup 8 111 18 [none, none, none, none, none, none] [.long s2, .int s1, .ref s0] M qI (b_Law_popup_18 G s0 s1 s2 M) := by
  unfold b_Law_popup_18
  refine V_open ok_Law_popup_18 ?_
  refine B_chk (fun t1 => ?_)
  refine K_last t1 (fun M3 e2 => ?_)
  refine B_goto (tgt := 30) (by decide) ?_
  refine V_open ok_Law_popup_30 ?_
  refine B_iconst (0 : Int32) ic_0 ?_
  exact B_iret rfl
set_option maxRecDepth 100000 in
def f_Law_popup (G : GT) (l0 : Nat) (l1 : Int32) (l2 : Int32) (l3 : Int32) (l4 : Nat) (M : PH) : Option (Int32 × PH) :=
  if hT M l0 = 10 then bH2 (f_PF_popup G l0 l1 l2 l3 M) (fun v3 M2 => if v3 = 0 then (b_Law_popup_18 G l4 (0 : Int32) (0 : Int64) M2) else (b_Law_popup_18 G l4 (0 : Int32) (1 : Int64) M2)) (fun M2 => some ((1 : Int32), M2)) (fun M2 => some ((2 : Int32), M2)) else none
set_option maxRecDepth 100000 in
set_option maxHeartbeats 4000000 in
theorem s_Law_popup {G : GT} (l0 : Nat) (l1 : Int32) (l2 : Int32) (l3 : Int32) (l4 : Nat) (M : PH) : VX G mi_Law_popup 8 111 0 [some (.ref l0), some (.int l1), some (.int l2), some (.int l3), some (.ref l4), none] [] M qI (f_Law_popup G l0 l1 l2 l3 l4 M) := by
  unfold f_Law_popup
  refine V_open ok_Law_popup_0 ?_
  refine B_aload rfl ?_
  refine B_iconst (0 : Int32) ic_0 ?_
  refine B_aload_n rfl ?_
  refine B_iload_n rfl ?_
  refine B_iload_n rfl ?_
  refine B_iload_n rfl ?_
  refine B_chk (fun t1 => ?_)
  refine C_H2 (vs := [.ref l0, .int l1, .int l2, .int l3]) (st := [.int (0 : Int32), .ref l4]) 19 22 22 26 13 (by decide) rfl lh_Law_22 lh_Law_13 (ci_V lv_Law_28 rfl rfl t1) rfl rfl rfl (s_PF_popup l0 l1 l2 l3 M) (fun v3 M2 => ?_) (fun ah M2 => ?_) (fun ah M2 => ?_)
  · skip
    refine B_eq (tgt := 17) (by decide) ?_ ?_
    · skip
      refine V_open ok_Law_popup_17 ?_
      refine B_lconst (0 : Int64) lc_0 ?_
      refine V_close ?_
      exact V_weak (ls' := [none, none, none, none, none, none]) trivial (t_Law_popup_18 l4 (0 : Int32) (0 : Int64) M2)
    · skip
      refine B_lconst (1 : Int64) lc_1 ?_
      refine B_goto (tgt := 18) (by decide) ?_
      exact V_weak (ls' := [none, none, none, none, none, none]) trivial (t_Law_popup_18 l4 (0 : Int32) (1 : Int64) M2)
  · skip
    refine V_open ok_Law_popup_22 ?_
    refine S_a [some (.ref l0), some (.int l1), some (.int l2), some (.int l3), some (.ref l4), some (.ref ah)] (by decide) rfl ?_
    refine B_iconst (1 : Int32) ic_1 ?_
    exact B_iret rfl
  · skip
    refine V_open ok_Law_popup_26 ?_
    refine S_a [some (.ref l0), some (.int l1), some (.int l2), some (.int l3), some (.ref l4), some (.ref ah)] (by decide) rfl ?_
    refine B_iconst (2 : Int32) ic_2 ?_
    exact B_iret rfl
