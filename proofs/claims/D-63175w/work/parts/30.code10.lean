-- PF_child
theorem ok_PF_child_0 : okb prog_1_method_41_code 0 [(.iload_n 3, 1), (.iconst 1, 1), (.if_icmp .lt 14, 3), (.iload_n 3, 1), (.sipush 200, 3), (.if_icmp .gt 7, 3), (.iconst 1, 1), (.goto 4, 3)] = true := by decide +kernel
theorem ok_PF_child_16 : okb prog_1_method_41_code 16 [(.iconst 0, 1)] = true := by decide +kernel
theorem ok_PF_child_17 : okb prog_1_method_41_code 17 [(.invokestatic 260, 3), (.aload_n 0, 1), (.iload_n 1, 1), (.iload_n 2, 1), (.iconst 1, 1), (.invokevirtual 374, 3), (.aload_n 0, 1), (.aload_n 0, 1), (.getfield 114, 3), (.bipush 40, 2), (.if_icmp .ge 16, 3), (.aload_n 0, 1), (.getfield 120, 3), (.bipush 8, 2), (.if_icmp .ge 7, 3), (.iconst 1, 1), (.goto 4, 3)] = true := by decide +kernel
theorem ok_PF_child_50 : okb prog_1_method_41_code 50 [(.iconst 0, 1)] = true := by decide +kernel
theorem ok_PF_child_51 : okb prog_1_method_41_code 51 [(.invokevirtual 130, 3), (.aload_n 0, 1), (.iload_n 1, 1), (.invokevirtual 378, 3), (.istore 4, 2), (.aload_n 0, 1), (.invokevirtual 245, 3), (.aload_n 0, 1), (.getfield 72, 3), (.iload_n 2, 1), (.iload_n 3, 1), (.invokevirtual 343, 3), (.aload_n 0, 1), (.getfield 26, 3), (.iload 4, 2), (.invokevirtual 279, 3), (.aload_n 0, 1), (.iload 4, 2), (.invokevirtual 385, 3), (.aload_n 0, 1), (.getfield 55, 3), (.aload_n 0, 1), (.getfield 120, 3), (.aaload, 1), (.astore 5, 2), (.aload 5, 2), (.aload 5, 2), (.getfield 295, 3), (.aload_n 0, 1), (.getfield 68, 3), (.aload_n 0, 1), (.getfield 120, 3), (.if_icmp .ne 16, 3), (.bipush 10, 2), (.aload_n 0, 1), (.getfield 10, 3), (.getfield 298, 3), (.imul, 1), (.goto 4, 3)] = true := by decide +kernel
theorem ok_PF_child_131 : okb prog_1_method_41_code 131 [(.iconst 0, 1)] = true := by decide +kernel
theorem ok_PF_child_132 : okb prog_1_method_41_code 132 [(.iadd, 1), (.iload_n 3, 1), (.invokevirtual 301, 3), (.aload_n 0, 1), (.iconst 1, 1), (.iload 4, 2), (.invokevirtual 311, 3), (.astore 6, 2), (.aload 6, 2), (.aload_n 0, 1), (.getfield 120, 3), (.putfield 239, 3), (.aload 6, 2), (.getfield 236, 3), (.aload_n 0, 1), (.getfield 72, 3), (.invokevirtual 304, 3), (.aload 6, 2), (.getfield 232, 3), (.aload_n 0, 1), (.getfield 72, 3), (.getfield 191, 3), (.iconst 2, 1), (.iadd, 1), (.aload_n 0, 1), (.getfield 72, 3), (.getfield 194, 3), (.iconst 2, 1), (.iadd, 1), (.aload 5, 2), (.getfield 295, 3), (.isub, 1), (.invokevirtual 315, 3), (.aload_n 0, 1), (.getfield 59, 3), (.aload_n 0, 1), (.getfield 120, 3), (.aload_n 0, 1), (.invokevirtual 350, 3), (.getfield 281, 3), (.iastore, 1), (.aload_n 0, 1), (.getfield 64, 3), (.aload_n 0, 1), (.getfield 120, 3), (.aaload, 1), (.aload 6, 2), (.getfield 236, 3), (.invokevirtual 254, 3), (.aload_n 0, 1), (.dup, 1), (.getfield 120, 3), (.iconst 1, 1), (.iadd, 1), (.putfield 120, 3), (.return_, 1)] = true := by decide +kernel
set_option maxRecDepth 100000 in
def b_PF_child_132 (G : GT) (l0 : Nat) (l3 : Int32) (l4 : Int32) (l5 : Nat) (s0 : Nat) (s1 : Int32) (s2 : Int32) (M : PH) : Option (Nat × PH) :=
  if hT M s0 = 6 then bV (f_Scroll_to G s0 (s1 + s2) l3 M) fun M2 => (if hT M2 l0 = 10 then bR (f_PF_push G l0 (1 : Int32) l4 M2) fun a5 M4 => (if hT M4 l0 = 10 then if hT M4 a5 = 8 then hb (sI M4 1602 a5 (hI M4 2018 l0)) fun M9 => (hR M9 1604 a5).bind fun a11 => (hR M9 2020 l0).bind fun a14 => if hT M9 a11 = 1 then bV (f_Rect_meet G a11 a14 M9) fun M17 => (if hT M17 a5 = 8 then (hR M17 1605 a5).bind fun a19 => if hT M17 l0 = 10 then (hR M17 2020 l0).bind fun a22 => if hT M17 a22 = 1 then if hT M17 l5 = 6 then if hT M17 a19 = 5 then bV (f_Layout_be G a19 ((hI M17 200 a22) + (2 : Int32)) (((hI M17 201 a22) + (2 : Int32)) - (hI M17 1200 l5)) M17) fun M27 => (if hT M27 l0 = 10 then (hR M27 2016 l0).bind fun a29 => bR (f_PF_panel G l0 M27) fun a32 M31 => (if hT M31 a32 = 7 then if hT M31 a29 = 16 then if ib (hI M27 2018 l0) (hN M31 a29) = true then hb (sA M31 a29 (hI M27 2018 l0).toNatClampNeg (hI M31 1400 a32)) fun M36 => (if hT M36 l0 = 10 then (hR M36 2017 l0).bind fun a38 => if hT M36 a38 = 23 then if ib (hI M36 2018 l0) (hN M36 a38) = true then (hX M36 a38 (hI M36 2018 l0).toNatClampNeg).bind fun a41 => (if hT M36 a5 = 8 then (hR M36 1604 a5).bind fun a43 => if hT M36 a41 = 1 then bV (f_Rect_be2 G a41 a43 M36) fun M46 => (if hT M46 l0 = 10 then hb (sI M46 2018 l0 ((hI M46 2018 l0) + (1 : Int32))) fun M49 => some (0, M49) else none) else none else none) else none else none else none) else none else none else none) else none) else none else none else none else none else none) else none else none else none) else none) else none
set_option maxRecDepth 100000 in
set_option maxHeartbeats 4000000 in
theorem t_PF_child_132 {G : GT} (l0 : Nat) (l3 : Int32) (l4 : Int32) (l5 : Nat) (s0 : Nat) (s1 : Int32) (s2 : Int32) (M : PH) : VX G mi_PF_child 8 109 132 [some (.ref l0), none, none, some (.int l3), some (.int l4), some (.ref l5), none] [.int s2, .int s1, .ref s0] M qU (b_PF_child_132 G l0 l3 l4 l5 s0 s1 s2 M) := by
  unfold b_PF_child_132
  refine V_open ok_PF_child_132 ?_
  refine B_iadd ?_
  refine B_iload_n rfl ?_
  refine B_chk (fun t1 => ?_)
  refine C_V (vs := [.ref s0, .int (s1 + s2), .int l3]) (st := []) (ci_V lv_PF_301 rfl rfl t1) rfl rfl rfl (s_Scroll_to s0 (s1 + s2) l3 M) (fun M2 => ?_)
  refine B_aload_n rfl ?_
  refine B_iconst (1 : Int32) ic_1 ?_
  refine B_iload rfl ?_
  refine B_chk (fun t3 => ?_)
  refine C_R (vs := [.ref l0, .int (1 : Int32), .int l4]) (st := []) (ci_V lv_PF_311 rfl rfl t3) rfl rfl rfl (s_PF_push l0 (1 : Int32) l4 M2) (fun a5 M4 => ?_)
  refine S_a [some (.ref l0), none, none, some (.int l3), some (.int l4), some (.ref l5), some (.ref a5)] (by decide) rfl ?_
  refine B_aload rfl ?_
  refine B_aload_n rfl ?_
  refine B_chk (fun t6 => ?_)
  refine K_getI 10 18 2018 lf_PF_120 rfl rfl t6 ?_
  refine B_chk (fun t7 => ?_)
  refine K_putI 8 2 1602 lf_PF_239 rfl (Or.inl rfl) rfl t7 (fun M9 e8 => ?_)
  refine B_aload rfl ?_
  have h10 : hT M9 a5 = 8 := by rw [e8]; exact t7
  refine K_getR 8 4 1604 lf_PF_236 rfl rfl h10 (fun a11 r12 => ?_)
  refine B_aload_n rfl ?_
  have h13 : hT M9 l0 = 10 := by rw [e8]; exact t6
  refine K_getR 10 20 2020 lf_PF_72 rfl rfl h13 (fun a14 r15 => ?_)
  refine B_chk (fun t16 => ?_)
  refine C_V (vs := [.ref a11, .ref a14]) (st := []) (ci_V lv_PF_304 rfl rfl t16) rfl rfl rfl (s_Rect_meet a11 a14 M9) (fun M17 => ?_)
  refine B_aload rfl ?_
  refine B_chk (fun t18 => ?_)
  refine K_getR 8 5 1605 lf_PF_232 rfl rfl t18 (fun a19 r20 => ?_)
  refine B_aload_n rfl ?_
  refine B_chk (fun t21 => ?_)
  refine K_getR 10 20 2020 lf_PF_72 rfl rfl t21 (fun a22 r23 => ?_)
  refine B_chk (fun t24 => ?_)
  refine K_getI 1 0 200 lf_PF_191 rfl rfl t24 ?_
  refine B_iconst (2 : Int32) ic_2 ?_
  refine B_iadd ?_
  refine B_aload_n rfl ?_
  refine K_getRk 10 20 2020 lf_PF_72 rfl rfl t21 r23 ?_
  refine K_getI 1 1 201 lf_PF_194 rfl rfl t24 ?_
  refine B_iconst (2 : Int32) ic_2 ?_
  refine B_iadd ?_
  refine B_aload rfl ?_
  refine B_chk (fun t25 => ?_)
  refine K_getI 6 0 1200 lf_PF_295 rfl rfl t25 ?_
  refine B_isub ?_
  refine B_chk (fun t26 => ?_)
  refine C_V (vs := [.ref a19, .int ((hI M17 200 a22) + (2 : Int32)), .int (((hI M17 201 a22) + (2 : Int32)) - (hI M17 1200 l5))]) (st := []) (ci_V lv_PF_315 rfl rfl t26) rfl rfl rfl (s_Layout_be a19 ((hI M17 200 a22) + (2 : Int32)) (((hI M17 201 a22) + (2 : Int32)) - (hI M17 1200 l5)) M17) (fun M27 => ?_)
  refine B_aload_n rfl ?_
  refine B_chk (fun t28 => ?_)
  refine K_getR 10 16 2016 lf_PF_59 rfl rfl t28 (fun a29 r30 => ?_)
  refine B_aload_n rfl ?_
  refine K_getI 10 18 2018 lf_PF_120 rfl rfl t28 ?_
  refine B_aload_n rfl ?_
  refine C_R (vs := [.ref l0]) (st := [.int (hI M27 2018 l0), .ref a29]) (ci_V lv_PF_350 rfl rfl t28) rfl rfl rfl (s_PF_panel l0 M27) (fun a32 M31 => ?_)
  refine B_chk (fun t33 => ?_)
  refine K_getI 7 0 1400 lf_PF_281 rfl rfl t33 ?_
  refine B_chk (fun t34 => ?_)
  refine K_iast t34 (fun M36 e35 => ?_)
  refine B_aload_n rfl ?_
  refine B_chk (fun t37 => ?_)
  refine K_getR 10 17 2017 lf_PF_64 rfl rfl t37 (fun a38 r39 => ?_)
  refine B_aload_n rfl ?_
  refine K_getI 10 18 2018 lf_PF_120 rfl rfl t37 ?_
  refine B_chk (fun t40 => ?_)
  refine K_aald 23 rfl t40 (fun a41 => ?_)
  refine B_aload rfl ?_
  refine B_chk (fun t42 => ?_)
  refine K_getR 8 4 1604 lf_PF_236 rfl rfl t42 (fun a43 r44 => ?_)
  refine B_chk (fun t45 => ?_)
  refine C_V (vs := [.ref a41, .ref a43]) (st := []) (ci_V lv_PF_254 rfl rfl t45) rfl rfl rfl (s_Rect_be2 a41 a43 M36) (fun M46 => ?_)
  refine B_aload_n rfl ?_
  refine B_dup rfl ?_
  refine B_chk (fun t47 => ?_)
  refine K_getI 10 18 2018 lf_PF_120 rfl rfl t47 ?_
  refine B_iconst (1 : Int32) ic_1 ?_
  refine B_iadd ?_
  refine K_putI 10 18 2018 lf_PF_120 rfl (Or.inl rfl) rfl t47 (fun M49 e48 => ?_)
  exact B_uret rfl
set_option maxRecDepth 100000 in
def b_PF_child_51 (G : GT) (l0 : Nat) (l1 : Int32) (l2 : Int32) (l3 : Int32) (s0 : Nat) (s1 : Int32) (M : PH) : Option (Nat × PH) :=
  if hT M s0 = 10 then bU (f_PF_may G s0 s1 M) fun M2 => (if hT M2 l0 = 10 then bI (f_PF_idOf G l0 l1 M2) fun v5 M4 => (if hT M4 l0 = 10 then bR (f_PF_layout G l0 M4) fun a8 M7 => (if hT M7 l0 = 10 then (hR M7 2020 l0).bind fun a10 => if hT M7 a8 = 5 then bV (f_Layout_put G a8 a10 l2 l3 M7) fun M13 => (if hT M13 l0 = 10 then (hR M13 2002 l0).bind fun a15 => if hT M13 a15 = 9 then bV (f_Att_tell G a15 v5 M13) fun M18 => (if hT M18 l0 = 10 then bV (f_PF_draw G l0 v5 M18) fun M20 => (if hT M20 l0 = 10 then (hR M20 2015 l0).bind fun a22 => if hT M20 a22 = 22 then if ib (hI M20 2018 l0) (hN M20 a22) = true then (hX M20 a22 (hI M20 2018 l0).toNatClampNeg).bind fun a25 => (if hT M20 a25 = 6 then if ¬ hI M20 2019 l0 = hI M20 2018 l0 then (b_PF_child_132 G l0 l3 v5 a25 a25 (hI M20 1200 a25) (0 : Int32) M20) else ((hR M20 2000 l0).bind fun a27 => if hT M20 a27 = 2 then b_PF_child_132 G l0 l3 v5 a25 a25 (hI M20 1200 a25) ((10 : Int32) * (hI M20 407 a27)) M20 else none) else none) else none else none else none) else none) else none else none) else none else none) else none) else none) else none
set_option maxRecDepth 100000 in
set_option maxHeartbeats 4000000 in
theorem t_PF_child_51 {G : GT} (l0 : Nat) (l1 : Int32) (l2 : Int32) (l3 : Int32) (s0 : Nat) (s1 : Int32) (M : PH) : VX G mi_PF_child 8 109 51 [some (.ref l0), some (.int l1), some (.int l2), some (.int l3), none, none, none] [.int s1, .ref s0] M qU (b_PF_child_51 G l0 l1 l2 l3 s0 s1 M) := by
  unfold b_PF_child_51
  refine V_open ok_PF_child_51 ?_
  refine B_chk (fun t1 => ?_)
  refine C_U (vs := [.ref s0, .int s1]) (st := []) rfl (ci_V lv_PF_130 rfl rfl t1) rfl rfl rfl (s_PF_may s0 s1 M) (fun M2 => ?_)
  refine B_aload_n rfl ?_
  refine B_iload_n rfl ?_
  refine B_chk (fun t3 => ?_)
  refine C_I (vs := [.ref l0, .int l1]) (st := []) (ci_V lv_PF_378 rfl rfl t3) rfl rfl rfl (s_PF_idOf l0 l1 M2) (fun v5 M4 => ?_)
  refine S_i [some (.ref l0), some (.int l1), some (.int l2), some (.int l3), some (.int v5), none, none] (by decide) rfl ?_
  refine B_aload_n rfl ?_
  refine B_chk (fun t6 => ?_)
  refine C_R (vs := [.ref l0]) (st := []) (ci_V lv_PF_245 rfl rfl t6) rfl rfl rfl (s_PF_layout l0 M4) (fun a8 M7 => ?_)
  refine B_aload_n rfl ?_
  refine B_chk (fun t9 => ?_)
  refine K_getR 10 20 2020 lf_PF_72 rfl rfl t9 (fun a10 r11 => ?_)
  refine B_iload_n rfl ?_
  refine B_iload_n rfl ?_
  refine B_chk (fun t12 => ?_)
  refine C_V (vs := [.ref a8, .ref a10, .int l2, .int l3]) (st := []) (ci_V lv_PF_343 rfl rfl t12) rfl rfl rfl (s_Layout_put a8 a10 l2 l3 M7) (fun M13 => ?_)
  refine B_aload_n rfl ?_
  refine B_chk (fun t14 => ?_)
  refine K_getR 10 2 2002 lf_PF_26 rfl rfl t14 (fun a15 r16 => ?_)
  refine B_iload rfl ?_
  refine B_chk (fun t17 => ?_)
  refine C_V (vs := [.ref a15, .int v5]) (st := []) (ci_V lv_PF_279 rfl rfl t17) rfl rfl rfl (s_Att_tell a15 v5 M13) (fun M18 => ?_)
  refine B_aload_n rfl ?_
  refine B_iload rfl ?_
  refine B_chk (fun t19 => ?_)
  refine C_V (vs := [.ref l0, .int v5]) (st := []) (ci_V lv_PF_385 rfl rfl t19) rfl rfl rfl (s_PF_draw l0 v5 M18) (fun M20 => ?_)
  refine B_aload_n rfl ?_
  refine B_chk (fun t21 => ?_)
  refine K_getR 10 15 2015 lf_PF_55 rfl rfl t21 (fun a22 r23 => ?_)
  refine B_aload_n rfl ?_
  refine K_getI 10 18 2018 lf_PF_120 rfl rfl t21 ?_
  refine B_chk (fun t24 => ?_)
  refine K_aald 22 rfl t24 (fun a25 => ?_)
  refine S_a [some (.ref l0), some (.int l1), some (.int l2), some (.int l3), some (.int v5), some (.ref a25), none] (by decide) rfl ?_
  refine B_aload rfl ?_
  refine B_aload rfl ?_
  refine B_chk (fun t26 => ?_)
  refine K_getI 6 0 1200 lf_PF_295 rfl rfl t26 ?_
  refine B_aload_n rfl ?_
  refine K_getI 10 19 2019 lf_PF_68 rfl rfl t21 ?_
  refine B_aload_n rfl ?_
  refine K_getI 10 18 2018 lf_PF_120 rfl rfl t21 ?_
  refine B_ine (tgt := 131) (by decide) ?_ ?_
  · skip
    refine V_open ok_PF_child_131 ?_
    refine B_iconst (0 : Int32) ic_0 ?_
    refine V_close ?_
    exact V_weak (ls' := [some (.ref l0), none, none, some (.int l3), some (.int v5), some (.ref a25), none]) ⟨rfl, ⟨rfl, ⟨rfl, ⟨rfl, trivial⟩⟩⟩⟩ (t_PF_child_132 l0 l3 v5 a25 a25 (hI M20 1200 a25) (0 : Int32) M20)
  · skip
    refine B_bipush (10 : Int32) bp_10 ?_
    refine B_aload_n rfl ?_
    refine K_getR 10 0 2000 lf_PF_10 rfl rfl t21 (fun a27 r28 => ?_)
    refine B_chk (fun t29 => ?_)
    refine K_getI 2 7 407 lf_PF_298 rfl rfl t29 ?_
    refine B_imul ?_
    refine B_goto (tgt := 132) (by decide) ?_
    exact V_weak (ls' := [some (.ref l0), none, none, some (.int l3), some (.int v5), some (.ref a25), none]) ⟨rfl, ⟨rfl, ⟨rfl, ⟨rfl, trivial⟩⟩⟩⟩ (t_PF_child_132 l0 l3 v5 a25 a25 (hI M20 1200 a25) ((10 : Int32) * (hI M20 407 a27)) M20)
set_option maxRecDepth 100000 in
def b_PF_child_50 (G : GT) (l0 : Nat) (l1 : Int32) (l2 : Int32) (l3 : Int32) (s0 : Nat) (M : PH) : Option (Nat × PH) :=
  b_PF_child_51 G l0 l1 l2 l3 s0 (0 : Int32) M
set_option maxRecDepth 100000 in
set_option maxHeartbeats 4000000 in
theorem t_PF_child_50 {G : GT} (l0 : Nat) (l1 : Int32) (l2 : Int32) (l3 : Int32) (s0 : Nat) (M : PH) : VX G mi_PF_child 8 109 50 [some (.ref l0), some (.int l1), some (.int l2), some (.int l3), none, none, none] [.ref s0] M qU (b_PF_child_50 G l0 l1 l2 l3 s0 M) := by
  unfold b_PF_child_50
  refine V_open ok_PF_child_50 ?_
  refine B_iconst (0 : Int32) ic_0 ?_
  refine V_close ?_
  exact V_weak (ls' := [some (.ref l0), some (.int l1), some (.int l2), some (.int l3), none, none, none]) ⟨rfl, ⟨rfl, ⟨rfl, ⟨rfl, trivial⟩⟩⟩⟩ (t_PF_child_51 l0 l1 l2 l3 s0 (0 : Int32) M)
set_option maxRecDepth 100000 in
def b_PF_child_17 (G : GT) (l0 : Nat) (l1 : Int32) (l2 : Int32) (l3 : Int32) (s0 : Int32) (M : PH) : Option (Nat × PH) :=
  bU (f_PF_want G s0 M) fun M1 => (if hT M1 l0 = 10 then bU (f_PF_wantItem G l0 l1 l2 (1 : Int32) M1) fun M3 => (if hT M3 l0 = 10 then if (40 : Int32) ≤ hI M3 2006 l0 then (b_PF_child_50 G l0 l1 l2 l3 l0 M3) else (if (8 : Int32) ≤ hI M3 2018 l0 then (b_PF_child_50 G l0 l1 l2 l3 l0 M3) else (b_PF_child_51 G l0 l1 l2 l3 l0 (1 : Int32) M3)) else none) else none)
set_option maxRecDepth 100000 in
set_option maxHeartbeats 4000000 in
theorem t_PF_child_17 {G : GT} (l0 : Nat) (l1 : Int32) (l2 : Int32) (l3 : Int32) (s0 : Int32) (M : PH) : VX G mi_PF_child 8 109 17 [some (.ref l0), some (.int l1), some (.int l2), some (.int l3), none, none, none] [.int s0] M qU (b_PF_child_17 G l0 l1 l2 l3 s0 M) := by
  unfold b_PF_child_17
  refine V_open ok_PF_child_17 ?_
  refine C_U (vs := [.int s0]) (st := []) rfl (ci_S ls_PF_260 rfl) rfl rfl rfl (s_PF_want s0 M) (fun M1 => ?_)
  refine B_aload_n rfl ?_
  refine B_iload_n rfl ?_
  refine B_iload_n rfl ?_
  refine B_iconst (1 : Int32) ic_1 ?_
  refine B_chk (fun t2 => ?_)
  refine C_U (vs := [.ref l0, .int l1, .int l2, .int (1 : Int32)]) (st := []) rfl (ci_V lv_PF_374 rfl rfl t2) rfl rfl rfl (s_PF_wantItem l0 l1 l2 (1 : Int32) M1) (fun M3 => ?_)
  refine B_aload_n rfl ?_
  refine B_aload_n rfl ?_
  refine B_chk (fun t4 => ?_)
  refine K_getI 10 6 2006 lf_PF_114 rfl rfl t4 ?_
  refine B_bipush (40 : Int32) bp_40 ?_
  refine B_ige (tgt := 50) (by decide) ?_ ?_
  · skip
    exact V_weak (ls' := [some (.ref l0), some (.int l1), some (.int l2), some (.int l3), none, none, none]) ⟨rfl, ⟨rfl, ⟨rfl, ⟨rfl, trivial⟩⟩⟩⟩ (t_PF_child_50 l0 l1 l2 l3 l0 M3)
  · skip
    refine B_aload_n rfl ?_
    refine K_getI 10 18 2018 lf_PF_120 rfl rfl t4 ?_
    refine B_bipush (8 : Int32) bp_8 ?_
    refine B_ige (tgt := 50) (by decide) ?_ ?_
    · skip
      exact V_weak (ls' := [some (.ref l0), some (.int l1), some (.int l2), some (.int l3), none, none, none]) ⟨rfl, ⟨rfl, ⟨rfl, ⟨rfl, trivial⟩⟩⟩⟩ (t_PF_child_50 l0 l1 l2 l3 l0 M3)
    · skip
      refine B_iconst (1 : Int32) ic_1 ?_
      refine B_goto (tgt := 51) (by decide) ?_
      exact V_weak (ls' := [some (.ref l0), some (.int l1), some (.int l2), some (.int l3), none, none, none]) ⟨rfl, ⟨rfl, ⟨rfl, ⟨rfl, trivial⟩⟩⟩⟩ (t_PF_child_51 l0 l1 l2 l3 l0 (1 : Int32) M3)
set_option maxRecDepth 100000 in
def b_PF_child_16 (G : GT) (l0 : Nat) (l1 : Int32) (l2 : Int32) (l3 : Int32) (M : PH) : Option (Nat × PH) :=
  b_PF_child_17 G l0 l1 l2 l3 (0 : Int32) M
set_option maxRecDepth 100000 in
set_option maxHeartbeats 4000000 in
theorem t_PF_child_16 {G : GT} (l0 : Nat) (l1 : Int32) (l2 : Int32) (l3 : Int32) (M : PH) : VX G mi_PF_child 8 109 16 [some (.ref l0), some (.int l1), some (.int l2), some (.int l3), none, none, none] [] M qU (b_PF_child_16 G l0 l1 l2 l3 M) := by
  unfold b_PF_child_16
  refine V_open ok_PF_child_16 ?_
  refine B_iconst (0 : Int32) ic_0 ?_
  refine V_close ?_
  exact V_weak (ls' := [some (.ref l0), some (.int l1), some (.int l2), some (.int l3), none, none, none]) ⟨rfl, ⟨rfl, ⟨rfl, ⟨rfl, trivial⟩⟩⟩⟩ (t_PF_child_17 l0 l1 l2 l3 (0 : Int32) M)
set_option maxRecDepth 100000 in
def f_PF_child (G : GT) (l0 : Nat) (l1 : Int32) (l2 : Int32) (l3 : Int32) (M : PH) : Option (Nat × PH) :=
  if l3 < (1 : Int32) then (b_PF_child_16 G l0 l1 l2 l3 M) else (if (200 : Int32) < l3 then (b_PF_child_16 G l0 l1 l2 l3 M) else (b_PF_child_17 G l0 l1 l2 l3 (1 : Int32) M))
set_option maxRecDepth 100000 in
set_option maxHeartbeats 4000000 in
theorem s_PF_child {G : GT} (l0 : Nat) (l1 : Int32) (l2 : Int32) (l3 : Int32) (M : PH) : VX G mi_PF_child 8 109 0 [some (.ref l0), some (.int l1), some (.int l2), some (.int l3), none, none, none] [] M qU (f_PF_child G l0 l1 l2 l3 M) := by
  unfold f_PF_child
  refine V_open ok_PF_child_0 ?_
  refine B_iload_n rfl ?_
  refine B_iconst (1 : Int32) ic_1 ?_
  refine B_ilt (tgt := 16) (by decide) ?_ ?_
  · skip
    exact V_weak (ls' := [some (.ref l0), some (.int l1), some (.int l2), some (.int l3), none, none, none]) ⟨rfl, ⟨rfl, ⟨rfl, ⟨rfl, trivial⟩⟩⟩⟩ (t_PF_child_16 l0 l1 l2 l3 M)
  · skip
    refine B_iload_n rfl ?_
    refine B_sipush (200 : Int32) sp_200 ?_
    refine B_igt (tgt := 16) (by decide) ?_ ?_
    · skip
      exact V_weak (ls' := [some (.ref l0), some (.int l1), some (.int l2), some (.int l3), none, none, none]) ⟨rfl, ⟨rfl, ⟨rfl, ⟨rfl, trivial⟩⟩⟩⟩ (t_PF_child_16 l0 l1 l2 l3 M)
    · skip
      refine B_iconst (1 : Int32) ic_1 ?_
      refine B_goto (tgt := 17) (by decide) ?_
      exact V_weak (ls' := [some (.ref l0), some (.int l1), some (.int l2), some (.int l3), none, none, none]) ⟨rfl, ⟨rfl, ⟨rfl, ⟨rfl, trivial⟩⟩⟩⟩ (t_PF_child_17 l0 l1 l2 l3 (1 : Int32) M)

-- Law_child
theorem ok_Law_child_0 : okb method_14_code 0 [(.aload_n 0, 1), (.iload_n 1, 1), (.iload_n 2, 1), (.iload_n 3, 1), (.invokevirtual 54, 3), (.goto 11, 3)] = true := by decide +kernel
theorem ok_Law_child_10 : okb method_14_code 10 [(.astore 4, 2), (.iconst 1, 1), (.ireturn, 1)] = true := by decide +kernel
theorem ok_Law_child_14 : okb method_14_code 14 [(.astore 4, 2), (.iconst 2, 1), (.ireturn, 1)] = true := by decide +kernel
theorem ok_Law_child_18 : okb method_14_code 18 [(.iconst 0, 1), (.ireturn, 1)] = true := by decide +kernel
set_option maxRecDepth 100000 in
def f_Law_child (G : GT) (l0 : Nat) (l1 : Int32) (l2 : Int32) (l3 : Int32) (M : PH) : Option (Int32 × PH) :=
  if hT M l0 = 10 then bG2 (f_PF_child G l0 l1 l2 l3 M) (fun M2 => some ((0 : Int32), M2)) (fun M2 => some ((1 : Int32), M2)) (fun M2 => some ((2 : Int32), M2)) else none
set_option maxRecDepth 100000 in
set_option maxHeartbeats 4000000 in
theorem s_Law_child {G : GT} (l0 : Nat) (l1 : Int32) (l2 : Int32) (l3 : Int32) (M : PH) : VX G mi_Law_child 9 127 0 [some (.ref l0), some (.int l1), some (.int l2), some (.int l3), none] [] M qI (f_Law_child G l0 l1 l2 l3 M) := by
  unfold f_Law_child
  refine V_open ok_Law_child_0 ?_
  refine B_aload_n rfl ?_
  refine B_iload_n rfl ?_
  refine B_iload_n rfl ?_
  refine B_iload_n rfl ?_
  refine B_chk (fun t1 => ?_)
  refine C_G2 (vs := [.ref l0, .int l1, .int l2, .int l3]) (st := []) 7 10 22 14 13 (by decide) rfl lh_Law_22 lh_Law_13 (ci_V lv_Law_54 rfl rfl t1) rfl rfl rfl (s_PF_child l0 l1 l2 l3 M) (fun M2 => ?_) (fun ah M2 => ?_) (fun ah M2 => ?_)
  · skip
    refine B_goto (tgt := 18) (by decide) ?_
    refine V_open ok_Law_child_18 ?_
    refine B_iconst (0 : Int32) ic_0 ?_
    exact B_iret rfl
  · skip
    refine V_open ok_Law_child_10 ?_
    refine S_a [some (.ref l0), some (.int l1), some (.int l2), some (.int l3), some (.ref ah)] (by decide) rfl ?_
    refine B_iconst (1 : Int32) ic_1 ?_
    exact B_iret rfl
  · skip
    refine V_open ok_Law_child_14 ?_
    refine S_a [some (.ref l0), some (.int l1), some (.int l2), some (.int l3), some (.ref ah)] (by decide) rfl ?_
    refine B_iconst (2 : Int32) ic_2 ?_
    exact B_iret rfl

-- Mo_child
theorem ok_Mo_child_0 : okb prog_13_method_58_code 0 [(.aload_n 0, 1), (.aload_n 0, 1), (.iload_n 1, 1), (.invokevirtual 343, 3), (.ifCond .eq 31, 3), (.iload_n 2, 1), (.iconst 1, 1), (.if_icmp .lt 26, 3), (.iload_n 2, 1), (.sipush 200, 3), (.if_icmp .gt 19, 3), (.iload_n 3, 1), (.iconst 1, 1), (.if_icmp .lt 14, 3), (.iload_n 3, 1), (.sipush 200, 3), (.if_icmp .gt 7, 3), (.iconst 1, 1), (.goto 4, 3)] = true := by decide +kernel
theorem ok_Mo_child_37 : okb prog_13_method_58_code 37 [(.iconst 0, 1)] = true := by decide +kernel
theorem ok_Mo_child_38 : okb prog_13_method_58_code 38 [(.invokevirtual 371, 3), (.ifCond .eq 4, 3), (.return_, 1)] = true := by decide +kernel
theorem ok_Mo_child_45 : okb prog_13_method_58_code 45 [(.aload_n 0, 1), (.getfield 279, 3), (.bipush 40, 2), (.if_icmp .eq 12, 3), (.aload_n 0, 1), (.getfield 246, 3), (.bipush 8, 2), (.if_icmp .ne 10, 3)] = true := by decide +kernel
theorem ok_Mo_child_63 : okb prog_13_method_58_code 63 [(.aload_n 0, 1), (.iconst 2, 1), (.invokevirtual 297, 3), (.pop, 1), (.return_, 1)] = true := by decide +kernel
theorem ok_Mo_child_70 : okb prog_13_method_58_code 70 [(.aload_n 0, 1), (.iload_n 1, 1), (.iload_n 2, 1), (.iload_n 3, 1), (.invokevirtual 375, 3), (.istore 4, 2), (.aload_n 0, 1), (.iload 4, 2), (.invokevirtual 381, 3), (.aload_n 0, 1), (.getfield 246, 3), (.istore 5, 2), (.aload_n 0, 1), (.dup, 1), (.getfield 246, 3), (.iconst 1, 1), (.iadd, 1), (.putfield 246, 3), (.iload 5, 2), (.aload_n 0, 1), (.getfield 90, 3), (.if_icmp .ne 20, 3), (.aload_n 0, 1), (.getfield 84, 3), (.iload 5, 2), (.dup2, 1), (.iaload, 1), (.bipush 10, 2), (.aload_n 0, 1), (.getfield 214, 3), (.imul, 1), (.iadd, 1), (.iastore, 1)] = true := by decide +kernel
theorem ok_Mo_child_127 : okb prog_13_method_58_code 127 [(.aload_n 0, 1), (.getfield 84, 3), (.iload 5, 2), (.aload_n 0, 1), (.getfield 84, 3), (.iload 5, 2), (.iaload, 1), (.iconst 0, 1), (.iconst 0, 1), (.aload_n 0, 1), (.getfield 87, 3), (.iload 5, 2), (.iaload, 1), (.iload_n 3, 1), (.isub, 1), (.invokestatic 182, 3), (.invokestatic 327, 3), (.iastore, 1), (.aload_n 0, 1), (.iconst 1, 1), (.aload_n 0, 1), (.aload_n 0, 1), (.getfield 150, 3), (.iconst 0, 1), (.iaload, 1), (.iconst 2, 1), (.iadd, 1), (.aload_n 0, 1), (.getfield 150, 3), (.iconst 1, 1), (.iaload, 1), (.iconst 2, 1), (.iadd, 1), (.aload_n 0, 1), (.getfield 84, 3), (.iload 5, 2), (.iaload, 1), (.isub, 1), (.invokevirtual 331, 3), (.iload 5, 2), (.invokevirtual 334, 3), (.aload_n 0, 1), (.iload 4, 2), (.invokevirtual 337, 3), (.aload_n 0, 1), (.getfield 147, 3), (.iconst 0, 1), (.aload_n 0, 1), (.getfield 147, 3), (.iconst 0, 1), (.iaload, 1), (.aload_n 0, 1), (.getfield 150, 3), (.iconst 0, 1), (.iaload, 1), (.invokestatic 182, 3), (.iastore, 1), (.aload_n 0, 1), (.getfield 147, 3), (.iconst 1, 1), (.aload_n 0, 1), (.getfield 147, 3), (.iconst 1, 1), (.iaload, 1), (.aload_n 0, 1), (.getfield 150, 3), (.iconst 1, 1), (.iaload, 1), (.invokestatic 182, 3), (.iastore, 1), (.aload_n 0, 1), (.getfield 147, 3), (.iconst 2, 1), (.aload_n 0, 1), (.getfield 147, 3), (.iconst 2, 1), (.iaload, 1), (.aload_n 0, 1), (.getfield 150, 3), (.iconst 2, 1), (.iaload, 1), (.invokestatic 178, 3), (.iastore, 1), (.aload_n 0, 1), (.getfield 147, 3), (.iconst 3, 1), (.aload_n 0, 1), (.getfield 147, 3), (.iconst 3, 1), (.iaload, 1), (.aload_n 0, 1), (.getfield 150, 3), (.iconst 3, 1), (.iaload, 1), (.invokestatic 178, 3), (.iastore, 1), (.aload_n 0, 1), (.getfield 72, 3), (.iload 5, 2), (.aload_n 0, 1), (.getfield 144, 3), (.iastore, 1), (.iconst 0, 1), (.istore 6, 2)] = true := by decide +kernel
theorem ok_Mo_child_297 : okb prog_13_method_58_code 297 [(.iload 6, 2), (.iconst 4, 1), (.if_icmp .ge 28, 3), (.aload_n 0, 1), (.getfield 75, 3), (.iconst 4, 1), (.iload 5, 2), (.imul, 1), (.iload 6, 2), (.iadd, 1), (.aload_n 0, 1), (.getfield 147, 3), (.iload 6, 2), (.iaload, 1), (.iastore, 1), (.iinc 6 1, 3), (.goto (-28), 3)] = true := by decide +kernel
theorem ok_Mo_child_328 : okb prog_13_method_58_code 328 [(.return_, 1)] = true := by decide +kernel
set_option maxRecDepth 100000 in
def b_Mo_child_63 (G : GT) (l0 : Nat) (M : PH) : Option (PH) :=
  if hT M l0 = 11 then bI (f_Mo_fails G l0 (2 : Int32) M) fun v3 M2 => (some M2) else none
set_option maxRecDepth 100000 in
set_option maxHeartbeats 4000000 in
theorem t_Mo_child_63 {G : GT} (l0 : Nat) (M : PH) : VX G mi_Mo_child 4 68 63 [some (.ref l0), none, none, none, none, none, none] [] M qV (b_Mo_child_63 G l0 M) := by
  unfold b_Mo_child_63
  refine V_open ok_Mo_child_63 ?_
  refine B_aload_n rfl ?_
  refine B_iconst (2 : Int32) ic_2 ?_
  refine B_chk (fun t1 => ?_)
  refine C_I (vs := [.ref l0, .int (2 : Int32)]) (st := []) (ci_V lv_Mo_297 rfl rfl t1) rfl rfl rfl (s_Mo_fails l0 (2 : Int32) M) (fun v3 M2 => ?_)
  refine B_pop rfl ?_
  exact B_vret rfl
set_option maxRecDepth 100000 in
def b_Mo_child_297 (G : GT) (k297 : Nat → Int32 → Int32 → PH → Option (PH)) (l0 : Nat) (l5 : Int32) (l6 : Int32) (M : PH) : Option (PH) :=
  if (4 : Int32) ≤ l6 then (some M) else (if hT M l0 = 11 then (hR M 2243 l0).bind fun a2 => (hR M 2272 l0).bind fun a4 => if hT M a4 = 16 then if ib l6 (hN M a4) = true then if hT M a2 = 16 then if ib (((4 : Int32) * l5) + l6) (hN M a2) = true then hb (sA M a2 (((4 : Int32) * l5) + l6).toNatClampNeg (hA M a4 l6.toNatClampNeg)) fun M9 => (k297 l0 l5 (l6 + (1 : Int32)) M9) else none else none else none else none else none)
set_option maxRecDepth 100000 in
set_option maxHeartbeats 4000000 in
theorem t_Mo_child_297 {G : GT} {k297 : Nat → Int32 → Int32 → PH → Option (PH)} (hk297 : ∀ (l0 : Nat) (l5 : Int32) (l6 : Int32) (M : PH), VX G mi_Mo_child 4 68 297 [some (.ref l0), none, none, none, none, some (.int l5), some (.int l6)] [] M qV (k297 l0 l5 l6 M)) (l0 : Nat) (l5 : Int32) (l6 : Int32) (M : PH) : VX G mi_Mo_child 4 68 297 [some (.ref l0), none, none, none, none, some (.int l5), some (.int l6)] [] M qV (b_Mo_child_297 G k297 l0 l5 l6 M) := by
  unfold b_Mo_child_297
  refine V_open ok_Mo_child_297 ?_
  refine B_iload rfl ?_
  refine B_iconst (4 : Int32) ic_4 ?_
  refine B_ige (tgt := 328) (by decide) ?_ ?_
  · skip
    refine V_open ok_Mo_child_328 ?_
    exact B_vret rfl
  · skip
    refine B_aload_n rfl ?_
    refine B_chk (fun t1 => ?_)
    refine K_getR 11 43 2243 lf_Mo_75 rfl rfl t1 (fun a2 r3 => ?_)
    refine B_iconst (4 : Int32) ic_4 ?_
    refine B_iload rfl ?_
    refine B_imul ?_
    refine B_iload rfl ?_
    refine B_iadd ?_
    refine B_aload_n rfl ?_
    refine K_getR 11 72 2272 lf_Mo_147 rfl rfl t1 (fun a4 r5 => ?_)
    refine B_iload rfl ?_
    refine B_chk (fun t6 => ?_)
    refine K_iald t6 ?_
    refine B_chk (fun t7 => ?_)
    refine K_iast t7 (fun M9 e8 => ?_)
    refine S_inc (1 : Int32) [some (.ref l0), none, none, none, none, some (.int l5), some (.int (l6 + (1 : Int32)))] ic_1 rfl (by decide) rfl ?_
    refine B_goto (tgt := 297) (by decide) ?_
    exact V_weak (ls' := [some (.ref l0), none, none, none, none, some (.int l5), some (.int (l6 + (1 : Int32)))]) ⟨rfl, ⟨rfl, ⟨rfl, trivial⟩⟩⟩ (hk297 l0 l5 (l6 + (1 : Int32)) M9)
set_option maxRecDepth 100000 in
def w_Mo_child_297 (G : GT) : Nat → Nat → Int32 → Int32 → PH → Option (PH)
  | 0 => fun _ _ _ _ => none
  | n + 1 => b_Mo_child_297 G (w_Mo_child_297 G n)
set_option maxRecDepth 100000 in
set_option maxHeartbeats 4000000 in
theorem tw_Mo_child_297 {G : GT} : ∀ (n : Nat) (l0 : Nat) (l5 : Int32) (l6 : Int32) (M : PH), VX G mi_Mo_child 4 68 297 [some (.ref l0), none, none, none, none, some (.int l5), some (.int l6)] [] M qV (w_Mo_child_297 G n l0 l5 l6 M)
  | 0, _, _, _, _ => X_none
  | n + 1, l0, l5, l6, M => t_Mo_child_297 (tw_Mo_child_297 n) l0 l5 l6 M
set_option maxRecDepth 100000 in
def b_Mo_child_127 (G : GT) (l0 : Nat) (l3 : Int32) (l4 : Int32) (l5 : Int32) (M : PH) : Option (PH) :=
  if hT M l0 = 11 then (hR M 2246 l0).bind fun a2 => if hT M a2 = 16 then if ib l5 (hN M a2) = true then (hR M 2247 l0).bind fun a5 => if hT M a5 = 16 then if ib l5 (hN M a5) = true then bI (f_Mo_max G (0 : Int32) ((hA M a5 l5.toNatClampNeg) - l3) M) fun v9 M8 => (bI (f_Mo_between G (hA M a2 l5.toNatClampNeg) (0 : Int32) v9 M8) fun v11 M10 => (if hT M10 a2 = 16 then if ib l5 (hN M10 a2) = true then hb (sA M10 a2 l5.toNatClampNeg v11) fun M14 => (if hT M14 l0 = 11 then (hR M14 2273 l0).bind fun a16 => if hT M14 a16 = 16 then if 0 < hN M14 a16 then if 1 < hN M14 a16 then (hR M14 2246 l0).bind fun a19 => if hT M14 a19 = 16 then if ib l5 (hN M14 a19) = true then bI (f_Mo_area G l0 ((hA M14 a16 0) + (2 : Int32)) (((hA M14 a16 1) + (2 : Int32)) - (hA M14 a19 l5.toNatClampNeg)) M14) fun v23 M22 => (if hT M22 l0 = 11 then bV (f_Mo_openThing G l0 (1 : Int32) v23 l5 M22) fun M25 => (if hT M25 l0 = 11 then bV (f_Mo_push G l0 l4 M25) fun M27 => (if hT M27 l0 = 11 then (hR M27 2272 l0).bind fun a29 => if hT M27 a29 = 16 then if 0 < hN M27 a29 then (hR M27 2273 l0).bind fun a32 => if hT M27 a32 = 16 then if 0 < hN M27 a32 then bI (f_Mo_max G (hA M27 a29 0) (hA M27 a32 0) M27) fun v36 M35 => (if hT M35 a29 = 16 then if 0 < hN M35 a29 then hb (sA M35 a29 0 v36) fun M39 => (if hT M39 l0 = 11 then (hR M39 2272 l0).bind fun a41 => if hT M39 a41 = 16 then if 1 < hN M39 a41 then (hR M39 2273 l0).bind fun a44 => if hT M39 a44 = 16 then if 1 < hN M39 a44 then bI (f_Mo_max G (hA M39 a41 1) (hA M39 a44 1) M39) fun v48 M47 => (if hT M47 a41 = 16 then if 1 < hN M47 a41 then hb (sA M47 a41 1 v48) fun M51 => (if hT M51 l0 = 11 then (hR M51 2272 l0).bind fun a53 => if hT M51 a53 = 16 then if 2 < hN M51 a53 then (hR M51 2273 l0).bind fun a56 => if hT M51 a56 = 16 then if 2 < hN M51 a56 then bI (f_Mo_min G (hA M51 a53 2) (hA M51 a56 2) M51) fun v60 M59 => (if hT M59 a53 = 16 then if 2 < hN M59 a53 then hb (sA M59 a53 2 v60) fun M63 => (if hT M63 l0 = 11 then (hR M63 2272 l0).bind fun a65 => if hT M63 a65 = 16 then if 3 < hN M63 a65 then (hR M63 2273 l0).bind fun a68 => if hT M63 a68 = 16 then if 3 < hN M63 a68 then bI (f_Mo_min G (hA M63 a65 3) (hA M63 a68 3) M63) fun v72 M71 => (if hT M71 a65 = 16 then if 3 < hN M71 a65 then hb (sA M71 a65 3 v72) fun M75 => (if hT M75 l0 = 11 then (hR M75 2242 l0).bind fun a77 => if hT M75 a77 = 16 then if ib l5 (hN M75 a77) = true then hb (sA M75 a77 l5.toNatClampNeg (hI M75 2271 l0)) fun M81 => (w_Mo_child_297 G FU l0 l5 (0 : Int32) M81) else none else none else none) else none else none) else none else none else none else none else none) else none else none) else none else none else none else none else none) else none else none) else none else none else none else none else none) else none else none) else none else none else none else none else none) else none) else none) else none else none else none else none else none else none) else none else none)) else none else none else none else none else none
set_option maxRecDepth 100000 in
set_option maxHeartbeats 4000000 in
theorem t_Mo_child_127 {G : GT} (l0 : Nat) (l3 : Int32) (l4 : Int32) (l5 : Int32) (M : PH) : VX G mi_Mo_child 4 68 127 [some (.ref l0), none, none, some (.int l3), some (.int l4), some (.int l5), none] [] M qV (b_Mo_child_127 G l0 l3 l4 l5 M) := by
  unfold b_Mo_child_127
  refine V_open ok_Mo_child_127 ?_
  refine B_aload_n rfl ?_
  refine B_chk (fun t1 => ?_)
  refine K_getR 11 46 2246 lf_Mo_84 rfl rfl t1 (fun a2 r3 => ?_)
  refine B_iload rfl ?_
  refine B_aload_n rfl ?_
  refine K_getRk 11 46 2246 lf_Mo_84 rfl rfl t1 r3 ?_
  refine B_iload rfl ?_
  refine B_chk (fun t4 => ?_)
  refine K_iald t4 ?_
  refine B_iconst (0 : Int32) ic_0 ?_
  refine B_iconst (0 : Int32) ic_0 ?_
  refine B_aload_n rfl ?_
  refine K_getR 11 47 2247 lf_Mo_87 rfl rfl t1 (fun a5 r6 => ?_)
  refine B_iload rfl ?_
  refine B_chk (fun t7 => ?_)
  refine K_iald t7 ?_
  refine B_iload_n rfl ?_
  refine B_isub ?_
  refine C_I (vs := [.int (0 : Int32), .int ((hA M a5 l5.toNatClampNeg) - l3)]) (st := [.int (0 : Int32), .int (hA M a2 l5.toNatClampNeg), .int l5, .ref a2]) (ci_S ls_Mo_182 rfl) rfl rfl rfl (s_Mo_max (0 : Int32) ((hA M a5 l5.toNatClampNeg) - l3) M) (fun v9 M8 => ?_)
  refine C_I (vs := [.int (hA M a2 l5.toNatClampNeg), .int (0 : Int32), .int v9]) (st := [.int l5, .ref a2]) (ci_S ls_Mo_327 rfl) rfl rfl rfl (s_Mo_between (hA M a2 l5.toNatClampNeg) (0 : Int32) v9 M8) (fun v11 M10 => ?_)
  refine B_chk (fun t12 => ?_)
  refine K_iast t12 (fun M14 e13 => ?_)
  refine B_aload_n rfl ?_
  refine B_iconst (1 : Int32) ic_1 ?_
  refine B_aload_n rfl ?_
  refine B_aload_n rfl ?_
  refine B_chk (fun t15 => ?_)
  refine K_getR 11 73 2273 lf_Mo_150 rfl rfl t15 (fun a16 r17 => ?_)
  refine B_iconst (0 : Int32) ic_0 ?_
  refine B_chk (fun t18 => ?_)
  refine K_ialdc 0 rfl t18 ?_
  refine B_iconst (2 : Int32) ic_2 ?_
  refine B_iadd ?_
  refine B_aload_n rfl ?_
  refine K_getRk 11 73 2273 lf_Mo_150 rfl rfl t15 r17 ?_
  refine B_iconst (1 : Int32) ic_1 ?_
  refine K_ialdc 1 rfl t18 ?_
  refine B_iconst (2 : Int32) ic_2 ?_
  refine B_iadd ?_
  refine B_aload_n rfl ?_
  refine K_getR 11 46 2246 lf_Mo_84 rfl rfl t15 (fun a19 r20 => ?_)
  refine B_iload rfl ?_
  refine B_chk (fun t21 => ?_)
  refine K_iald t21 ?_
  refine B_isub ?_
  refine C_I (vs := [.ref l0, .int ((hA M14 a16 0) + (2 : Int32)), .int (((hA M14 a16 1) + (2 : Int32)) - (hA M14 a19 l5.toNatClampNeg))]) (st := [.int (1 : Int32), .ref l0]) (ci_V lv_Mo_331 rfl rfl t15) rfl rfl rfl (s_Mo_area l0 ((hA M14 a16 0) + (2 : Int32)) (((hA M14 a16 1) + (2 : Int32)) - (hA M14 a19 l5.toNatClampNeg)) M14) (fun v23 M22 => ?_)
  refine B_iload rfl ?_
  refine B_chk (fun t24 => ?_)
  refine C_V (vs := [.ref l0, .int (1 : Int32), .int v23, .int l5]) (st := []) (ci_V lv_Mo_334 rfl rfl t24) rfl rfl rfl (s_Mo_openThing l0 (1 : Int32) v23 l5 M22) (fun M25 => ?_)
  refine B_aload_n rfl ?_
  refine B_iload rfl ?_
  refine B_chk (fun t26 => ?_)
  refine C_V (vs := [.ref l0, .int l4]) (st := []) (ci_V lv_Mo_337 rfl rfl t26) rfl rfl rfl (s_Mo_push l0 l4 M25) (fun M27 => ?_)
  refine B_aload_n rfl ?_
  refine B_chk (fun t28 => ?_)
  refine K_getR 11 72 2272 lf_Mo_147 rfl rfl t28 (fun a29 r30 => ?_)
  refine B_iconst (0 : Int32) ic_0 ?_
  refine B_aload_n rfl ?_
  refine K_getRk 11 72 2272 lf_Mo_147 rfl rfl t28 r30 ?_
  refine B_iconst (0 : Int32) ic_0 ?_
  refine B_chk (fun t31 => ?_)
  refine K_ialdc 0 rfl t31 ?_
  refine B_aload_n rfl ?_
  refine K_getR 11 73 2273 lf_Mo_150 rfl rfl t28 (fun a32 r33 => ?_)
  refine B_iconst (0 : Int32) ic_0 ?_
  refine B_chk (fun t34 => ?_)
  refine K_ialdc 0 rfl t34 ?_
  refine C_I (vs := [.int (hA M27 a29 0), .int (hA M27 a32 0)]) (st := [.int (0 : Int32), .ref a29]) (ci_S ls_Mo_182 rfl) rfl rfl rfl (s_Mo_max (hA M27 a29 0) (hA M27 a32 0) M27) (fun v36 M35 => ?_)
  refine B_chk (fun t37 => ?_)
  refine K_iastc 0 rfl t37 (fun M39 e38 => ?_)
  refine B_aload_n rfl ?_
  refine B_chk (fun t40 => ?_)
  refine K_getR 11 72 2272 lf_Mo_147 rfl rfl t40 (fun a41 r42 => ?_)
  refine B_iconst (1 : Int32) ic_1 ?_
  refine B_aload_n rfl ?_
  refine K_getRk 11 72 2272 lf_Mo_147 rfl rfl t40 r42 ?_
  refine B_iconst (1 : Int32) ic_1 ?_
  refine B_chk (fun t43 => ?_)
  refine K_ialdc 1 rfl t43 ?_
  refine B_aload_n rfl ?_
  refine K_getR 11 73 2273 lf_Mo_150 rfl rfl t40 (fun a44 r45 => ?_)
  refine B_iconst (1 : Int32) ic_1 ?_
  refine B_chk (fun t46 => ?_)
  refine K_ialdc 1 rfl t46 ?_
  refine C_I (vs := [.int (hA M39 a41 1), .int (hA M39 a44 1)]) (st := [.int (1 : Int32), .ref a41]) (ci_S ls_Mo_182 rfl) rfl rfl rfl (s_Mo_max (hA M39 a41 1) (hA M39 a44 1) M39) (fun v48 M47 => ?_)
  refine B_chk (fun t49 => ?_)
  refine K_iastc 1 rfl t49 (fun M51 e50 => ?_)
  refine B_aload_n rfl ?_
  refine B_chk (fun t52 => ?_)
  refine K_getR 11 72 2272 lf_Mo_147 rfl rfl t52 (fun a53 r54 => ?_)
  refine B_iconst (2 : Int32) ic_2 ?_
  refine B_aload_n rfl ?_
  refine K_getRk 11 72 2272 lf_Mo_147 rfl rfl t52 r54 ?_
  refine B_iconst (2 : Int32) ic_2 ?_
  refine B_chk (fun t55 => ?_)
  refine K_ialdc 2 rfl t55 ?_
  refine B_aload_n rfl ?_
  refine K_getR 11 73 2273 lf_Mo_150 rfl rfl t52 (fun a56 r57 => ?_)
  refine B_iconst (2 : Int32) ic_2 ?_
  refine B_chk (fun t58 => ?_)
  refine K_ialdc 2 rfl t58 ?_
  refine C_I (vs := [.int (hA M51 a53 2), .int (hA M51 a56 2)]) (st := [.int (2 : Int32), .ref a53]) (ci_S ls_Mo_178 rfl) rfl rfl rfl (s_Mo_min (hA M51 a53 2) (hA M51 a56 2) M51) (fun v60 M59 => ?_)
  refine B_chk (fun t61 => ?_)
  refine K_iastc 2 rfl t61 (fun M63 e62 => ?_)
  refine B_aload_n rfl ?_
  refine B_chk (fun t64 => ?_)
  refine K_getR 11 72 2272 lf_Mo_147 rfl rfl t64 (fun a65 r66 => ?_)
  refine B_iconst (3 : Int32) ic_3 ?_
  refine B_aload_n rfl ?_
  refine K_getRk 11 72 2272 lf_Mo_147 rfl rfl t64 r66 ?_
  refine B_iconst (3 : Int32) ic_3 ?_
  refine B_chk (fun t67 => ?_)
  refine K_ialdc 3 rfl t67 ?_
  refine B_aload_n rfl ?_
  refine K_getR 11 73 2273 lf_Mo_150 rfl rfl t64 (fun a68 r69 => ?_)
  refine B_iconst (3 : Int32) ic_3 ?_
  refine B_chk (fun t70 => ?_)
  refine K_ialdc 3 rfl t70 ?_
  refine C_I (vs := [.int (hA M63 a65 3), .int (hA M63 a68 3)]) (st := [.int (3 : Int32), .ref a65]) (ci_S ls_Mo_178 rfl) rfl rfl rfl (s_Mo_min (hA M63 a65 3) (hA M63 a68 3) M63) (fun v72 M71 => ?_)
  refine B_chk (fun t73 => ?_)
  refine K_iastc 3 rfl t73 (fun M75 e74 => ?_)
  refine B_aload_n rfl ?_
  refine B_chk (fun t76 => ?_)
  refine K_getR 11 42 2242 lf_Mo_72 rfl rfl t76 (fun a77 r78 => ?_)
  refine B_iload rfl ?_
  refine B_aload_n rfl ?_
  refine K_getI 11 71 2271 lf_Mo_144 rfl rfl t76 ?_
  refine B_chk (fun t79 => ?_)
  refine K_iast t79 (fun M81 e80 => ?_)
  refine B_iconst (0 : Int32) ic_0 ?_
  refine S_i [some (.ref l0), none, none, some (.int l3), some (.int l4), some (.int l5), some (.int (0 : Int32))] (by decide) rfl ?_
  refine V_close ?_
  exact V_weak (ls' := [some (.ref l0), none, none, none, none, some (.int l5), some (.int (0 : Int32))]) ⟨rfl, ⟨rfl, ⟨rfl, trivial⟩⟩⟩ (tw_Mo_child_297 FU l0 l5 (0 : Int32) M81)
set_option maxRecDepth 100000 in
def b_Mo_child_38 (G : GT) (l0 : Nat) (l1 : Int32) (l2 : Int32) (l3 : Int32) (s0 : Nat) (s1 : Int32) (M : PH) : Option (PH) :=
  if hT M s0 = 11 then bI (f_Mo_bars G s0 s1 M) fun v3 M2 => (if v3 = 0 then (if hT M2 l0 = 11 then if hI M2 2256 l0 = (40 : Int32) then (b_Mo_child_63 G l0 M2) else (if ¬ hI M2 2248 l0 = (8 : Int32) then (bI (f_Mo_lay G l0 l1 l2 l3 M2) fun v6 M5 => (if hT M5 l0 = 11 then bV (f_Mo_shape G l0 v6 M5) fun M8 => (if hT M8 l0 = 11 then vb (hI M8 2248 l0) fun v10 => hb (sI M8 2248 l0 ((hI M8 2248 l0) + (1 : Int32))) fun M12 => if ¬ v10 = hI M12 2250 l0 then (b_Mo_child_127 G l0 l3 v6 v10 M12) else ((hR M12 2246 l0).bind fun a14 => if hT M12 a14 = 16 then if ib v10 (hN M12 a14) = true then if ib v10 (hN M12 a14) = true then hb (sA M12 a14 v10.toNatClampNeg ((hA M12 a14 v10.toNatClampNeg) + ((10 : Int32) * (hI M12 2215 l0)))) fun M18 => (b_Mo_child_127 G l0 l3 v6 v10 M18) else none else none else none) else none) else none)) else (b_Mo_child_63 G l0 M2)) else none) else (some M2)) else none
set_option maxRecDepth 100000 in
set_option maxHeartbeats 4000000 in
theorem t_Mo_child_38 {G : GT} (l0 : Nat) (l1 : Int32) (l2 : Int32) (l3 : Int32) (s0 : Nat) (s1 : Int32) (M : PH) : VX G mi_Mo_child 4 68 38 [some (.ref l0), some (.int l1), some (.int l2), some (.int l3), none, none, none] [.int s1, .ref s0] M qV (b_Mo_child_38 G l0 l1 l2 l3 s0 s1 M) := by
  unfold b_Mo_child_38
  refine V_open ok_Mo_child_38 ?_
  refine B_chk (fun t1 => ?_)
  refine C_I (vs := [.ref s0, .int s1]) (st := []) (ci_V lv_Mo_371 rfl rfl t1) rfl rfl rfl (s_Mo_bars s0 s1 M) (fun v3 M2 => ?_)
  refine B_eq (tgt := 45) (by decide) ?_ ?_
  · skip
    refine V_open ok_Mo_child_45 ?_
    refine B_aload_n rfl ?_
    refine B_chk (fun t4 => ?_)
    refine K_getI 11 56 2256 lf_Mo_279 rfl rfl t4 ?_
    refine B_bipush (40 : Int32) bp_40 ?_
    refine B_ieq (tgt := 63) (by decide) ?_ ?_
    · skip
      exact V_weak (ls' := [some (.ref l0), none, none, none, none, none, none]) ⟨rfl, trivial⟩ (t_Mo_child_63 l0 M2)
    · skip
      refine B_aload_n rfl ?_
      refine K_getI 11 48 2248 lf_Mo_246 rfl rfl t4 ?_
      refine B_bipush (8 : Int32) bp_8 ?_
      refine B_ine (tgt := 70) (by decide) ?_ ?_
      · skip
        refine V_open ok_Mo_child_70 ?_
        refine B_aload_n rfl ?_
        refine B_iload_n rfl ?_
        refine B_iload_n rfl ?_
        refine B_iload_n rfl ?_
        refine C_I (vs := [.ref l0, .int l1, .int l2, .int l3]) (st := []) (ci_V lv_Mo_375 rfl rfl t4) rfl rfl rfl (s_Mo_lay l0 l1 l2 l3 M2) (fun v6 M5 => ?_)
        refine S_i [some (.ref l0), some (.int l1), some (.int l2), some (.int l3), some (.int v6), none, none] (by decide) rfl ?_
        refine B_aload_n rfl ?_
        refine B_iload rfl ?_
        refine B_chk (fun t7 => ?_)
        refine C_V (vs := [.ref l0, .int v6]) (st := []) (ci_V lv_Mo_381 rfl rfl t7) rfl rfl rfl (s_Mo_shape l0 v6 M5) (fun M8 => ?_)
        refine B_aload_n rfl ?_
        refine B_chk (fun t9 => ?_)
        refine K_getI 11 48 2248 lf_Mo_246 rfl rfl t9 ?_
        refine B_vb (fun v10 => ?_)
        refine S_i [some (.ref l0), some (.int l1), some (.int l2), some (.int l3), some (.int v6), some (.int v10), none] (by decide) rfl ?_
        refine B_aload_n rfl ?_
        refine B_dup rfl ?_
        refine K_getI 11 48 2248 lf_Mo_246 rfl rfl t9 ?_
        refine B_iconst (1 : Int32) ic_1 ?_
        refine B_iadd ?_
        refine K_putI 11 48 2248 lf_Mo_246 rfl (Or.inl rfl) rfl t9 (fun M12 e11 => ?_)
        refine B_iload rfl ?_
        refine B_aload_n rfl ?_
        have h13 : hT M12 l0 = 11 := by rw [e11]; exact t9
        refine K_getI 11 50 2250 lf_Mo_90 rfl rfl h13 ?_
        refine B_ine (tgt := 127) (by decide) ?_ ?_
        · skip
          exact V_weak (ls' := [some (.ref l0), none, none, some (.int l3), some (.int v6), some (.int v10), none]) ⟨rfl, ⟨rfl, ⟨rfl, ⟨rfl, trivial⟩⟩⟩⟩ (t_Mo_child_127 l0 l3 v6 v10 M12)
        · skip
          refine B_aload_n rfl ?_
          refine K_getR 11 46 2246 lf_Mo_84 rfl rfl h13 (fun a14 r15 => ?_)
          refine B_iload rfl ?_
          refine B_dup2 rfl rfl ?_
          refine B_chk (fun t16 => ?_)
          refine K_iald t16 ?_
          refine B_bipush (10 : Int32) bp_10 ?_
          refine B_aload_n rfl ?_
          refine K_getI 11 15 2215 lf_Mo_214 rfl rfl h13 ?_
          refine B_imul ?_
          refine B_iadd ?_
          refine K_iast t16 (fun M18 e17 => ?_)
          refine V_close ?_
          exact V_weak (ls' := [some (.ref l0), none, none, some (.int l3), some (.int v6), some (.int v10), none]) ⟨rfl, ⟨rfl, ⟨rfl, ⟨rfl, trivial⟩⟩⟩⟩ (t_Mo_child_127 l0 l3 v6 v10 M18)
      · skip
        refine V_close ?_
        exact V_weak (ls' := [some (.ref l0), none, none, none, none, none, none]) ⟨rfl, trivial⟩ (t_Mo_child_63 l0 M2)
  · skip
    exact B_vret rfl
set_option maxRecDepth 100000 in
def b_Mo_child_37 (G : GT) (l0 : Nat) (l1 : Int32) (l2 : Int32) (l3 : Int32) (s0 : Nat) (M : PH) : Option (PH) :=
  b_Mo_child_38 G l0 l1 l2 l3 s0 (0 : Int32) M
set_option maxRecDepth 100000 in
set_option maxHeartbeats 4000000 in
theorem t_Mo_child_37 {G : GT} (l0 : Nat) (l1 : Int32) (l2 : Int32) (l3 : Int32) (s0 : Nat) (M : PH) : VX G mi_Mo_child 4 68 37 [some (.ref l0), some (.int l1), some (.int l2), some (.int l3), none, none, none] [.ref s0] M qV (b_Mo_child_37 G l0 l1 l2 l3 s0 M) := by
  unfold b_Mo_child_37
  refine V_open ok_Mo_child_37 ?_
  refine B_iconst (0 : Int32) ic_0 ?_
  refine V_close ?_
  exact V_weak (ls' := [some (.ref l0), some (.int l1), some (.int l2), some (.int l3), none, none, none]) ⟨rfl, ⟨rfl, ⟨rfl, ⟨rfl, trivial⟩⟩⟩⟩ (t_Mo_child_38 l0 l1 l2 l3 s0 (0 : Int32) M)
set_option maxRecDepth 100000 in
def f_Mo_child (G : GT) (l0 : Nat) (l1 : Int32) (l2 : Int32) (l3 : Int32) (M : PH) : Option (PH) :=
  if hT M l0 = 11 then bI (f_Mo_isLabel G l0 l1 M) fun v3 M2 => (if v3 = 0 then (b_Mo_child_37 G l0 l1 l2 l3 l0 M2) else (if l2 < (1 : Int32) then (b_Mo_child_37 G l0 l1 l2 l3 l0 M2) else (if (200 : Int32) < l2 then (b_Mo_child_37 G l0 l1 l2 l3 l0 M2) else (if l3 < (1 : Int32) then (b_Mo_child_37 G l0 l1 l2 l3 l0 M2) else (if (200 : Int32) < l3 then (b_Mo_child_37 G l0 l1 l2 l3 l0 M2) else (b_Mo_child_38 G l0 l1 l2 l3 l0 (1 : Int32) M2)))))) else none
set_option maxRecDepth 100000 in
set_option maxHeartbeats 4000000 in
theorem s_Mo_child {G : GT} (l0 : Nat) (l1 : Int32) (l2 : Int32) (l3 : Int32) (M : PH) : VX G mi_Mo_child 4 68 0 [some (.ref l0), some (.int l1), some (.int l2), some (.int l3), none, none, none] [] M qV (f_Mo_child G l0 l1 l2 l3 M) := by
  unfold f_Mo_child
  refine V_open ok_Mo_child_0 ?_
  refine B_aload_n rfl ?_
  refine B_aload_n rfl ?_
  refine B_iload_n rfl ?_
  refine B_chk (fun t1 => ?_)
  refine C_I (vs := [.ref l0, .int l1]) (st := [.ref l0]) (ci_V lv_Mo_343 rfl rfl t1) rfl rfl rfl (s_Mo_isLabel l0 l1 M) (fun v3 M2 => ?_)
  refine B_eq (tgt := 37) (by decide) ?_ ?_
  · skip
    exact V_weak (ls' := [some (.ref l0), some (.int l1), some (.int l2), some (.int l3), none, none, none]) ⟨rfl, ⟨rfl, ⟨rfl, ⟨rfl, trivial⟩⟩⟩⟩ (t_Mo_child_37 l0 l1 l2 l3 l0 M2)
  · skip
    refine B_iload_n rfl ?_
    refine B_iconst (1 : Int32) ic_1 ?_
    refine B_ilt (tgt := 37) (by decide) ?_ ?_
    · skip
      exact V_weak (ls' := [some (.ref l0), some (.int l1), some (.int l2), some (.int l3), none, none, none]) ⟨rfl, ⟨rfl, ⟨rfl, ⟨rfl, trivial⟩⟩⟩⟩ (t_Mo_child_37 l0 l1 l2 l3 l0 M2)
    · skip
      refine B_iload_n rfl ?_
      refine B_sipush (200 : Int32) sp_200 ?_
      refine B_igt (tgt := 37) (by decide) ?_ ?_
      · skip
        exact V_weak (ls' := [some (.ref l0), some (.int l1), some (.int l2), some (.int l3), none, none, none]) ⟨rfl, ⟨rfl, ⟨rfl, ⟨rfl, trivial⟩⟩⟩⟩ (t_Mo_child_37 l0 l1 l2 l3 l0 M2)
      · skip
        refine B_iload_n rfl ?_
        refine B_iconst (1 : Int32) ic_1 ?_
        refine B_ilt (tgt := 37) (by decide) ?_ ?_
        · skip
          exact V_weak (ls' := [some (.ref l0), some (.int l1), some (.int l2), some (.int l3), none, none, none]) ⟨rfl, ⟨rfl, ⟨rfl, ⟨rfl, trivial⟩⟩⟩⟩ (t_Mo_child_37 l0 l1 l2 l3 l0 M2)
        · skip
          refine B_iload_n rfl ?_
          refine B_sipush (200 : Int32) sp_200 ?_
          refine B_igt (tgt := 37) (by decide) ?_ ?_
          · skip
            exact V_weak (ls' := [some (.ref l0), some (.int l1), some (.int l2), some (.int l3), none, none, none]) ⟨rfl, ⟨rfl, ⟨rfl, ⟨rfl, trivial⟩⟩⟩⟩ (t_Mo_child_37 l0 l1 l2 l3 l0 M2)
          · skip
            refine B_iconst (1 : Int32) ic_1 ?_
            refine B_goto (tgt := 38) (by decide) ?_
            exact V_weak (ls' := [some (.ref l0), some (.int l1), some (.int l2), some (.int l3), none, none, none]) ⟨rfl, ⟨rfl, ⟨rfl, ⟨rfl, trivial⟩⟩⟩⟩ (t_Mo_child_38 l0 l1 l2 l3 l0 (1 : Int32) M2)

-- PF_scope
theorem ok_PF_scope_0 : okb prog_1_method_42_code 0 [(.aload_n 0, 1), (.iload_n 1, 1), (.iconst 1, 1), (.iconst 1, 1), (.invokevirtual 374, 3), (.aload_n 0, 1), (.aload_n 0, 1), (.getfield 114, 3), (.bipush 40, 2), (.if_icmp .ge 7, 3), (.iconst 1, 1), (.goto 4, 3)] = true := by decide +kernel
theorem ok_PF_scope_21 : okb prog_1_method_42_code 21 [(.iconst 0, 1)] = true := by decide +kernel
theorem ok_PF_scope_22 : okb prog_1_method_42_code 22 [(.invokevirtual 130, 3), (.aload_n 0, 1), (.iconst 3, 1), (.aload_n 0, 1), (.iload_n 1, 1), (.invokevirtual 378, 3), (.invokevirtual 311, 3), (.pop, 1), (.return_, 1)] = true := by decide +kernel
set_option maxRecDepth 100000 in
def b_PF_scope_22 (G : GT) (l0 : Nat) (l1 : Int32) (s0 : Nat) (s1 : Int32) (M : PH) : Option (Nat × PH) :=
  if hT M s0 = 10 then bU (f_PF_may G s0 s1 M) fun M2 => (if hT M2 l0 = 10 then bI (f_PF_idOf G l0 l1 M2) fun v5 M4 => (if hT M4 l0 = 10 then bR (f_PF_push G l0 (3 : Int32) v5 M4) fun a8 M7 => (some (0, M7)) else none) else none) else none
set_option maxRecDepth 100000 in
set_option maxHeartbeats 4000000 in
theorem t_PF_scope_22 {G : GT} (l0 : Nat) (l1 : Int32) (s0 : Nat) (s1 : Int32) (M : PH) : VX G mi_PF_scope 8 109 22 [some (.ref l0), some (.int l1)] [.int s1, .ref s0] M qU (b_PF_scope_22 G l0 l1 s0 s1 M) := by
  unfold b_PF_scope_22
  refine V_open ok_PF_scope_22 ?_
  refine B_chk (fun t1 => ?_)
  refine C_U (vs := [.ref s0, .int s1]) (st := []) rfl (ci_V lv_PF_130 rfl rfl t1) rfl rfl rfl (s_PF_may s0 s1 M) (fun M2 => ?_)
  refine B_aload_n rfl ?_
  refine B_iconst (3 : Int32) ic_3 ?_
  refine B_aload_n rfl ?_
  refine B_iload_n rfl ?_
  refine B_chk (fun t3 => ?_)
  refine C_I (vs := [.ref l0, .int l1]) (st := [.int (3 : Int32), .ref l0]) (ci_V lv_PF_378 rfl rfl t3) rfl rfl rfl (s_PF_idOf l0 l1 M2) (fun v5 M4 => ?_)
  refine B_chk (fun t6 => ?_)
  refine C_R (vs := [.ref l0, .int (3 : Int32), .int v5]) (st := []) (ci_V lv_PF_311 rfl rfl t6) rfl rfl rfl (s_PF_push l0 (3 : Int32) v5 M4) (fun a8 M7 => ?_)
  refine B_pop rfl ?_
  exact B_uret rfl
set_option maxRecDepth 100000 in
def f_PF_scope (G : GT) (l0 : Nat) (l1 : Int32) (M : PH) : Option (Nat × PH) :=
  if hT M l0 = 10 then bU (f_PF_wantItem G l0 l1 (1 : Int32) (1 : Int32) M) fun M2 => (if hT M2 l0 = 10 then if (40 : Int32) ≤ hI M2 2006 l0 then (b_PF_scope_22 G l0 l1 l0 (0 : Int32) M2) else (b_PF_scope_22 G l0 l1 l0 (1 : Int32) M2) else none) else none
set_option maxRecDepth 100000 in
set_option maxHeartbeats 4000000 in
theorem s_PF_scope {G : GT} (l0 : Nat) (l1 : Int32) (M : PH) : VX G mi_PF_scope 8 109 0 [some (.ref l0), some (.int l1)] [] M qU (f_PF_scope G l0 l1 M) := by
  unfold f_PF_scope
  refine V_open ok_PF_scope_0 ?_
  refine B_aload_n rfl ?_
  refine B_iload_n rfl ?_
  refine B_iconst (1 : Int32) ic_1 ?_
  refine B_iconst (1 : Int32) ic_1 ?_
  refine B_chk (fun t1 => ?_)
  refine C_U (vs := [.ref l0, .int l1, .int (1 : Int32), .int (1 : Int32)]) (st := []) rfl (ci_V lv_PF_374 rfl rfl t1) rfl rfl rfl (s_PF_wantItem l0 l1 (1 : Int32) (1 : Int32) M) (fun M2 => ?_)
  refine B_aload_n rfl ?_
  refine B_aload_n rfl ?_
  refine B_chk (fun t3 => ?_)
  refine K_getI 10 6 2006 lf_PF_114 rfl rfl t3 ?_
  refine B_bipush (40 : Int32) bp_40 ?_
  refine B_ige (tgt := 21) (by decide) ?_ ?_
  · skip
    refine V_open ok_PF_scope_21 ?_
    refine B_iconst (0 : Int32) ic_0 ?_
    refine V_close ?_
    exact V_weak (ls' := [some (.ref l0), some (.int l1)]) ⟨rfl, ⟨rfl, trivial⟩⟩ (t_PF_scope_22 l0 l1 l0 (0 : Int32) M2)
  · skip
    refine B_iconst (1 : Int32) ic_1 ?_
    refine B_goto (tgt := 22) (by decide) ?_
    exact V_weak (ls' := [some (.ref l0), some (.int l1)]) ⟨rfl, ⟨rfl, trivial⟩⟩ (t_PF_scope_22 l0 l1 l0 (1 : Int32) M2)

-- Law_scope
theorem ok_Law_scope_0 : okb method_15_code 0 [(.aload_n 0, 1), (.iload_n 1, 1), (.invokevirtual 58, 3), (.goto 9, 3)] = true := by decide +kernel
theorem ok_Law_scope_8 : okb method_15_code 8 [(.astore_n 2, 1), (.iconst 1, 1), (.ireturn, 1)] = true := by decide +kernel
theorem ok_Law_scope_11 : okb method_15_code 11 [(.astore_n 2, 1), (.iconst 2, 1), (.ireturn, 1)] = true := by decide +kernel
theorem ok_Law_scope_14 : okb method_15_code 14 [(.iconst 0, 1), (.ireturn, 1)] = true := by decide +kernel
set_option maxRecDepth 100000 in
def f_Law_scope (G : GT) (l0 : Nat) (l1 : Int32) (M : PH) : Option (Int32 × PH) :=
  if hT M l0 = 10 then bG2 (f_PF_scope G l0 l1 M) (fun M2 => some ((0 : Int32), M2)) (fun M2 => some ((1 : Int32), M2)) (fun M2 => some ((2 : Int32), M2)) else none
set_option maxRecDepth 100000 in
set_option maxHeartbeats 4000000 in
theorem s_Law_scope {G : GT} (l0 : Nat) (l1 : Int32) (M : PH) : VX G mi_Law_scope 9 122 0 [some (.ref l0), some (.int l1), none] [] M qI (f_Law_scope G l0 l1 M) := by
  unfold f_Law_scope
  refine V_open ok_Law_scope_0 ?_
  refine B_aload_n rfl ?_
  refine B_iload_n rfl ?_
  refine B_chk (fun t1 => ?_)
  refine C_G2 (vs := [.ref l0, .int l1]) (st := []) 5 8 22 11 13 (by decide) rfl lh_Law_22 lh_Law_13 (ci_V lv_Law_58 rfl rfl t1) rfl rfl rfl (s_PF_scope l0 l1 M) (fun M2 => ?_) (fun ah M2 => ?_) (fun ah M2 => ?_)
  · skip
    refine B_goto (tgt := 14) (by decide) ?_
    refine V_open ok_Law_scope_14 ?_
    refine B_iconst (0 : Int32) ic_0 ?_
    exact B_iret rfl
  · skip
    refine V_open ok_Law_scope_8 ?_
    refine S_an [some (.ref l0), some (.int l1), some (.ref ah)] (by decide) rfl ?_
    refine B_iconst (1 : Int32) ic_1 ?_
    exact B_iret rfl
  · skip
    refine V_open ok_Law_scope_11 ?_
    refine S_an [some (.ref l0), some (.int l1), some (.ref ah)] (by decide) rfl ?_
    refine B_iconst (2 : Int32) ic_2 ?_
    exact B_iret rfl

-- Mo_scope
theorem ok_Mo_scope_0 : okb prog_13_method_59_code 0 [(.aload_n 0, 1), (.aload_n 0, 1), (.iload_n 1, 1), (.invokevirtual 343, 3), (.invokevirtual 371, 3), (.ifCond .eq 4, 3), (.return_, 1)] = true := by decide +kernel
theorem ok_Mo_scope_13 : okb prog_13_method_59_code 13 [(.aload_n 0, 1), (.getfield 279, 3), (.bipush 40, 2), (.if_icmp .ne 10, 3), (.aload_n 0, 1), (.iconst 2, 1), (.invokevirtual 297, 3), (.pop, 1), (.return_, 1)] = true := by decide +kernel
theorem ok_Mo_scope_29 : okb prog_13_method_59_code 29 [(.aload_n 0, 1), (.iload_n 1, 1), (.invokevirtual 356, 3), (.istore_n 2, 1), (.aload_n 0, 1), (.iconst 3, 1), (.iconst (-1), 1), (.iconst 0, 1), (.invokevirtual 334, 3), (.aload_n 0, 1), (.iload_n 2, 1), (.invokevirtual 337, 3), (.return_, 1)] = true := by decide +kernel
set_option maxRecDepth 100000 in
def f_Mo_scope (G : GT) (l0 : Nat) (l1 : Int32) (M : PH) : Option (PH) :=
  if hT M l0 = 11 then bI (f_Mo_isLabel G l0 l1 M) fun v3 M2 => (if hT M2 l0 = 11 then bI (f_Mo_bars G l0 v3 M2) fun v6 M5 => (if v6 = 0 then (if hT M5 l0 = 11 then if ¬ hI M5 2256 l0 = (40 : Int32) then (bI (f_Mo_idOf G l0 l1 M5) fun v9 M8 => (if hT M8 l0 = 11 then bV (f_Mo_openThing G l0 (3 : Int32) (-1 : Int32) (0 : Int32) M8) fun M11 => (if hT M11 l0 = 11 then bV (f_Mo_push G l0 v9 M11) fun M13 => (some M13) else none) else none)) else (bI (f_Mo_fails G l0 (2 : Int32) M5) fun v15 M14 => (some M14)) else none) else (some M5)) else none) else none
set_option maxRecDepth 100000 in
set_option maxHeartbeats 4000000 in
theorem s_Mo_scope {G : GT} (l0 : Nat) (l1 : Int32) (M : PH) : VX G mi_Mo_scope 2 27 0 [some (.ref l0), some (.int l1), none] [] M qV (f_Mo_scope G l0 l1 M) := by
  unfold f_Mo_scope
  refine V_open ok_Mo_scope_0 ?_
  refine B_aload_n rfl ?_
  refine B_aload_n rfl ?_
  refine B_iload_n rfl ?_
  refine B_chk (fun t1 => ?_)
  refine C_I (vs := [.ref l0, .int l1]) (st := [.ref l0]) (ci_V lv_Mo_343 rfl rfl t1) rfl rfl rfl (s_Mo_isLabel l0 l1 M) (fun v3 M2 => ?_)
  refine B_chk (fun t4 => ?_)
  refine C_I (vs := [.ref l0, .int v3]) (st := []) (ci_V lv_Mo_371 rfl rfl t4) rfl rfl rfl (s_Mo_bars l0 v3 M2) (fun v6 M5 => ?_)
  refine B_eq (tgt := 13) (by decide) ?_ ?_
  · skip
    refine V_open ok_Mo_scope_13 ?_
    refine B_aload_n rfl ?_
    refine B_chk (fun t7 => ?_)
    refine K_getI 11 56 2256 lf_Mo_279 rfl rfl t7 ?_
    refine B_bipush (40 : Int32) bp_40 ?_
    refine B_ine (tgt := 29) (by decide) ?_ ?_
    · skip
      refine V_open ok_Mo_scope_29 ?_
      refine B_aload_n rfl ?_
      refine B_iload_n rfl ?_
      refine C_I (vs := [.ref l0, .int l1]) (st := []) (ci_V lv_Mo_356 rfl rfl t7) rfl rfl rfl (s_Mo_idOf l0 l1 M5) (fun v9 M8 => ?_)
      refine S_in [some (.ref l0), some (.int l1), some (.int v9)] (by decide) rfl ?_
      refine B_aload_n rfl ?_
      refine B_iconst (3 : Int32) ic_3 ?_
      refine B_iconst (-1 : Int32) ic_m1 ?_
      refine B_iconst (0 : Int32) ic_0 ?_
      refine B_chk (fun t10 => ?_)
      refine C_V (vs := [.ref l0, .int (3 : Int32), .int (-1 : Int32), .int (0 : Int32)]) (st := []) (ci_V lv_Mo_334 rfl rfl t10) rfl rfl rfl (s_Mo_openThing l0 (3 : Int32) (-1 : Int32) (0 : Int32) M8) (fun M11 => ?_)
      refine B_aload_n rfl ?_
      refine B_iload_n rfl ?_
      refine B_chk (fun t12 => ?_)
      refine C_V (vs := [.ref l0, .int v9]) (st := []) (ci_V lv_Mo_337 rfl rfl t12) rfl rfl rfl (s_Mo_push l0 v9 M11) (fun M13 => ?_)
      exact B_vret rfl
    · skip
      refine B_aload_n rfl ?_
      refine B_iconst (2 : Int32) ic_2 ?_
      refine C_I (vs := [.ref l0, .int (2 : Int32)]) (st := []) (ci_V lv_Mo_297 rfl rfl t7) rfl rfl rfl (s_Mo_fails l0 (2 : Int32) M5) (fun v15 M14 => ?_)
      refine B_pop rfl ?_
      exact B_vret rfl
  · skip
    exact B_vret rfl

-- PF_group
theorem ok_PF_group_0 : okb prog_1_method_43_code 0 [(.aload_n 0, 1), (.aload_n 0, 1), (.getfield 104, 3), (.ifCond .eq 23, 3), (.aload_n 0, 1), (.getfield 114, 3), (.ifCond .le 16, 3), (.aload_n 0, 1), (.getfield 114, 3), (.bipush 40, 2), (.if_icmp .ge 7, 3), (.iconst 1, 1), (.goto 4, 3)] = true := by decide +kernel
theorem ok_PF_group_28 : okb prog_1_method_43_code 28 [(.iconst 0, 1)] = true := by decide +kernel
theorem ok_PF_group_29 : okb prog_1_method_43_code 29 [(.invokevirtual 130, 3), (.aload_n 0, 1), (.invokevirtual 245, 3), (.invokevirtual 421, 3), (.istore_n 1, 1), (.aload_n 0, 1), (.invokevirtual 245, 3), (.invokevirtual 423, 3), (.istore_n 2, 1), (.aload_n 0, 1), (.iconst 4, 1), (.aload_n 0, 1), (.getfield 42, 3), (.aload_n 0, 1), (.getfield 114, 3), (.iconst 1, 1), (.isub, 1), (.aaload, 1), (.getfield 225, 3), (.invokevirtual 311, 3), (.getfield 232, 3), (.iload_n 1, 1), (.iload_n 2, 1), (.invokevirtual 315, 3), (.return_, 1)] = true := by decide +kernel
set_option maxRecDepth 100000 in
def b_PF_group_29 (G : GT) (l0 : Nat) (s0 : Nat) (s1 : Int32) (M : PH) : Option (Nat × PH) :=
  if hT M s0 = 10 then bU (f_PF_may G s0 s1 M) fun M2 => (if hT M2 l0 = 10 then bR (f_PF_layout G l0 M2) fun a5 M4 => (if hT M4 a5 = 5 then bI (f_Layout_x G a5 M4) fun v8 M7 => (if hT M7 l0 = 10 then bR (f_PF_layout G l0 M7) fun a11 M10 => (if hT M10 a11 = 5 then bI (f_Layout_y G a11 M10) fun v14 M13 => (if hT M13 l0 = 10 then (hR M13 2005 l0).bind fun a16 => if hT M13 a16 = 21 then if ib ((hI M13 2006 l0) - (1 : Int32)) (hN M13 a16) = true then (hX M13 a16 ((hI M13 2006 l0) - (1 : Int32)).toNatClampNeg).bind fun a19 => (if hT M13 a19 = 8 then bR (f_PF_push G l0 (4 : Int32) (hI M13 1601 a19) M13) fun a22 M21 => (if hT M21 a22 = 8 then (hR M21 1605 a22).bind fun a24 => if hT M21 a24 = 5 then bV (f_Layout_be G a24 v8 v14 M21) fun M27 => (some (0, M27)) else none else none) else none) else none else none else none) else none) else none) else none) else none) else none
set_option maxRecDepth 100000 in
set_option maxHeartbeats 4000000 in
theorem t_PF_group_29 {G : GT} (l0 : Nat) (s0 : Nat) (s1 : Int32) (M : PH) : VX G mi_PF_group 7 94 29 [some (.ref l0), none, none] [.int s1, .ref s0] M qU (b_PF_group_29 G l0 s0 s1 M) := by
  unfold b_PF_group_29
  refine V_open ok_PF_group_29 ?_
  refine B_chk (fun t1 => ?_)
  refine C_U (vs := [.ref s0, .int s1]) (st := []) rfl (ci_V lv_PF_130 rfl rfl t1) rfl rfl rfl (s_PF_may s0 s1 M) (fun M2 => ?_)
  refine B_aload_n rfl ?_
  refine B_chk (fun t3 => ?_)
  refine C_R (vs := [.ref l0]) (st := []) (ci_V lv_PF_245 rfl rfl t3) rfl rfl rfl (s_PF_layout l0 M2) (fun a5 M4 => ?_)
  refine B_chk (fun t6 => ?_)
  refine C_I (vs := [.ref a5]) (st := []) (ci_V lv_PF_421 rfl rfl t6) rfl rfl rfl (s_Layout_x a5 M4) (fun v8 M7 => ?_)
  refine S_in [some (.ref l0), some (.int v8), none] (by decide) rfl ?_
  refine B_aload_n rfl ?_
  refine B_chk (fun t9 => ?_)
  refine C_R (vs := [.ref l0]) (st := []) (ci_V lv_PF_245 rfl rfl t9) rfl rfl rfl (s_PF_layout l0 M7) (fun a11 M10 => ?_)
  refine B_chk (fun t12 => ?_)
  refine C_I (vs := [.ref a11]) (st := []) (ci_V lv_PF_423 rfl rfl t12) rfl rfl rfl (s_Layout_y a11 M10) (fun v14 M13 => ?_)
  refine S_in [some (.ref l0), some (.int v8), some (.int v14)] (by decide) rfl ?_
  refine B_aload_n rfl ?_
  refine B_iconst (4 : Int32) ic_4 ?_
  refine B_aload_n rfl ?_
  refine B_chk (fun t15 => ?_)
  refine K_getR 10 5 2005 lf_PF_42 rfl rfl t15 (fun a16 r17 => ?_)
  refine B_aload_n rfl ?_
  refine K_getI 10 6 2006 lf_PF_114 rfl rfl t15 ?_
  refine B_iconst (1 : Int32) ic_1 ?_
  refine B_isub ?_
  refine B_chk (fun t18 => ?_)
  refine K_aald 21 rfl t18 (fun a19 => ?_)
  refine B_chk (fun t20 => ?_)
  refine K_getI 8 1 1601 lf_PF_225 rfl rfl t20 ?_
  refine C_R (vs := [.ref l0, .int (4 : Int32), .int (hI M13 1601 a19)]) (st := []) (ci_V lv_PF_311 rfl rfl t15) rfl rfl rfl (s_PF_push l0 (4 : Int32) (hI M13 1601 a19) M13) (fun a22 M21 => ?_)
  refine B_chk (fun t23 => ?_)
  refine K_getR 8 5 1605 lf_PF_232 rfl rfl t23 (fun a24 r25 => ?_)
  refine B_iload_n rfl ?_
  refine B_iload_n rfl ?_
  refine B_chk (fun t26 => ?_)
  refine C_V (vs := [.ref a24, .int v8, .int v14]) (st := []) (ci_V lv_PF_315 rfl rfl t26) rfl rfl rfl (s_Layout_be a24 v8 v14 M21) (fun M27 => ?_)
  exact B_uret rfl
set_option maxRecDepth 100000 in
def b_PF_group_28 (G : GT) (l0 : Nat) (s0 : Nat) (M : PH) : Option (Nat × PH) :=
  b_PF_group_29 G l0 s0 (0 : Int32) M
set_option maxRecDepth 100000 in
set_option maxHeartbeats 4000000 in
theorem t_PF_group_28 {G : GT} (l0 : Nat) (s0 : Nat) (M : PH) : VX G mi_PF_group 7 94 28 [some (.ref l0), none, none] [.ref s0] M qU (b_PF_group_28 G l0 s0 M) := by
  unfold b_PF_group_28
  refine V_open ok_PF_group_28 ?_
  refine B_iconst (0 : Int32) ic_0 ?_
  refine V_close ?_
  exact V_weak (ls' := [some (.ref l0), none, none]) ⟨rfl, trivial⟩ (t_PF_group_29 l0 s0 (0 : Int32) M)
set_option maxRecDepth 100000 in
def f_PF_group (G : GT) (l0 : Nat) (M : PH) : Option (Nat × PH) :=
  if hT M l0 = 10 then if hI M 2007 l0 = 0 then (b_PF_group_28 G l0 l0 M) else (if hI M 2006 l0 ≤ 0 then (b_PF_group_28 G l0 l0 M) else (if (40 : Int32) ≤ hI M 2006 l0 then (b_PF_group_28 G l0 l0 M) else (b_PF_group_29 G l0 l0 (1 : Int32) M))) else none
set_option maxRecDepth 100000 in
set_option maxHeartbeats 4000000 in
theorem s_PF_group {G : GT} (l0 : Nat) (M : PH) : VX G mi_PF_group 7 94 0 [some (.ref l0), none, none] [] M qU (f_PF_group G l0 M) := by
  unfold f_PF_group
  refine V_open ok_PF_group_0 ?_
  refine B_aload_n rfl ?_
  refine B_aload_n rfl ?_
  refine B_chk (fun t1 => ?_)
  refine K_getI 10 7 2007 lf_PF_104 rfl rfl t1 ?_
  refine B_eq (tgt := 28) (by decide) ?_ ?_
  · skip
    exact V_weak (ls' := [some (.ref l0), none, none]) ⟨rfl, trivial⟩ (t_PF_group_28 l0 l0 M)
  · skip
    refine B_aload_n rfl ?_
    refine K_getI 10 6 2006 lf_PF_114 rfl rfl t1 ?_
    refine B_le (tgt := 28) (by decide) ?_ ?_
    · skip
      exact V_weak (ls' := [some (.ref l0), none, none]) ⟨rfl, trivial⟩ (t_PF_group_28 l0 l0 M)
    · skip
      refine B_aload_n rfl ?_
      refine K_getI 10 6 2006 lf_PF_114 rfl rfl t1 ?_
      refine B_bipush (40 : Int32) bp_40 ?_
      refine B_ige (tgt := 28) (by decide) ?_ ?_
      · skip
        exact V_weak (ls' := [some (.ref l0), none, none]) ⟨rfl, trivial⟩ (t_PF_group_28 l0 l0 M)
      · skip
        refine B_iconst (1 : Int32) ic_1 ?_
        refine B_goto (tgt := 29) (by decide) ?_
        exact V_weak (ls' := [some (.ref l0), none, none]) ⟨rfl, trivial⟩ (t_PF_group_29 l0 l0 (1 : Int32) M)

-- Law_group
theorem ok_Law_group_0 : okb method_16_code 0 [(.aload_n 0, 1), (.invokevirtual 62, 3), (.goto 6, 3)] = true := by decide +kernel
theorem ok_Law_group_7 : okb method_16_code 7 [(.astore_n 1, 1), (.iconst 1, 1), (.ireturn, 1)] = true := by decide +kernel
theorem ok_Law_group_10 : okb method_16_code 10 [(.iconst 0, 1), (.ireturn, 1)] = true := by decide +kernel
set_option maxRecDepth 100000 in
def f_Law_group (G : GT) (l0 : Nat) (M : PH) : Option (Int32 × PH) :=
  if hT M l0 = 10 then bG1 (f_PF_group G l0 M) (fun M2 => some ((0 : Int32), M2)) (fun M2 => some ((1 : Int32), M2)) else none
set_option maxRecDepth 100000 in
set_option maxHeartbeats 4000000 in
theorem s_Law_group {G : GT} (l0 : Nat) (M : PH) : VX G mi_Law_group 8 108 0 [some (.ref l0), none] [] M qI (f_Law_group G l0 M) := by
  unfold f_Law_group
  refine V_open ok_Law_group_0 ?_
  refine B_aload_n rfl ?_
  refine B_chk (fun t1 => ?_)
  refine C_G1 (vs := [.ref l0]) (st := []) 4 7 13 (by decide) rfl lh_Law_13 (ci_V lv_Law_62 rfl rfl t1) rfl rfl rfl (s_PF_group l0 M) (fun M2 => ?_) (fun ah M2 => ?_)
  · skip
    refine B_goto (tgt := 10) (by decide) ?_
    refine V_open ok_Law_group_10 ?_
    refine B_iconst (0 : Int32) ic_0 ?_
    exact B_iret rfl
  · skip
    refine V_open ok_Law_group_7 ?_
    refine S_an [some (.ref l0), some (.ref ah)] (by decide) rfl ?_
    refine B_iconst (1 : Int32) ic_1 ?_
    exact B_iret rfl

-- Mo_group
theorem ok_Mo_group_0 : okb prog_13_method_60_code 0 [(.aload_n 0, 1), (.iconst 0, 1), (.putfield 175, 3), (.aload_n 0, 1), (.getfield 236, 3), (.ifCond .eq 19, 3), (.aload_n 0, 1), (.getfield 285, 3), (.ifCond .eq 12, 3), (.aload_n 0, 1), (.getfield 279, 3), (.bipush 40, 2), (.if_icmp .ne 9, 3)] = true := by decide +kernel
theorem ok_Mo_group_28 : okb prog_13_method_60_code 28 [(.aload_n 0, 1), (.invokevirtual 239, 3), (.pop, 1), (.return_, 1)] = true := by decide +kernel
theorem ok_Mo_group_34 : okb prog_13_method_60_code 34 [(.aload_n 0, 1), (.getfield 285, 3), (.iconst 1, 1), (.isub, 1), (.istore_n 1, 1), (.aload_n 0, 1), (.getfield 138, 3), (.iload_n 1, 1), (.baload, 1), (.ifCond .eq 16, 3), (.aload_n 0, 1), (.getfield 135, 3), (.iload_n 1, 1), (.baload, 1), (.ifCond .eq 7, 3), (.iconst 1, 1), (.goto 4, 3)] = true := by decide +kernel
theorem ok_Mo_group_63 : okb prog_13_method_60_code 63 [(.iconst 0, 1)] = true := by decide +kernel
theorem ok_Mo_group_64 : okb prog_13_method_60_code 64 [(.istore_n 2, 1), (.aload_n 0, 1), (.iload_n 1, 1), (.invokevirtual 350, 3), (.istore_n 3, 1), (.aload_n 0, 1), (.iload_n 1, 1), (.invokevirtual 353, 3), (.istore 4, 2), (.aload_n 0, 1), (.getfield 138, 3), (.iload_n 1, 1), (.iconst 0, 1), (.bastore, 1), (.aload_n 0, 1), (.iload_n 3, 1), (.iload 4, 2), (.invokevirtual 331, 3), (.istore 5, 2), (.aload_n 0, 1), (.getfield 141, 3), (.iload 5, 2), (.iload_n 2, 1), (.bastore, 1), (.aload_n 0, 1), (.iconst 4, 1), (.iload 5, 2), (.iconst 0, 1), (.invokevirtual 334, 3), (.return_, 1)] = true := by decide +kernel
set_option maxRecDepth 100000 in
def b_Mo_group_28 (G : GT) (l0 : Nat) (M : PH) : Option (PH) :=
  if hT M l0 = 11 then bI (f_Mo_breaks G l0 M) fun v3 M2 => (some M2) else none
set_option maxRecDepth 100000 in
set_option maxHeartbeats 4000000 in
theorem t_Mo_group_28 {G : GT} (l0 : Nat) (M : PH) : VX G mi_Mo_group 2 26 28 [some (.ref l0), none, none, none, none, none] [] M qV (b_Mo_group_28 G l0 M) := by
  unfold b_Mo_group_28
  refine V_open ok_Mo_group_28 ?_
  refine B_aload_n rfl ?_
  refine B_chk (fun t1 => ?_)
  refine C_I (vs := [.ref l0]) (st := []) (ci_V lv_Mo_239 rfl rfl t1) rfl rfl rfl (s_Mo_breaks l0 M) (fun v3 M2 => ?_)
  refine B_pop rfl ?_
  exact B_vret rfl
set_option maxRecDepth 100000 in
def b_Mo_group_64 (G : GT) (l0 : Nat) (l1 : Int32) (s0 : Int32) (M : PH) : Option (PH) :=
  if hT M l0 = 11 then bI (f_Mo_nextX G l0 l1 M) fun v3 M2 => (if hT M2 l0 = 11 then bI (f_Mo_nextY G l0 l1 M2) fun v6 M5 => (if hT M5 l0 = 11 then (hR M5 2268 l0).bind fun a8 => if hT M5 a8 = 17 then if ib l1 (hN M5 a8) = true then hb (sA M5 a8 l1.toNatClampNeg (0 : Int32)) fun M12 => (bI (f_Mo_area G l0 v3 v6 M12) fun v15 M14 => (if hT M14 l0 = 11 then (hR M14 2269 l0).bind fun a17 => if hT M14 a17 = 17 then if s0 = 0 ∨ s0 = 1 then if ib v15 (hN M14 a17) = true then hb (sA M14 a17 v15.toNatClampNeg s0) fun M22 => (bV (f_Mo_openThing G l0 (4 : Int32) v15 (0 : Int32) M22) fun M24 => (some M24)) else none else none else none else none)) else none else none else none) else none) else none
set_option maxRecDepth 100000 in
set_option maxHeartbeats 4000000 in
theorem t_Mo_group_64 {G : GT} (l0 : Nat) (l1 : Int32) (s0 : Int32) (M : PH) : VX G mi_Mo_group 2 26 64 [some (.ref l0), some (.int l1), none, none, none, none] [.int s0] M qV (b_Mo_group_64 G l0 l1 s0 M) := by
  unfold b_Mo_group_64
  refine V_open ok_Mo_group_64 ?_
  refine S_in [some (.ref l0), some (.int l1), some (.int s0), none, none, none] (by decide) rfl ?_
  refine B_aload_n rfl ?_
  refine B_iload_n rfl ?_
  refine B_chk (fun t1 => ?_)
  refine C_I (vs := [.ref l0, .int l1]) (st := []) (ci_V lv_Mo_350 rfl rfl t1) rfl rfl rfl (s_Mo_nextX l0 l1 M) (fun v3 M2 => ?_)
  refine S_in [some (.ref l0), some (.int l1), some (.int s0), some (.int v3), none, none] (by decide) rfl ?_
  refine B_aload_n rfl ?_
  refine B_iload_n rfl ?_
  refine B_chk (fun t4 => ?_)
  refine C_I (vs := [.ref l0, .int l1]) (st := []) (ci_V lv_Mo_353 rfl rfl t4) rfl rfl rfl (s_Mo_nextY l0 l1 M2) (fun v6 M5 => ?_)
  refine S_i [some (.ref l0), some (.int l1), some (.int s0), some (.int v3), some (.int v6), none] (by decide) rfl ?_
  refine B_aload_n rfl ?_
  refine B_chk (fun t7 => ?_)
  refine K_getR 11 68 2268 lf_Mo_138 rfl rfl t7 (fun a8 r9 => ?_)
  refine B_iload_n rfl ?_
  refine B_iconst (0 : Int32) ic_0 ?_
  refine B_chk (fun t10 => ?_)
  refine K_zast t10 (Or.inl rfl) (fun M12 e11 => ?_)
  refine B_aload_n rfl ?_
  refine B_iload_n rfl ?_
  refine B_iload rfl ?_
  have h13 : hT M12 l0 = 11 := by rw [e11]; exact t7
  refine C_I (vs := [.ref l0, .int v3, .int v6]) (st := []) (ci_V lv_Mo_331 rfl rfl h13) rfl rfl rfl (s_Mo_area l0 v3 v6 M12) (fun v15 M14 => ?_)
  refine S_i [some (.ref l0), some (.int l1), some (.int s0), some (.int v3), some (.int v6), some (.int v15)] (by decide) rfl ?_
  refine B_aload_n rfl ?_
  refine B_chk (fun t16 => ?_)
  refine K_getR 11 69 2269 lf_Mo_141 rfl rfl t16 (fun a17 r18 => ?_)
  refine B_iload rfl ?_
  refine B_iload_n rfl ?_
  refine B_chk (fun t19 => ?_)
  refine B_chk (fun z20 => ?_)
  refine K_zast t19 z20 (fun M22 e21 => ?_)
  refine B_aload_n rfl ?_
  refine B_iconst (4 : Int32) ic_4 ?_
  refine B_iload rfl ?_
  refine B_iconst (0 : Int32) ic_0 ?_
  have h23 : hT M22 l0 = 11 := by rw [e21]; exact t16
  refine C_V (vs := [.ref l0, .int (4 : Int32), .int v15, .int (0 : Int32)]) (st := []) (ci_V lv_Mo_334 rfl rfl h23) rfl rfl rfl (s_Mo_openThing l0 (4 : Int32) v15 (0 : Int32) M22) (fun M24 => ?_)
  exact B_vret rfl
set_option maxRecDepth 100000 in
def b_Mo_group_63 (G : GT) (l0 : Nat) (l1 : Int32) (M : PH) : Option (PH) :=
  b_Mo_group_64 G l0 l1 (0 : Int32) M
set_option maxRecDepth 100000 in
set_option maxHeartbeats 4000000 in
theorem t_Mo_group_63 {G : GT} (l0 : Nat) (l1 : Int32) (M : PH) : VX G mi_Mo_group 2 26 63 [some (.ref l0), some (.int l1), none, none, none, none] [] M qV (b_Mo_group_63 G l0 l1 M) := by
  unfold b_Mo_group_63
  refine V_open ok_Mo_group_63 ?_
  refine B_iconst (0 : Int32) ic_0 ?_
  refine V_close ?_
  exact V_weak (ls' := [some (.ref l0), some (.int l1), none, none, none, none]) ⟨rfl, ⟨rfl, trivial⟩⟩ (t_Mo_group_64 l0 l1 (0 : Int32) M)
set_option maxRecDepth 100000 in
def f_Mo_group (G : GT) (l0 : Nat) (M : PH) : Option (PH) :=
  if hT M l0 = 11 then hb (sI M 2200 l0 (0 : Int32)) fun M3 => if hI M3 2218 l0 = 0 then (b_Mo_group_28 G l0 M3) else (if hI M3 2270 l0 = 0 then (b_Mo_group_28 G l0 M3) else (if ¬ hI M3 2256 l0 = (40 : Int32) then (vb ((hI M3 2270 l0) - (1 : Int32)) fun v5 => (hR M3 2268 l0).bind fun a6 => if hT M3 a6 = 17 then if ib v5 (hN M3 a6) = true then if hA M3 a6 v5.toNatClampNeg = 0 then (b_Mo_group_63 G l0 v5 M3) else ((hR M3 2267 l0).bind fun a9 => if hT M3 a9 = 17 then if ib v5 (hN M3 a9) = true then if hA M3 a9 v5.toNatClampNeg = 0 then (b_Mo_group_63 G l0 v5 M3) else (b_Mo_group_64 G l0 v5 (1 : Int32) M3) else none else none) else none else none) else (b_Mo_group_28 G l0 M3))) else none
set_option maxRecDepth 100000 in
set_option maxHeartbeats 4000000 in
theorem s_Mo_group {G : GT} (l0 : Nat) (M : PH) : VX G mi_Mo_group 2 26 0 [some (.ref l0), none, none, none, none, none] [] M qV (f_Mo_group G l0 M) := by
  unfold f_Mo_group
  refine V_open ok_Mo_group_0 ?_
  refine B_aload_n rfl ?_
  refine B_iconst (0 : Int32) ic_0 ?_
  refine B_chk (fun t1 => ?_)
  refine K_putI 11 0 2200 lf_Mo_175 rfl (Or.inl rfl) rfl t1 (fun M3 e2 => ?_)
  refine B_aload_n rfl ?_
  have h4 : hT M3 l0 = 11 := by rw [e2]; exact t1
  refine K_getI 11 18 2218 lf_Mo_236 rfl rfl h4 ?_
  refine B_eq (tgt := 28) (by decide) ?_ ?_
  · skip
    exact V_weak (ls' := [some (.ref l0), none, none, none, none, none]) ⟨rfl, trivial⟩ (t_Mo_group_28 l0 M3)
  · skip
    refine B_aload_n rfl ?_
    refine K_getI 11 70 2270 lf_Mo_285 rfl rfl h4 ?_
    refine B_eq (tgt := 28) (by decide) ?_ ?_
    · skip
      exact V_weak (ls' := [some (.ref l0), none, none, none, none, none]) ⟨rfl, trivial⟩ (t_Mo_group_28 l0 M3)
    · skip
      refine B_aload_n rfl ?_
      refine K_getI 11 56 2256 lf_Mo_279 rfl rfl h4 ?_
      refine B_bipush (40 : Int32) bp_40 ?_
      refine B_ine (tgt := 34) (by decide) ?_ ?_
      · skip
        refine V_open ok_Mo_group_34 ?_
        refine B_aload_n rfl ?_
        refine K_getI 11 70 2270 lf_Mo_285 rfl rfl h4 ?_
        refine B_iconst (1 : Int32) ic_1 ?_
        refine B_isub ?_
        refine B_vb (fun v5 => ?_)
        refine S_in [some (.ref l0), some (.int v5), none, none, none, none] (by decide) rfl ?_
        refine B_aload_n rfl ?_
        refine K_getR 11 68 2268 lf_Mo_138 rfl rfl h4 (fun a6 r7 => ?_)
        refine B_iload_n rfl ?_
        refine B_chk (fun t8 => ?_)
        refine K_zald t8 ?_
        refine B_eq (tgt := 63) (by decide) ?_ ?_
        · skip
          exact V_weak (ls' := [some (.ref l0), some (.int v5), none, none, none, none]) ⟨rfl, ⟨rfl, trivial⟩⟩ (t_Mo_group_63 l0 v5 M3)
        · skip
          refine B_aload_n rfl ?_
          refine K_getR 11 67 2267 lf_Mo_135 rfl rfl h4 (fun a9 r10 => ?_)
          refine B_iload_n rfl ?_
          refine B_chk (fun t11 => ?_)
          refine K_zald t11 ?_
          refine B_eq (tgt := 63) (by decide) ?_ ?_
          · skip
            exact V_weak (ls' := [some (.ref l0), some (.int v5), none, none, none, none]) ⟨rfl, ⟨rfl, trivial⟩⟩ (t_Mo_group_63 l0 v5 M3)
          · skip
            refine B_iconst (1 : Int32) ic_1 ?_
            refine B_goto (tgt := 64) (by decide) ?_
            exact V_weak (ls' := [some (.ref l0), some (.int v5), none, none, none, none]) ⟨rfl, ⟨rfl, trivial⟩⟩ (t_Mo_group_64 l0 v5 (1 : Int32) M3)
      · skip
        refine V_close ?_
        exact V_weak (ls' := [some (.ref l0), none, none, none, none, none]) ⟨rfl, trivial⟩ (t_Mo_group_28 l0 M3)

-- PF_near
theorem ok_PF_near_0 : okb prog_1_method_44_code 0 [(.aload_n 0, 1), (.aload_n 0, 1), (.getfield 104, 3), (.ifCond .eq 14, 3), (.aload_n 0, 1), (.getfield 114, 3), (.ifCond .le 7, 3), (.iconst 1, 1), (.goto 4, 3)] = true := by decide +kernel
theorem ok_PF_near_19 : okb prog_1_method_44_code 19 [(.iconst 0, 1)] = true := by decide +kernel
theorem ok_PF_near_20 : okb prog_1_method_44_code 20 [(.invokevirtual 130, 3), (.aload_n 0, 1), (.invokevirtual 245, 3), (.iconst 1, 1), (.putfield 425, 3), (.return_, 1)] = true := by decide +kernel
set_option maxRecDepth 100000 in
def b_PF_near_20 (G : GT) (l0 : Nat) (s0 : Nat) (s1 : Int32) (M : PH) : Option (Nat × PH) :=
  if hT M s0 = 10 then bU (f_PF_may G s0 s1 M) fun M2 => (if hT M2 l0 = 10 then bR (f_PF_layout G l0 M2) fun a5 M4 => (if hT M4 a5 = 5 then hb (sI M4 1010 a5 (1 : Int32)) fun M8 => some (0, M8) else none) else none) else none
set_option maxRecDepth 100000 in
set_option maxHeartbeats 4000000 in
theorem t_PF_near_20 {G : GT} (l0 : Nat) (s0 : Nat) (s1 : Int32) (M : PH) : VX G mi_PF_near 7 94 20 [some (.ref l0)] [.int s1, .ref s0] M qU (b_PF_near_20 G l0 s0 s1 M) := by
  unfold b_PF_near_20
  refine V_open ok_PF_near_20 ?_
  refine B_chk (fun t1 => ?_)
  refine C_U (vs := [.ref s0, .int s1]) (st := []) rfl (ci_V lv_PF_130 rfl rfl t1) rfl rfl rfl (s_PF_may s0 s1 M) (fun M2 => ?_)
  refine B_aload_n rfl ?_
  refine B_chk (fun t3 => ?_)
  refine C_R (vs := [.ref l0]) (st := []) (ci_V lv_PF_245 rfl rfl t3) rfl rfl rfl (s_PF_layout l0 M2) (fun a5 M4 => ?_)
  refine B_iconst (1 : Int32) ic_1 ?_
  refine B_chk (fun t6 => ?_)
  refine K_putZ 5 10 1010 lf_PF_425 rfl (Or.inl rfl) rfl t6 (Or.inr rfl) (fun M8 e7 => ?_)
  exact B_uret rfl
set_option maxRecDepth 100000 in
def b_PF_near_19 (G : GT) (l0 : Nat) (s0 : Nat) (M : PH) : Option (Nat × PH) :=
  b_PF_near_20 G l0 s0 (0 : Int32) M
set_option maxRecDepth 100000 in
set_option maxHeartbeats 4000000 in
theorem t_PF_near_19 {G : GT} (l0 : Nat) (s0 : Nat) (M : PH) : VX G mi_PF_near 7 94 19 [some (.ref l0)] [.ref s0] M qU (b_PF_near_19 G l0 s0 M) := by
  unfold b_PF_near_19
  refine V_open ok_PF_near_19 ?_
  refine B_iconst (0 : Int32) ic_0 ?_
  refine V_close ?_
  exact V_weak (ls' := [some (.ref l0)]) ⟨rfl, trivial⟩ (t_PF_near_20 l0 s0 (0 : Int32) M)
set_option maxRecDepth 100000 in
def f_PF_near (G : GT) (l0 : Nat) (M : PH) : Option (Nat × PH) :=
  if hT M l0 = 10 then if hI M 2007 l0 = 0 then (b_PF_near_19 G l0 l0 M) else (if hI M 2006 l0 ≤ 0 then (b_PF_near_19 G l0 l0 M) else (b_PF_near_20 G l0 l0 (1 : Int32) M)) else none
set_option maxRecDepth 100000 in
set_option maxHeartbeats 4000000 in
theorem s_PF_near {G : GT} (l0 : Nat) (M : PH) : VX G mi_PF_near 7 94 0 [some (.ref l0)] [] M qU (f_PF_near G l0 M) := by
  unfold f_PF_near
  refine V_open ok_PF_near_0 ?_
  refine B_aload_n rfl ?_
  refine B_aload_n rfl ?_
  refine B_chk (fun t1 => ?_)
  refine K_getI 10 7 2007 lf_PF_104 rfl rfl t1 ?_
  refine B_eq (tgt := 19) (by decide) ?_ ?_
  · skip
    exact V_weak (ls' := [some (.ref l0)]) ⟨rfl, trivial⟩ (t_PF_near_19 l0 l0 M)
  · skip
    refine B_aload_n rfl ?_
    refine K_getI 10 6 2006 lf_PF_114 rfl rfl t1 ?_
    refine B_le (tgt := 19) (by decide) ?_ ?_
    · skip
      exact V_weak (ls' := [some (.ref l0)]) ⟨rfl, trivial⟩ (t_PF_near_19 l0 l0 M)
    · skip
      refine B_iconst (1 : Int32) ic_1 ?_
      refine B_goto (tgt := 20) (by decide) ?_
      exact V_weak (ls' := [some (.ref l0)]) ⟨rfl, trivial⟩ (t_PF_near_20 l0 l0 (1 : Int32) M)

-- Law_near
theorem ok_Law_near_0 : okb method_17_code 0 [(.aload_n 0, 1), (.invokevirtual 65, 3), (.goto 6, 3)] = true := by decide +kernel
theorem ok_Law_near_7 : okb method_17_code 7 [(.astore_n 1, 1), (.iconst 1, 1), (.ireturn, 1)] = true := by decide +kernel
theorem ok_Law_near_10 : okb method_17_code 10 [(.iconst 0, 1), (.ireturn, 1)] = true := by decide +kernel
set_option maxRecDepth 100000 in
def f_Law_near (G : GT) (l0 : Nat) (M : PH) : Option (Int32 × PH) :=
  if hT M l0 = 10 then bG1 (f_PF_near G l0 M) (fun M2 => some ((0 : Int32), M2)) (fun M2 => some ((1 : Int32), M2)) else none
set_option maxRecDepth 100000 in
set_option maxHeartbeats 4000000 in
theorem s_Law_near {G : GT} (l0 : Nat) (M : PH) : VX G mi_Law_near 8 106 0 [some (.ref l0), none] [] M qI (f_Law_near G l0 M) := by
  unfold f_Law_near
  refine V_open ok_Law_near_0 ?_
  refine B_aload_n rfl ?_
  refine B_chk (fun t1 => ?_)
  refine C_G1 (vs := [.ref l0]) (st := []) 4 7 13 (by decide) rfl lh_Law_13 (ci_V lv_Law_65 rfl rfl t1) rfl rfl rfl (s_PF_near l0 M) (fun M2 => ?_) (fun ah M2 => ?_)
  · skip
    refine B_goto (tgt := 10) (by decide) ?_
    refine V_open ok_Law_near_10 ?_
    refine B_iconst (0 : Int32) ic_0 ?_
    exact B_iret rfl
  · skip
    refine V_open ok_Law_near_7 ?_
    refine S_an [some (.ref l0), some (.ref ah)] (by decide) rfl ?_
    refine B_iconst (1 : Int32) ic_1 ?_
    exact B_iret rfl

-- Mo_near
theorem ok_Mo_near_0 : okb prog_13_method_61_code 0 [(.aload_n 0, 1), (.iconst 0, 1), (.putfield 175, 3), (.aload_n 0, 1), (.getfield 236, 3), (.ifCond .eq 10, 3), (.aload_n 0, 1), (.getfield 285, 3), (.ifCond .ne 11, 3)] = true := by decide +kernel
theorem ok_Mo_near_19 : okb prog_13_method_61_code 19 [(.aload_n 0, 1), (.invokevirtual 239, 3), (.pop, 1), (.goto 15, 3)] = true := by decide +kernel
theorem ok_Mo_near_27 : okb prog_13_method_61_code 27 [(.aload_n 0, 1), (.getfield 138, 3), (.aload_n 0, 1), (.getfield 285, 3), (.iconst 1, 1), (.isub, 1), (.iconst 1, 1), (.bastore, 1), (.return_, 1)] = true := by decide +kernel
theorem ok_Mo_near_39 : okb prog_13_method_61_code 39 [(.return_, 1)] = true := by decide +kernel
set_option maxRecDepth 100000 in
def b_Mo_near_19 (G : GT) (l0 : Nat) (M : PH) : Option (PH) :=
  if hT M l0 = 11 then bI (f_Mo_breaks G l0 M) fun v3 M2 => (some M2) else none
set_option maxRecDepth 100000 in
set_option maxHeartbeats 4000000 in
theorem t_Mo_near_19 {G : GT} (l0 : Nat) (M : PH) : VX G mi_Mo_near 2 26 19 [some (.ref l0)] [] M qV (b_Mo_near_19 G l0 M) := by
  unfold b_Mo_near_19
  refine V_open ok_Mo_near_19 ?_
  refine B_aload_n rfl ?_
  refine B_chk (fun t1 => ?_)
  refine C_I (vs := [.ref l0]) (st := []) (ci_V lv_Mo_239 rfl rfl t1) rfl rfl rfl (s_Mo_breaks l0 M) (fun v3 M2 => ?_)
  refine B_pop rfl ?_
  refine B_goto (tgt := 39) (by decide) ?_
  refine V_open ok_Mo_near_39 ?_
  exact B_vret rfl
set_option maxRecDepth 100000 in
def f_Mo_near (G : GT) (l0 : Nat) (M : PH) : Option (PH) :=
  if hT M l0 = 11 then hb (sI M 2200 l0 (0 : Int32)) fun M3 => if hI M3 2218 l0 = 0 then (b_Mo_near_19 G l0 M3) else (if ¬ hI M3 2270 l0 = 0 then ((hR M3 2268 l0).bind fun a5 => if hT M3 a5 = 17 then if ib ((hI M3 2270 l0) - (1 : Int32)) (hN M3 a5) = true then hb (sA M3 a5 ((hI M3 2270 l0) - (1 : Int32)).toNatClampNeg (1 : Int32)) fun M9 => (some M9) else none else none) else (b_Mo_near_19 G l0 M3)) else none
set_option maxRecDepth 100000 in
set_option maxHeartbeats 4000000 in
theorem s_Mo_near {G : GT} (l0 : Nat) (M : PH) : VX G mi_Mo_near 2 26 0 [some (.ref l0)] [] M qV (f_Mo_near G l0 M) := by
  unfold f_Mo_near
  refine V_open ok_Mo_near_0 ?_
  refine B_aload_n rfl ?_
  refine B_iconst (0 : Int32) ic_0 ?_
  refine B_chk (fun t1 => ?_)
  refine K_putI 11 0 2200 lf_Mo_175 rfl (Or.inl rfl) rfl t1 (fun M3 e2 => ?_)
  refine B_aload_n rfl ?_
  have h4 : hT M3 l0 = 11 := by rw [e2]; exact t1
  refine K_getI 11 18 2218 lf_Mo_236 rfl rfl h4 ?_
  refine B_eq (tgt := 19) (by decide) ?_ ?_
  · skip
    exact V_weak (ls' := [some (.ref l0)]) ⟨rfl, trivial⟩ (t_Mo_near_19 l0 M3)
  · skip
    refine B_aload_n rfl ?_
    refine K_getI 11 70 2270 lf_Mo_285 rfl rfl h4 ?_
    refine B_ne (tgt := 27) (by decide) ?_ ?_
    · skip
      refine V_open ok_Mo_near_27 ?_
      refine B_aload_n rfl ?_
      refine K_getR 11 68 2268 lf_Mo_138 rfl rfl h4 (fun a5 r6 => ?_)
      refine B_aload_n rfl ?_
      refine K_getI 11 70 2270 lf_Mo_285 rfl rfl h4 ?_
      refine B_iconst (1 : Int32) ic_1 ?_
      refine B_isub ?_
      refine B_iconst (1 : Int32) ic_1 ?_
      refine B_chk (fun t7 => ?_)
      refine K_zast t7 (Or.inr rfl) (fun M9 e8 => ?_)
      exact B_vret rfl
    · skip
      refine V_close ?_
      exact V_weak (ls' := [some (.ref l0)]) ⟨rfl, trivial⟩ (t_Mo_near_19 l0 M3)

-- PF_look
theorem ok_PF_look_0 : okb prog_1_method_45_code 0 [(.iload_n 1, 1), (.tableswitch 199 0 14 #[75, 83, 91, 99, 107, 112, 120, 128, 136, 144, 149, 165, 173, 181, 186], 75)] = true := by decide +kernel
theorem ok_PF_look_76 : okb prog_1_method_45_code 76 [(.aload_n 0, 1), (.getfield 26, 3), (.getfield 185, 3), (.ireturn, 1)] = true := by decide +kernel
theorem ok_PF_look_84 : okb prog_1_method_45_code 84 [(.aload_n 0, 1), (.getfield 26, 3), (.getfield 354, 3), (.ireturn, 1)] = true := by decide +kernel
theorem ok_PF_look_92 : okb prog_1_method_45_code 92 [(.aload_n 0, 1), (.getfield 26, 3), (.getfield 363, 3), (.ireturn, 1)] = true := by decide +kernel
theorem ok_PF_look_100 : okb prog_1_method_45_code 100 [(.aload_n 0, 1), (.getfield 26, 3), (.getfield 365, 3), (.ireturn, 1)] = true := by decide +kernel
theorem ok_PF_look_108 : okb prog_1_method_45_code 108 [(.aload_n 0, 1), (.getfield 46, 3), (.ireturn, 1)] = true := by decide +kernel
theorem ok_PF_look_113 : okb prog_1_method_45_code 113 [(.aload_n 0, 1), (.getfield 72, 3), (.getfield 191, 3), (.ireturn, 1)] = true := by decide +kernel
theorem ok_PF_look_121 : okb prog_1_method_45_code 121 [(.aload_n 0, 1), (.getfield 72, 3), (.getfield 194, 3), (.ireturn, 1)] = true := by decide +kernel
theorem ok_PF_look_129 : okb prog_1_method_45_code 129 [(.aload_n 0, 1), (.getfield 72, 3), (.getfield 197, 3), (.ireturn, 1)] = true := by decide +kernel
theorem ok_PF_look_137 : okb prog_1_method_45_code 137 [(.aload_n 0, 1), (.getfield 72, 3), (.getfield 200, 3), (.ireturn, 1)] = true := by decide +kernel
theorem ok_PF_look_145 : okb prog_1_method_45_code 145 [(.aload_n 0, 1), (.getfield 50, 3), (.ireturn, 1)] = true := by decide +kernel
theorem ok_PF_look_150 : okb prog_1_method_45_code 150 [(.aload_n 0, 1), (.getfield 10, 3), (.getfield 188, 3), (.ifCond .eq 7, 3), (.iconst 1, 1), (.goto 4, 3)] = true := by decide +kernel
theorem ok_PF_look_164 : okb prog_1_method_45_code 164 [(.iconst 0, 1), (.ireturn, 1)] = true := by decide +kernel
theorem ok_PF_look_165 : okb prog_1_method_45_code 165 [(.ireturn, 1)] = true := by decide +kernel
theorem ok_PF_look_166 : okb prog_1_method_45_code 166 [(.aload_n 0, 1), (.getfield 10, 3), (.getfield 428, 3), (.ireturn, 1)] = true := by decide +kernel
theorem ok_PF_look_174 : okb prog_1_method_45_code 174 [(.aload_n 0, 1), (.getfield 19, 3), (.getfield 431, 3), (.ireturn, 1)] = true := by decide +kernel
theorem ok_PF_look_182 : okb prog_1_method_45_code 182 [(.aload_n 0, 1), (.getfield 114, 3), (.ireturn, 1)] = true := by decide +kernel
theorem ok_PF_look_187 : okb prog_1_method_45_code 187 [(.aload_n 0, 1), (.getfield 104, 3), (.ifCond .eq 7, 3), (.iconst 1, 1), (.goto 4, 3)] = true := by decide +kernel
theorem ok_PF_look_198 : okb prog_1_method_45_code 198 [(.iconst 0, 1), (.ireturn, 1)] = true := by decide +kernel
theorem ok_PF_look_199 : okb prog_1_method_45_code 199 [(.ireturn, 1)] = true := by decide +kernel
theorem ok_PF_look_200 : okb prog_1_method_45_code 200 [(.iconst (-1), 1), (.ireturn, 1)] = true := by decide +kernel
set_option maxRecDepth 100000 in
def f_PF_look (G : GT) (l0 : Nat) (l1 : Int32) (M : PH) : Option (Int32 × PH) :=
  sw l1 0 [if hT M l0 = 10 then (hR M 2002 l0).bind fun a2 => if hT M a2 = 9 then some (hI M 1800 a2, M) else none else none, if hT M l0 = 10 then (hR M 2002 l0).bind fun a6 => if hT M a6 = 9 then some (hI M 1801 a6, M) else none else none, if hT M l0 = 10 then (hR M 2002 l0).bind fun a10 => if hT M a10 = 9 then some (hI M 1802 a10, M) else none else none, if hT M l0 = 10 then (hR M 2002 l0).bind fun a14 => if hT M a14 = 9 then some (hI M 1803 a14, M) else none else none, if hT M l0 = 10 then some (hI M 2008 l0, M) else none, if hT M l0 = 10 then (hR M 2020 l0).bind fun a19 => if hT M a19 = 1 then some (hI M 200 a19, M) else none else none, if hT M l0 = 10 then (hR M 2020 l0).bind fun a23 => if hT M a23 = 1 then some (hI M 201 a23, M) else none else none, if hT M l0 = 10 then (hR M 2020 l0).bind fun a27 => if hT M a27 = 1 then some (hI M 202 a27, M) else none else none, if hT M l0 = 10 then (hR M 2020 l0).bind fun a31 => if hT M a31 = 1 then some (hI M 203 a31, M) else none else none, if hT M l0 = 10 then some (hI M 2013 l0, M) else none, if hT M l0 = 10 then (hR M 2000 l0).bind fun a36 => if hT M a36 = 2 then if hI M 409 a36 = 0 then (some ((0 : Int32), M)) else (some ((1 : Int32), M)) else none else none, if hT M l0 = 10 then (hR M 2000 l0).bind fun a40 => if hT M a40 = 2 then some (hI M 404 a40, M) else none else none, if hT M l0 = 10 then (hR M 2001 l0).bind fun a44 => if hT M a44 = 3 then some (hI M 605 a44, M) else none else none, if hT M l0 = 10 then some (hI M 2006 l0, M) else none, if hT M l0 = 10 then if hI M 2007 l0 = 0 then (some ((0 : Int32), M)) else (some ((1 : Int32), M)) else none] (some ((-1 : Int32), M))
set_option maxRecDepth 100000 in
set_option maxHeartbeats 4000000 in
theorem s_PF_look {G : GT} (l0 : Nat) (l1 : Int32) (M : PH) : VX G mi_PF_look 0 0 0 [some (.ref l0), some (.int l1)] [] M qI (f_PF_look G l0 l1 M) := by
  unfold f_PF_look
  refine V_open ok_PF_look_0 ?_
  refine B_iload_n rfl ?_
  refine B_tsw [76, 84, 92, 100, 108, 113, 121, 129, 137, 145, 150, 166, 174, 182, 187] 200 (by decide) (by decide) (by decide) ?_ ⟨?_, ?_, ?_, ?_, ?_, ?_, ?_, ?_, ?_, ?_, ?_, ?_, ?_, ?_, ?_, trivial⟩
  · skip
    refine V_open ok_PF_look_200 ?_
    refine B_iconst (-1 : Int32) ic_m1 ?_
    exact B_iret rfl
  · skip
    refine V_open ok_PF_look_76 ?_
    refine B_aload_n rfl ?_
    refine B_chk (fun t1 => ?_)
    refine K_getR 10 2 2002 lf_PF_26 rfl rfl t1 (fun a2 r3 => ?_)
    refine B_chk (fun t4 => ?_)
    refine K_getI 9 0 1800 lf_PF_185 rfl rfl t4 ?_
    exact B_iret rfl
  · skip
    refine V_open ok_PF_look_84 ?_
    refine B_aload_n rfl ?_
    refine B_chk (fun t5 => ?_)
    refine K_getR 10 2 2002 lf_PF_26 rfl rfl t5 (fun a6 r7 => ?_)
    refine B_chk (fun t8 => ?_)
    refine K_getI 9 1 1801 lf_PF_354 rfl rfl t8 ?_
    exact B_iret rfl
  · skip
    refine V_open ok_PF_look_92 ?_
    refine B_aload_n rfl ?_
    refine B_chk (fun t9 => ?_)
    refine K_getR 10 2 2002 lf_PF_26 rfl rfl t9 (fun a10 r11 => ?_)
    refine B_chk (fun t12 => ?_)
    refine K_getI 9 2 1802 lf_PF_363 rfl rfl t12 ?_
    exact B_iret rfl
  · skip
    refine V_open ok_PF_look_100 ?_
    refine B_aload_n rfl ?_
    refine B_chk (fun t13 => ?_)
    refine K_getR 10 2 2002 lf_PF_26 rfl rfl t13 (fun a14 r15 => ?_)
    refine B_chk (fun t16 => ?_)
    refine K_getI 9 3 1803 lf_PF_365 rfl rfl t16 ?_
    exact B_iret rfl
  · skip
    refine V_open ok_PF_look_108 ?_
    refine B_aload_n rfl ?_
    refine B_chk (fun t17 => ?_)
    refine K_getI 10 8 2008 lf_PF_46 rfl rfl t17 ?_
    exact B_iret rfl
  · skip
    refine V_open ok_PF_look_113 ?_
    refine B_aload_n rfl ?_
    refine B_chk (fun t18 => ?_)
    refine K_getR 10 20 2020 lf_PF_72 rfl rfl t18 (fun a19 r20 => ?_)
    refine B_chk (fun t21 => ?_)
    refine K_getI 1 0 200 lf_PF_191 rfl rfl t21 ?_
    exact B_iret rfl
  · skip
    refine V_open ok_PF_look_121 ?_
    refine B_aload_n rfl ?_
    refine B_chk (fun t22 => ?_)
    refine K_getR 10 20 2020 lf_PF_72 rfl rfl t22 (fun a23 r24 => ?_)
    refine B_chk (fun t25 => ?_)
    refine K_getI 1 1 201 lf_PF_194 rfl rfl t25 ?_
    exact B_iret rfl
  · skip
    refine V_open ok_PF_look_129 ?_
    refine B_aload_n rfl ?_
    refine B_chk (fun t26 => ?_)
    refine K_getR 10 20 2020 lf_PF_72 rfl rfl t26 (fun a27 r28 => ?_)
    refine B_chk (fun t29 => ?_)
    refine K_getI 1 2 202 lf_PF_197 rfl rfl t29 ?_
    exact B_iret rfl
  · skip
    refine V_open ok_PF_look_137 ?_
    refine B_aload_n rfl ?_
    refine B_chk (fun t30 => ?_)
    refine K_getR 10 20 2020 lf_PF_72 rfl rfl t30 (fun a31 r32 => ?_)
    refine B_chk (fun t33 => ?_)
    refine K_getI 1 3 203 lf_PF_200 rfl rfl t33 ?_
    exact B_iret rfl
  · skip
    refine V_open ok_PF_look_145 ?_
    refine B_aload_n rfl ?_
    refine B_chk (fun t34 => ?_)
    refine K_getI 10 13 2013 lf_PF_50 rfl rfl t34 ?_
    exact B_iret rfl
  · skip
    refine V_open ok_PF_look_150 ?_
    refine B_aload_n rfl ?_
    refine B_chk (fun t35 => ?_)
    refine K_getR 10 0 2000 lf_PF_10 rfl rfl t35 (fun a36 r37 => ?_)
    refine B_chk (fun t38 => ?_)
    refine K_getI 2 9 409 lf_PF_188 rfl rfl t38 ?_
    refine B_eq (tgt := 164) (by decide) ?_ ?_
    · skip
      refine V_open ok_PF_look_164 ?_
      refine B_iconst (0 : Int32) ic_0 ?_
      exact B_iret rfl
    · skip
      refine B_iconst (1 : Int32) ic_1 ?_
      refine B_goto (tgt := 165) (by decide) ?_
      refine V_open ok_PF_look_165 ?_
      exact B_iret rfl
  · skip
    refine V_open ok_PF_look_166 ?_
    refine B_aload_n rfl ?_
    refine B_chk (fun t39 => ?_)
    refine K_getR 10 0 2000 lf_PF_10 rfl rfl t39 (fun a40 r41 => ?_)
    refine B_chk (fun t42 => ?_)
    refine K_getI 2 4 404 lf_PF_428 rfl rfl t42 ?_
    exact B_iret rfl
  · skip
    refine V_open ok_PF_look_174 ?_
    refine B_aload_n rfl ?_
    refine B_chk (fun t43 => ?_)
    refine K_getR 10 1 2001 lf_PF_19 rfl rfl t43 (fun a44 r45 => ?_)
    refine B_chk (fun t46 => ?_)
    refine K_getI 3 5 605 lf_PF_431 rfl rfl t46 ?_
    exact B_iret rfl
  · skip
    refine V_open ok_PF_look_182 ?_
    refine B_aload_n rfl ?_
    refine B_chk (fun t47 => ?_)
    refine K_getI 10 6 2006 lf_PF_114 rfl rfl t47 ?_
    exact B_iret rfl
  · skip
    refine V_open ok_PF_look_187 ?_
    refine B_aload_n rfl ?_
    refine B_chk (fun t48 => ?_)
    refine K_getI 10 7 2007 lf_PF_104 rfl rfl t48 ?_
    refine B_eq (tgt := 198) (by decide) ?_ ?_
    · skip
      refine V_open ok_PF_look_198 ?_
      refine B_iconst (0 : Int32) ic_0 ?_
      exact B_iret rfl
    · skip
      refine B_iconst (1 : Int32) ic_1 ?_
      refine B_goto (tgt := 199) (by decide) ?_
      refine V_open ok_PF_look_199 ?_
      exact B_iret rfl

-- Mo_look
theorem ok_Mo_look_0 : okb prog_13_method_62_code 0 [(.aload_n 0, 1), (.iconst 0, 1), (.putfield 175, 3), (.iload_n 1, 1), (.tableswitch 154 0 14 #[74, 79, 84, 89, 94, 99, 99, 99, 99, 108, 113, 126, 131, 136, 141], 74)] = true := by decide +kernel
theorem ok_Mo_look_80 : okb prog_13_method_62_code 80 [(.aload_n 0, 1), (.getfield 255, 3), (.ireturn, 1)] = true := by decide +kernel
theorem ok_Mo_look_85 : okb prog_13_method_62_code 85 [(.aload_n 0, 1), (.getfield 264, 3), (.ireturn, 1)] = true := by decide +kernel
theorem ok_Mo_look_90 : okb prog_13_method_62_code 90 [(.aload_n 0, 1), (.getfield 294, 3), (.ireturn, 1)] = true := by decide +kernel
theorem ok_Mo_look_95 : okb prog_13_method_62_code 95 [(.aload_n 0, 1), (.getfield 291, 3), (.ireturn, 1)] = true := by decide +kernel
theorem ok_Mo_look_100 : okb prog_13_method_62_code 100 [(.aload_n 0, 1), (.getfield 26, 3), (.ireturn, 1)] = true := by decide +kernel
theorem ok_Mo_look_105 : okb prog_13_method_62_code 105 [(.aload_n 0, 1), (.getfield 150, 3), (.iload_n 1, 1), (.iconst 5, 1), (.isub, 1), (.iaload, 1), (.ireturn, 1)] = true := by decide +kernel
theorem ok_Mo_look_114 : okb prog_13_method_62_code 114 [(.aload_n 0, 1), (.getfield 69, 3), (.ireturn, 1)] = true := by decide +kernel
theorem ok_Mo_look_119 : okb prog_13_method_62_code 119 [(.aload_n 0, 1), (.getfield 198, 3), (.ifCond .eq 7, 3), (.iconst 1, 1), (.goto 4, 3)] = true := by decide +kernel
theorem ok_Mo_look_130 : okb prog_13_method_62_code 130 [(.iconst 0, 1), (.ireturn, 1)] = true := by decide +kernel
theorem ok_Mo_look_131 : okb prog_13_method_62_code 131 [(.ireturn, 1)] = true := by decide +kernel
theorem ok_Mo_look_132 : okb prog_13_method_62_code 132 [(.aload_n 0, 1), (.getfield 185, 3), (.ireturn, 1)] = true := by decide +kernel
theorem ok_Mo_look_137 : okb prog_13_method_62_code 137 [(.aload_n 0, 1), (.getfield 362, 3), (.ireturn, 1)] = true := by decide +kernel
theorem ok_Mo_look_142 : okb prog_13_method_62_code 142 [(.aload_n 0, 1), (.getfield 279, 3), (.ireturn, 1)] = true := by decide +kernel
theorem ok_Mo_look_147 : okb prog_13_method_62_code 147 [(.aload_n 0, 1), (.getfield 236, 3), (.ifCond .eq 7, 3), (.iconst 1, 1), (.goto 4, 3)] = true := by decide +kernel
theorem ok_Mo_look_158 : okb prog_13_method_62_code 158 [(.iconst 0, 1), (.ireturn, 1)] = true := by decide +kernel
theorem ok_Mo_look_159 : okb prog_13_method_62_code 159 [(.ireturn, 1)] = true := by decide +kernel
theorem ok_Mo_look_160 : okb prog_13_method_62_code 160 [(.iconst (-1), 1), (.ireturn, 1)] = true := by decide +kernel
set_option maxRecDepth 100000 in
def f_Mo_look (G : GT) (l0 : Nat) (l1 : Int32) (M : PH) : Option (Int32 × PH) :=
  if hT M l0 = 11 then hb (sI M 2200 l0 (0 : Int32)) fun M3 => sw l1 0 [some (hI M3 2219 l0, M3), some (hI M3 2220 l0, M3), some (hI M3 2221 l0, M3), some (hI M3 2222 l0, M3), some (hI M3 2223 l0, M3), (hR M3 2273 l0).bind fun a10 => if hT M3 a10 = 16 then if ib (l1 - (5 : Int32)) (hN M3 a10) = true then some (hA M3 a10 (l1 - (5 : Int32)).toNatClampNeg, M3) else none else none, (hR M3 2273 l0).bind fun a14 => if hT M3 a14 = 16 then if ib (l1 - (5 : Int32)) (hN M3 a14) = true then some (hA M3 a14 (l1 - (5 : Int32)).toNatClampNeg, M3) else none else none, (hR M3 2273 l0).bind fun a18 => if hT M3 a18 = 16 then if ib (l1 - (5 : Int32)) (hN M3 a18) = true then some (hA M3 a18 (l1 - (5 : Int32)).toNatClampNeg, M3) else none else none, (hR M3 2273 l0).bind fun a22 => if hT M3 a22 = 16 then if ib (l1 - (5 : Int32)) (hN M3 a22) = true then some (hA M3 a22 (l1 - (5 : Int32)).toNatClampNeg, M3) else none else none, some (hI M3 2240 l0, M3), if hI M3 2209 l0 = 0 then (some ((0 : Int32), M3)) else (some ((1 : Int32), M3)), some (hI M3 2202 l0, M3), some (hI M3 2279 l0, M3), some (hI M3 2256 l0, M3), if hI M3 2218 l0 = 0 then (some ((0 : Int32), M3)) else (some ((1 : Int32), M3))] (some ((-1 : Int32), M3)) else none
set_option maxRecDepth 100000 in
set_option maxHeartbeats 4000000 in
theorem s_Mo_look {G : GT} (l0 : Nat) (l1 : Int32) (M : PH) : VX G mi_Mo_look 0 0 0 [some (.ref l0), some (.int l1)] [] M qI (f_Mo_look G l0 l1 M) := by
  unfold f_Mo_look
  refine V_open ok_Mo_look_0 ?_
  refine B_aload_n rfl ?_
  refine B_iconst (0 : Int32) ic_0 ?_
  refine B_chk (fun t1 => ?_)
  refine K_putI 11 0 2200 lf_Mo_175 rfl (Or.inl rfl) rfl t1 (fun M3 e2 => ?_)
  refine B_iload_n rfl ?_
  refine B_tsw [80, 85, 90, 95, 100, 105, 105, 105, 105, 114, 119, 132, 137, 142, 147] 160 (by decide) (by decide) (by decide) ?_ ⟨?_, ?_, ?_, ?_, ?_, ?_, ?_, ?_, ?_, ?_, ?_, ?_, ?_, ?_, ?_, trivial⟩
  · skip
    refine V_open ok_Mo_look_160 ?_
    refine B_iconst (-1 : Int32) ic_m1 ?_
    exact B_iret rfl
  · skip
    refine V_open ok_Mo_look_80 ?_
    refine B_aload_n rfl ?_
    have h4 : hT M3 l0 = 11 := by rw [e2]; exact t1
    refine K_getI 11 19 2219 lf_Mo_255 rfl rfl h4 ?_
    exact B_iret rfl
  · skip
    refine V_open ok_Mo_look_85 ?_
    refine B_aload_n rfl ?_
    have h5 : hT M3 l0 = 11 := by rw [e2]; exact t1
    refine K_getI 11 20 2220 lf_Mo_264 rfl rfl h5 ?_
    exact B_iret rfl
  · skip
    refine V_open ok_Mo_look_90 ?_
    refine B_aload_n rfl ?_
    have h6 : hT M3 l0 = 11 := by rw [e2]; exact t1
    refine K_getI 11 21 2221 lf_Mo_294 rfl rfl h6 ?_
    exact B_iret rfl
  · skip
    refine V_open ok_Mo_look_95 ?_
    refine B_aload_n rfl ?_
    have h7 : hT M3 l0 = 11 := by rw [e2]; exact t1
    refine K_getI 11 22 2222 lf_Mo_291 rfl rfl h7 ?_
    exact B_iret rfl
  · skip
    refine V_open ok_Mo_look_100 ?_
    refine B_aload_n rfl ?_
    have h8 : hT M3 l0 = 11 := by rw [e2]; exact t1
    refine K_getI 11 23 2223 lf_Mo_26 rfl rfl h8 ?_
    exact B_iret rfl
  · skip
    refine V_open ok_Mo_look_105 ?_
    refine B_aload_n rfl ?_
    have h9 : hT M3 l0 = 11 := by rw [e2]; exact t1
    refine K_getR 11 73 2273 lf_Mo_150 rfl rfl h9 (fun a10 r11 => ?_)
    refine B_iload_n rfl ?_
    refine B_iconst (5 : Int32) ic_5 ?_
    refine B_isub ?_
    refine B_chk (fun t12 => ?_)
    refine K_iald t12 ?_
    exact B_iret rfl
  · skip
    refine V_open ok_Mo_look_105 ?_
    refine B_aload_n rfl ?_
    have h13 : hT M3 l0 = 11 := by rw [e2]; exact t1
    refine K_getR 11 73 2273 lf_Mo_150 rfl rfl h13 (fun a14 r15 => ?_)
    refine B_iload_n rfl ?_
    refine B_iconst (5 : Int32) ic_5 ?_
    refine B_isub ?_
    refine B_chk (fun t16 => ?_)
    refine K_iald t16 ?_
    exact B_iret rfl
  · skip
    refine V_open ok_Mo_look_105 ?_
    refine B_aload_n rfl ?_
    have h17 : hT M3 l0 = 11 := by rw [e2]; exact t1
    refine K_getR 11 73 2273 lf_Mo_150 rfl rfl h17 (fun a18 r19 => ?_)
    refine B_iload_n rfl ?_
    refine B_iconst (5 : Int32) ic_5 ?_
    refine B_isub ?_
    refine B_chk (fun t20 => ?_)
    refine K_iald t20 ?_
    exact B_iret rfl
  · skip
    refine V_open ok_Mo_look_105 ?_
    refine B_aload_n rfl ?_
    have h21 : hT M3 l0 = 11 := by rw [e2]; exact t1
    refine K_getR 11 73 2273 lf_Mo_150 rfl rfl h21 (fun a22 r23 => ?_)
    refine B_iload_n rfl ?_
    refine B_iconst (5 : Int32) ic_5 ?_
    refine B_isub ?_
    refine B_chk (fun t24 => ?_)
    refine K_iald t24 ?_
    exact B_iret rfl
  · skip
    refine V_open ok_Mo_look_114 ?_
    refine B_aload_n rfl ?_
    have h25 : hT M3 l0 = 11 := by rw [e2]; exact t1
    refine K_getI 11 40 2240 lf_Mo_69 rfl rfl h25 ?_
    exact B_iret rfl
  · skip
    refine V_open ok_Mo_look_119 ?_
    refine B_aload_n rfl ?_
    have h26 : hT M3 l0 = 11 := by rw [e2]; exact t1
    refine K_getI 11 9 2209 lf_Mo_198 rfl rfl h26 ?_
    refine B_eq (tgt := 130) (by decide) ?_ ?_
    · skip
      refine V_open ok_Mo_look_130 ?_
      refine B_iconst (0 : Int32) ic_0 ?_
      exact B_iret rfl
    · skip
      refine B_iconst (1 : Int32) ic_1 ?_
      refine B_goto (tgt := 131) (by decide) ?_
      refine V_open ok_Mo_look_131 ?_
      exact B_iret rfl
  · skip
    refine V_open ok_Mo_look_132 ?_
    refine B_aload_n rfl ?_
    have h27 : hT M3 l0 = 11 := by rw [e2]; exact t1
    refine K_getI 11 2 2202 lf_Mo_185 rfl rfl h27 ?_
    exact B_iret rfl
  · skip
    refine V_open ok_Mo_look_137 ?_
    refine B_aload_n rfl ?_
    have h28 : hT M3 l0 = 11 := by rw [e2]; exact t1
    refine K_getI 11 79 2279 lf_Mo_362 rfl rfl h28 ?_
    exact B_iret rfl
  · skip
    refine V_open ok_Mo_look_142 ?_
    refine B_aload_n rfl ?_
    have h29 : hT M3 l0 = 11 := by rw [e2]; exact t1
    refine K_getI 11 56 2256 lf_Mo_279 rfl rfl h29 ?_
    exact B_iret rfl
  · skip
    refine V_open ok_Mo_look_147 ?_
    refine B_aload_n rfl ?_
    have h30 : hT M3 l0 = 11 := by rw [e2]; exact t1
    refine K_getI 11 18 2218 lf_Mo_236 rfl rfl h30 ?_
    refine B_eq (tgt := 158) (by decide) ?_ ?_
    · skip
      refine V_open ok_Mo_look_158 ?_
      refine B_iconst (0 : Int32) ic_0 ?_
      exact B_iret rfl
    · skip
      refine B_iconst (1 : Int32) ic_1 ?_
      refine B_goto (tgt := 159) (by decide) ?_
      refine V_open ok_Mo_look_159 ?_
      exact B_iret rfl

-- PF_placeOf
theorem ok_PF_placeOf_0 : okb prog_1_method_46_code 0 [(.iconst 0, 1), (.istore_n 2, 1)] = true := by decide +kernel
theorem ok_PF_placeOf_2 : okb prog_1_method_46_code 2 [(.iload_n 2, 1), (.bipush 8, 2), (.if_icmp .ge 19, 3), (.aload_n 0, 1), (.getfield 36, 3), (.iload_n 2, 1), (.iaload, 1), (.iload_n 1, 1), (.if_icmp .eq 9, 3), (.iinc 2 1, 3), (.goto (-19), 3)] = true := by decide +kernel
theorem ok_PF_placeOf_24 : okb prog_1_method_46_code 24 [(.iload_n 2, 1), (.ireturn, 1)] = true := by decide +kernel
set_option maxRecDepth 100000 in
def b_PF_placeOf_2 (G : GT) (k2 : Nat → Int32 → Int32 → PH → Option (Int32 × PH)) (l0 : Nat) (l1 : Int32) (l2 : Int32) (M : PH) : Option (Int32 × PH) :=
  if (8 : Int32) ≤ l2 then (some (l2, M)) else (if hT M l0 = 10 then (hR M 2004 l0).bind fun a2 => if hT M a2 = 16 then if ib l2 (hN M a2) = true then if hA M a2 l2.toNatClampNeg = l1 then (some (l2, M)) else (k2 l0 l1 (l2 + (1 : Int32)) M) else none else none else none)
set_option maxRecDepth 100000 in
set_option maxHeartbeats 4000000 in
theorem t_PF_placeOf_2 {G : GT} {k2 : Nat → Int32 → Int32 → PH → Option (Int32 × PH)} (hk2 : ∀ (l0 : Nat) (l1 : Int32) (l2 : Int32) (M : PH), VX G mi_PF_placeOf 0 0 2 [some (.ref l0), some (.int l1), some (.int l2)] [] M qI (k2 l0 l1 l2 M)) (l0 : Nat) (l1 : Int32) (l2 : Int32) (M : PH) : VX G mi_PF_placeOf 0 0 2 [some (.ref l0), some (.int l1), some (.int l2)] [] M qI (b_PF_placeOf_2 G k2 l0 l1 l2 M) := by
  unfold b_PF_placeOf_2
  refine V_open ok_PF_placeOf_2 ?_
  refine B_iload_n rfl ?_
  refine B_bipush (8 : Int32) bp_8 ?_
  refine B_ige (tgt := 24) (by decide) ?_ ?_
  · skip
    refine V_open ok_PF_placeOf_24 ?_
    refine B_iload_n rfl ?_
    exact B_iret rfl
  · skip
    refine B_aload_n rfl ?_
    refine B_chk (fun t1 => ?_)
    refine K_getR 10 4 2004 lf_PF_36 rfl rfl t1 (fun a2 r3 => ?_)
    refine B_iload_n rfl ?_
    refine B_chk (fun t4 => ?_)
    refine K_iald t4 ?_
    refine B_iload_n rfl ?_
    refine B_ieq (tgt := 24) (by decide) ?_ ?_
    · skip
      refine V_open ok_PF_placeOf_24 ?_
      refine B_iload_n rfl ?_
      exact B_iret rfl
    · skip
      refine S_inc (1 : Int32) [some (.ref l0), some (.int l1), some (.int (l2 + (1 : Int32)))] ic_1 rfl (by decide) rfl ?_
      refine B_goto (tgt := 2) (by decide) ?_
      exact V_weak (ls' := [some (.ref l0), some (.int l1), some (.int (l2 + (1 : Int32)))]) ⟨rfl, ⟨rfl, ⟨rfl, trivial⟩⟩⟩ (hk2 l0 l1 (l2 + (1 : Int32)) M)
set_option maxRecDepth 100000 in
def w_PF_placeOf_2 (G : GT) : Nat → Nat → Int32 → Int32 → PH → Option (Int32 × PH)
  | 0 => fun _ _ _ _ => none
  | n + 1 => b_PF_placeOf_2 G (w_PF_placeOf_2 G n)
set_option maxRecDepth 100000 in
set_option maxHeartbeats 4000000 in
theorem tw_PF_placeOf_2 {G : GT} : ∀ (n : Nat) (l0 : Nat) (l1 : Int32) (l2 : Int32) (M : PH), VX G mi_PF_placeOf 0 0 2 [some (.ref l0), some (.int l1), some (.int l2)] [] M qI (w_PF_placeOf_2 G n l0 l1 l2 M)
  | 0, _, _, _, _ => X_none
  | n + 1, l0, l1, l2, M => t_PF_placeOf_2 (tw_PF_placeOf_2 n) l0 l1 l2 M
set_option maxRecDepth 100000 in
def f_PF_placeOf (G : GT) (l0 : Nat) (l1 : Int32) (M : PH) : Option (Int32 × PH) :=
  w_PF_placeOf_2 G FU l0 l1 (0 : Int32) M
set_option maxRecDepth 100000 in
set_option maxHeartbeats 4000000 in
theorem s_PF_placeOf {G : GT} (l0 : Nat) (l1 : Int32) (M : PH) : VX G mi_PF_placeOf 0 0 0 [some (.ref l0), some (.int l1), none] [] M qI (f_PF_placeOf G l0 l1 M) := by
  unfold f_PF_placeOf
  refine V_open ok_PF_placeOf_0 ?_
  refine B_iconst (0 : Int32) ic_0 ?_
  refine S_in [some (.ref l0), some (.int l1), some (.int (0 : Int32))] (by decide) rfl ?_
  refine V_close ?_
  exact V_weak (ls' := [some (.ref l0), some (.int l1), some (.int (0 : Int32))]) ⟨rfl, ⟨rfl, ⟨rfl, trivial⟩⟩⟩ (tw_PF_placeOf_2 FU l0 l1 (0 : Int32) M)

-- PF_place
theorem ok_PF_place_0 : okb prog_1_method_47_code 0 [(.iload_n 1, 1), (.ifCond .lt 9, 3), (.iload_n 1, 1), (.bipush 8, 2), (.if_icmp .le 5, 3), (.iconst (-1), 1), (.ireturn, 1)] = true := by decide +kernel
theorem ok_PF_place_10 : okb prog_1_method_47_code 10 [(.iconst (-1), 1), (.ireturn, 1)] = true := by decide +kernel
theorem ok_PF_place_12 : okb prog_1_method_47_code 12 [(.aload_n 0, 1), (.getfield 32, 3), (.iload_n 1, 1), (.aaload, 1), (.astore_n 3, 1), (.aload_n 3, 1), (.getfield 434, 3), (.ifCond .ne 29, 3), (.iload_n 2, 1), (.ifCond .lt 25, 3), (.iload_n 2, 1), (.bipush 9, 2), (.if_icmp .ge 19, 3), (.iload_n 2, 1), (.bipush 7, 2), (.if_icmp .ne 11, 3), (.aload_n 0, 1), (.iload_n 1, 1), (.invokevirtual 437, 3), (.goto 4, 3)] = true := by decide +kernel
theorem ok_PF_place_50 : okb prog_1_method_47_code 50 [(.iconst 0, 1), (.ireturn, 1)] = true := by decide +kernel
theorem ok_PF_place_51 : okb prog_1_method_47_code 51 [(.ireturn, 1)] = true := by decide +kernel
theorem ok_PF_place_52 : okb prog_1_method_47_code 52 [(.iload_n 2, 1), (.tableswitch 125 0 8 #[51, 59, 67, 72, 77, 85, 93, 106, 112], 51)] = true := by decide +kernel
theorem ok_PF_place_104 : okb prog_1_method_47_code 104 [(.aload_n 3, 1), (.getfield 182, 3), (.getfield 191, 3), (.ireturn, 1)] = true := by decide +kernel
theorem ok_PF_place_112 : okb prog_1_method_47_code 112 [(.aload_n 3, 1), (.getfield 182, 3), (.getfield 194, 3), (.ireturn, 1)] = true := by decide +kernel
theorem ok_PF_place_120 : okb prog_1_method_47_code 120 [(.aload_n 3, 1), (.getfield 323, 3), (.ireturn, 1)] = true := by decide +kernel
theorem ok_PF_place_125 : okb prog_1_method_47_code 125 [(.aload_n 3, 1), (.getfield 326, 3), (.ireturn, 1)] = true := by decide +kernel
theorem ok_PF_place_130 : okb prog_1_method_47_code 130 [(.aload_n 3, 1), (.getfield 291, 3), (.getfield 295, 3), (.ireturn, 1)] = true := by decide +kernel
theorem ok_PF_place_138 : okb prog_1_method_47_code 138 [(.aload_n 3, 1), (.getfield 291, 3), (.getfield 332, 3), (.ireturn, 1)] = true := by decide +kernel
theorem ok_PF_place_146 : okb prog_1_method_47_code 146 [(.aload_n 3, 1), (.getfield 274, 3), (.ifCond .eq 7, 3), (.iconst 1, 1), (.goto 4, 3)] = true := by decide +kernel
theorem ok_PF_place_157 : okb prog_1_method_47_code 157 [(.iconst 0, 1), (.ireturn, 1)] = true := by decide +kernel
theorem ok_PF_place_158 : okb prog_1_method_47_code 158 [(.ireturn, 1)] = true := by decide +kernel
theorem ok_PF_place_159 : okb prog_1_method_47_code 159 [(.aload_n 0, 1), (.iload_n 1, 1), (.invokevirtual 437, 3), (.ireturn, 1)] = true := by decide +kernel
theorem ok_PF_place_165 : okb prog_1_method_47_code 165 [(.aload_n 3, 1), (.getfield 123, 3), (.ifCond .eq 7, 3), (.iconst 1, 1), (.goto 4, 3)] = true := by decide +kernel
theorem ok_PF_place_176 : okb prog_1_method_47_code 176 [(.iconst 0, 1), (.ireturn, 1)] = true := by decide +kernel
theorem ok_PF_place_177 : okb prog_1_method_47_code 177 [(.ireturn, 1)] = true := by decide +kernel
theorem ok_PF_place_178 : okb prog_1_method_47_code 178 [(.iconst (-1), 1), (.ireturn, 1)] = true := by decide +kernel
set_option maxRecDepth 100000 in
def b_PF_place_52 (G : GT) (l0 : Nat) (l1 : Int32) (l2 : Int32) (l3 : Nat) (M : PH) : Option (Int32 × PH) :=
  sw l2 0 [if hT M l3 = 7 then (hR M 1401 l3).bind fun a2 => if hT M a2 = 1 then some (hI M 200 a2, M) else none else none, if hT M l3 = 7 then (hR M 1401 l3).bind fun a6 => if hT M a6 = 1 then some (hI M 201 a6, M) else none else none, if hT M l3 = 7 then some (hI M 1404 l3, M) else none, if hT M l3 = 7 then some (hI M 1405 l3, M) else none, if hT M l3 = 7 then (hR M 1402 l3).bind fun a12 => if hT M a12 = 6 then some (hI M 1200 a12, M) else none else none, if hT M l3 = 7 then (hR M 1402 l3).bind fun a16 => if hT M a16 = 6 then some (hI M 1201 a16, M) else none else none, if hT M l3 = 7 then if hI M 1408 l3 = 0 then (some ((0 : Int32), M)) else (some ((1 : Int32), M)) else none, if hT M l0 = 10 then bI (f_PF_placeOf G l0 l1 M) fun v22 M21 => (some (v22, M21)) else none, if hT M l3 = 7 then if hI M 1409 l3 = 0 then (some ((0 : Int32), M)) else (some ((1 : Int32), M)) else none] (some ((-1 : Int32), M))
set_option maxRecDepth 100000 in
set_option maxHeartbeats 4000000 in
theorem t_PF_place_52 {G : GT} (l0 : Nat) (l1 : Int32) (l2 : Int32) (l3 : Nat) (M : PH) : VX G mi_PF_place 1 14 52 [some (.ref l0), some (.int l1), some (.int l2), some (.ref l3)] [] M qI (b_PF_place_52 G l0 l1 l2 l3 M) := by
  unfold b_PF_place_52
  refine V_open ok_PF_place_52 ?_
  refine B_iload_n rfl ?_
  refine B_tsw [104, 112, 120, 125, 130, 138, 146, 159, 165] 178 (by decide) (by decide) (by decide) ?_ ⟨?_, ?_, ?_, ?_, ?_, ?_, ?_, ?_, ?_, trivial⟩
  · skip
    refine V_open ok_PF_place_178 ?_
    refine B_iconst (-1 : Int32) ic_m1 ?_
    exact B_iret rfl
  · skip
    refine V_open ok_PF_place_104 ?_
    refine B_aload_n rfl ?_
    refine B_chk (fun t1 => ?_)
    refine K_getR 7 1 1401 lf_PF_182 rfl rfl t1 (fun a2 r3 => ?_)
    refine B_chk (fun t4 => ?_)
    refine K_getI 1 0 200 lf_PF_191 rfl rfl t4 ?_
    exact B_iret rfl
  · skip
    refine V_open ok_PF_place_112 ?_
    refine B_aload_n rfl ?_
    refine B_chk (fun t5 => ?_)
    refine K_getR 7 1 1401 lf_PF_182 rfl rfl t5 (fun a6 r7 => ?_)
    refine B_chk (fun t8 => ?_)
    refine K_getI 1 1 201 lf_PF_194 rfl rfl t8 ?_
    exact B_iret rfl
  · skip
    refine V_open ok_PF_place_120 ?_
    refine B_aload_n rfl ?_
    refine B_chk (fun t9 => ?_)
    refine K_getI 7 4 1404 lf_PF_323 rfl rfl t9 ?_
    exact B_iret rfl
  · skip
    refine V_open ok_PF_place_125 ?_
    refine B_aload_n rfl ?_
    refine B_chk (fun t10 => ?_)
    refine K_getI 7 5 1405 lf_PF_326 rfl rfl t10 ?_
    exact B_iret rfl
  · skip
    refine V_open ok_PF_place_130 ?_
    refine B_aload_n rfl ?_
    refine B_chk (fun t11 => ?_)
    refine K_getR 7 2 1402 lf_PF_291 rfl rfl t11 (fun a12 r13 => ?_)
    refine B_chk (fun t14 => ?_)
    refine K_getI 6 0 1200 lf_PF_295 rfl rfl t14 ?_
    exact B_iret rfl
  · skip
    refine V_open ok_PF_place_138 ?_
    refine B_aload_n rfl ?_
    refine B_chk (fun t15 => ?_)
    refine K_getR 7 2 1402 lf_PF_291 rfl rfl t15 (fun a16 r17 => ?_)
    refine B_chk (fun t18 => ?_)
    refine K_getI 6 1 1201 lf_PF_332 rfl rfl t18 ?_
    exact B_iret rfl
  · skip
    refine V_open ok_PF_place_146 ?_
    refine B_aload_n rfl ?_
    refine B_chk (fun t19 => ?_)
    refine K_getI 7 8 1408 lf_PF_274 rfl rfl t19 ?_
    refine B_eq (tgt := 157) (by decide) ?_ ?_
    · skip
      refine V_open ok_PF_place_157 ?_
      refine B_iconst (0 : Int32) ic_0 ?_
      exact B_iret rfl
    · skip
      refine B_iconst (1 : Int32) ic_1 ?_
      refine B_goto (tgt := 158) (by decide) ?_
      refine V_open ok_PF_place_158 ?_
      exact B_iret rfl
  · skip
    refine V_open ok_PF_place_159 ?_
    refine B_aload_n rfl ?_
    refine B_iload_n rfl ?_
    refine B_chk (fun t20 => ?_)
    refine C_I (vs := [.ref l0, .int l1]) (st := []) (ci_V lv_PF_437 rfl rfl t20) rfl rfl rfl (s_PF_placeOf l0 l1 M) (fun v22 M21 => ?_)
    exact B_iret rfl
  · skip
    refine V_open ok_PF_place_165 ?_
    refine B_aload_n rfl ?_
    refine B_chk (fun t23 => ?_)
    refine K_getI 7 9 1409 lf_PF_123 rfl rfl t23 ?_
    refine B_eq (tgt := 176) (by decide) ?_ ?_
    · skip
      refine V_open ok_PF_place_176 ?_
      refine B_iconst (0 : Int32) ic_0 ?_
      exact B_iret rfl
    · skip
      refine B_iconst (1 : Int32) ic_1 ?_
      refine B_goto (tgt := 177) (by decide) ?_
      refine V_open ok_PF_place_177 ?_
      exact B_iret rfl
set_option maxRecDepth 100000 in
def f_PF_place (G : GT) (l0 : Nat) (l1 : Int32) (l2 : Int32) (M : PH) : Option (Int32 × PH) :=
  if l1 < 0 then (some ((-1 : Int32), M)) else (if l1 ≤ (8 : Int32) then (if hT M l0 = 10 then (hR M 2003 l0).bind fun a2 => if hT M a2 = 20 then if ib l1 (hN M a2) = true then (hX M a2 l1.toNatClampNeg).bind fun a5 => (if hT M a5 = 7 then if ¬ hI M 1407 a5 = 0 then (b_PF_place_52 G l0 l1 l2 a5 M) else (if l2 < 0 then (b_PF_place_52 G l0 l1 l2 a5 M) else (if (9 : Int32) ≤ l2 then (b_PF_place_52 G l0 l1 l2 a5 M) else (if ¬ l2 = (7 : Int32) then (some ((0 : Int32), M)) else (bI (f_PF_placeOf G l0 l1 M) fun v8 M7 => (some (v8, M7)))))) else none) else none else none else none) else (some ((-1 : Int32), M)))
set_option maxRecDepth 100000 in
set_option maxHeartbeats 4000000 in
theorem s_PF_place {G : GT} (l0 : Nat) (l1 : Int32) (l2 : Int32) (M : PH) : VX G mi_PF_place 1 14 0 [some (.ref l0), some (.int l1), some (.int l2), none] [] M qI (f_PF_place G l0 l1 l2 M) := by
  unfold f_PF_place
  refine V_open ok_PF_place_0 ?_
  refine B_iload_n rfl ?_
  refine B_lt (tgt := 10) (by decide) ?_ ?_
  · skip
    refine V_open ok_PF_place_10 ?_
    refine B_iconst (-1 : Int32) ic_m1 ?_
    exact B_iret rfl
  · skip
    refine B_iload_n rfl ?_
    refine B_bipush (8 : Int32) bp_8 ?_
    refine B_ile (tgt := 12) (by decide) ?_ ?_
    · skip
      refine V_open ok_PF_place_12 ?_
      refine B_aload_n rfl ?_
      refine B_chk (fun t1 => ?_)
      refine K_getR 10 3 2003 lf_PF_32 rfl rfl t1 (fun a2 r3 => ?_)
      refine B_iload_n rfl ?_
      refine B_chk (fun t4 => ?_)
      refine K_aald 20 rfl t4 (fun a5 => ?_)
      refine S_an [some (.ref l0), some (.int l1), some (.int l2), some (.ref a5)] (by decide) rfl ?_
      refine B_aload_n rfl ?_
      refine B_chk (fun t6 => ?_)
      refine K_getI 7 7 1407 lf_PF_434 rfl rfl t6 ?_
      refine B_ne (tgt := 52) (by decide) ?_ ?_
      · skip
        exact V_weak (ls' := [some (.ref l0), some (.int l1), some (.int l2), some (.ref a5)]) ⟨rfl, ⟨rfl, ⟨rfl, ⟨rfl, trivial⟩⟩⟩⟩ (t_PF_place_52 l0 l1 l2 a5 M)
      · skip
        refine B_iload_n rfl ?_
        refine B_lt (tgt := 52) (by decide) ?_ ?_
        · skip
          exact V_weak (ls' := [some (.ref l0), some (.int l1), some (.int l2), some (.ref a5)]) ⟨rfl, ⟨rfl, ⟨rfl, ⟨rfl, trivial⟩⟩⟩⟩ (t_PF_place_52 l0 l1 l2 a5 M)
        · skip
          refine B_iload_n rfl ?_
          refine B_bipush (9 : Int32) bp_9 ?_
          refine B_ige (tgt := 52) (by decide) ?_ ?_
          · skip
            exact V_weak (ls' := [some (.ref l0), some (.int l1), some (.int l2), some (.ref a5)]) ⟨rfl, ⟨rfl, ⟨rfl, ⟨rfl, trivial⟩⟩⟩⟩ (t_PF_place_52 l0 l1 l2 a5 M)
          · skip
            refine B_iload_n rfl ?_
            refine B_bipush (7 : Int32) bp_7 ?_
            refine B_ine (tgt := 50) (by decide) ?_ ?_
            · skip
              refine V_open ok_PF_place_50 ?_
              refine B_iconst (0 : Int32) ic_0 ?_
              exact B_iret rfl
            · skip
              refine B_aload_n rfl ?_
              refine B_iload_n rfl ?_
              refine C_I (vs := [.ref l0, .int l1]) (st := []) (ci_V lv_PF_437 rfl rfl t1) rfl rfl rfl (s_PF_placeOf l0 l1 M) (fun v8 M7 => ?_)
              refine B_goto (tgt := 51) (by decide) ?_
              refine V_open ok_PF_place_51 ?_
              exact B_iret rfl
    · skip
      refine B_iconst (-1 : Int32) ic_m1 ?_
      exact B_iret rfl
