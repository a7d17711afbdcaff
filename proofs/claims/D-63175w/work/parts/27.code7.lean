-- PF_behave
theorem ok_PF_behave_0 : okb prog_1_method_31_code 0 [(.aload_n 0, 1), (.invokevirtual 245, 3), (.aload_n 0, 1), (.getfield 72, 3), (.iload_n 2, 1), (.bipush 12, 2), (.invokevirtual 343, 3), (.aload_n 0, 1), (.getfield 26, 3), (.iload_n 1, 1), (.invokevirtual 347, 3), (.aload_n 0, 1), (.getfield 76, 3), (.aload_n 0, 1), (.getfield 72, 3), (.invokevirtual 254, 3), (.aload_n 0, 1), (.getfield 76, 3), (.aload_n 0, 1), (.invokevirtual 251, 3), (.invokevirtual 304, 3), (.aload_n 0, 1), (.getfield 26, 3), (.getfield 185, 3), (.ifCond .eq 14, 3), (.aload_n 0, 1), (.getfield 26, 3), (.getfield 185, 3), (.iload_n 1, 1), (.if_icmp .ne 7, 3)] = true := by decide +kernel
theorem ok_PF_behave_65 : okb prog_1_method_31_code 65 [(.iconst 1, 1), (.goto 4, 3)] = true := by decide +kernel
theorem ok_PF_behave_69 : okb prog_1_method_31_code 69 [(.iconst 0, 1)] = true := by decide +kernel
theorem ok_PF_behave_70 : okb prog_1_method_31_code 70 [(.istore_n 3, 1), (.aload_n 0, 1), (.getfield 76, 3), (.aload_n 0, 1), (.getfield 10, 3), (.getfield 141, 3), (.aload_n 0, 1), (.getfield 10, 3), (.getfield 147, 3), (.invokevirtual 162, 3), (.ifCond .eq 35, 3), (.aload_n 0, 1), (.getfield 46, 3), (.aload_n 0, 1), (.invokevirtual 350, 3), (.getfield 281, 3), (.if_icmp .ne 21, 3), (.iload_n 3, 1), (.ifCond .eq 17, 3), (.aload_n 0, 1), (.getfield 26, 3), (.getfield 354, 3), (.ifCond .ne 7, 3), (.iconst 1, 1), (.goto 4, 3)] = true := by decide +kernel
theorem ok_PF_behave_127 : okb prog_1_method_31_code 127 [(.iconst 0, 1)] = true := by decide +kernel
theorem ok_PF_behave_128 : okb prog_1_method_31_code 128 [(.istore 4, 2), (.iload 4, 2), (.ifCond .eq 11, 3), (.aload_n 0, 1), (.getfield 26, 3), (.iload_n 1, 1), (.putfield 354, 3)] = true := by decide +kernel
theorem ok_PF_behave_143 : okb prog_1_method_31_code 143 [(.iload 4, 2), (.ifCond .eq 47, 3), (.aload_n 0, 1), (.getfield 10, 3), (.getfield 138, 3), (.ifCond .eq 37, 3), (.aload_n 0, 1), (.getfield 26, 3), (.getfield 185, 3), (.ifCond .ne 27, 3), (.aload_n 0, 1), (.getfield 26, 3), (.iload_n 1, 1), (.invokevirtual 282, 3), (.aload_n 0, 1), (.getfield 26, 3), (.iload_n 1, 1), (.invokevirtual 357, 3), (.aload_n 0, 1), (.getfield 26, 3), (.iconst 1, 1), (.putfield 360, 3)] = true := by decide +kernel
theorem ok_PF_behave_192 : okb prog_1_method_31_code 192 [(.aload_n 0, 1), (.getfield 26, 3), (.getfield 185, 3), (.iload_n 1, 1), (.if_icmp .ne 22, 3), (.aload_n 0, 1), (.getfield 10, 3), (.getfield 285, 3), (.ifCond .eq 12, 3), (.iload 4, 2), (.ifCond .eq 7, 3), (.iconst 1, 1), (.goto 4, 3)] = true := by decide +kernel
theorem ok_PF_behave_222 : okb prog_1_method_31_code 222 [(.iconst 0, 1)] = true := by decide +kernel
theorem ok_PF_behave_223 : okb prog_1_method_31_code 223 [(.istore 5, 2), (.aload_n 0, 1), (.getfield 26, 3), (.getfield 185, 3), (.iload_n 1, 1), (.if_icmp .ne 21, 3), (.aload_n 0, 1), (.getfield 10, 3), (.getfield 285, 3), (.ifCond .eq 11, 3), (.aload_n 0, 1), (.getfield 26, 3), (.iconst 0, 1), (.putfield 185, 3)] = true := by decide +kernel
theorem ok_PF_behave_254 : okb prog_1_method_31_code 254 [(.aload_n 0, 1), (.getfield 26, 3), (.getfield 363, 3), (.iload_n 1, 1), (.if_icmp .ne 23, 3), (.aload_n 0, 1), (.getfield 10, 3), (.getfield 172, 3), (.iconst 1, 1), (.baload, 1), (.ifCond .eq 11, 3), (.aload_n 0, 1), (.getfield 26, 3), (.iload_n 1, 1), (.putfield 365, 3)] = true := by decide +kernel
theorem ok_PF_behave_285 : okb prog_1_method_31_code 285 [(.aload_n 0, 1), (.getfield 26, 3), (.getfield 365, 3), (.iload_n 1, 1), (.if_icmp .ne 26, 3), (.aload_n 0, 1), (.getfield 26, 3), (.getfield 363, 3), (.iload_n 1, 1), (.if_icmp .ne 15, 3), (.aload_n 0, 1), (.getfield 10, 3), (.getfield 368, 3), (.iconst 1, 1), (.baload, 1), (.ifCond .ne 6, 3), (.iload 5, 2), (.ireturn, 1)] = true := by decide +kernel
theorem ok_PF_behave_319 : okb prog_1_method_31_code 319 [(.iload 5, 2), (.ireturn, 1)] = true := by decide +kernel
theorem ok_PF_behave_322 : okb prog_1_method_31_code 322 [(.aload_n 0, 1), (.getfield 26, 3), (.iconst 0, 1), (.putfield 365, 3), (.iconst 1, 1), (.ireturn, 1)] = true := by decide +kernel
set_option maxRecDepth 100000 in
def b_PF_behave_285 (G : GT) (l0 : Nat) (l1 : Int32) (l5 : Int32) (M : PH) : Option (Int32 × PH) :=
  if hT M l0 = 10 then (hR M 2002 l0).bind fun a2 => if hT M a2 = 9 then if ¬ hI M 1803 a2 = l1 then (if l5 = 0 ∨ l5 = 1 then some (l5, M) else none) else (if ¬ hI M 1802 a2 = l1 then (if l5 = 0 ∨ l5 = 1 then some (l5, M) else none) else ((hR M 2000 l0).bind fun a7 => if hT M a7 = 2 then (hR M 414 a7).bind fun a10 => if hT M a10 = 17 then if 1 < hN M a10 then if ¬ hA M a10 1 = 0 then (hb (sI M 1803 a2 (0 : Int32)) fun M14 => some ((1 : Int32), M14)) else (if l5 = 0 ∨ l5 = 1 then some (l5, M) else none) else none else none else none)) else none else none
set_option maxRecDepth 100000 in
set_option maxHeartbeats 4000000 in
theorem t_PF_behave_285 {G : GT} (l0 : Nat) (l1 : Int32) (l5 : Int32) (M : PH) : VX G mi_PF_behave 3 41 285 [some (.ref l0), some (.int l1), none, none, none, some (.int l5)] [] M qI (b_PF_behave_285 G l0 l1 l5 M) := by
  unfold b_PF_behave_285
  refine V_open ok_PF_behave_285 ?_
  refine B_aload_n rfl ?_
  refine B_chk (fun t1 => ?_)
  refine K_getR 10 2 2002 lf_PF_26 rfl rfl t1 (fun a2 r3 => ?_)
  refine B_chk (fun t4 => ?_)
  refine K_getI 9 3 1803 lf_PF_365 rfl rfl t4 ?_
  refine B_iload_n rfl ?_
  refine B_ine (tgt := 319) (by decide) ?_ ?_
  · skip
    refine V_open ok_PF_behave_319 ?_
    refine B_iload rfl ?_
    refine B_chk (fun z5 => ?_)
    exact Z_ret rfl z5
  · skip
    refine B_aload_n rfl ?_
    refine K_getRk 10 2 2002 lf_PF_26 rfl rfl t1 r3 ?_
    refine K_getI 9 2 1802 lf_PF_363 rfl rfl t4 ?_
    refine B_iload_n rfl ?_
    refine B_ine (tgt := 319) (by decide) ?_ ?_
    · skip
      refine V_open ok_PF_behave_319 ?_
      refine B_iload rfl ?_
      refine B_chk (fun z6 => ?_)
      exact Z_ret rfl z6
    · skip
      refine B_aload_n rfl ?_
      refine K_getR 10 0 2000 lf_PF_10 rfl rfl t1 (fun a7 r8 => ?_)
      refine B_chk (fun t9 => ?_)
      refine K_getR 2 14 414 lf_PF_368 rfl rfl t9 (fun a10 r11 => ?_)
      refine B_iconst (1 : Int32) ic_1 ?_
      refine B_chk (fun t12 => ?_)
      refine K_zaldc 1 rfl t12 ?_
      refine B_ne (tgt := 322) (by decide) ?_ ?_
      · skip
        refine V_open ok_PF_behave_322 ?_
        refine B_aload_n rfl ?_
        refine K_getRk 10 2 2002 lf_PF_26 rfl rfl t1 r3 ?_
        refine B_iconst (0 : Int32) ic_0 ?_
        refine K_putI 9 3 1803 lf_PF_365 rfl (Or.inl rfl) rfl t4 (fun M14 e13 => ?_)
        refine B_iconst (1 : Int32) ic_1 ?_
        exact Z_ret rfl (Or.inr rfl)
      · skip
        refine B_iload rfl ?_
        refine B_chk (fun z15 => ?_)
        exact Z_ret rfl z15
set_option maxRecDepth 100000 in
def b_PF_behave_254 (G : GT) (l0 : Nat) (l1 : Int32) (l5 : Int32) (M : PH) : Option (Int32 × PH) :=
  if hT M l0 = 10 then (hR M 2002 l0).bind fun a2 => if hT M a2 = 9 then if ¬ hI M 1802 a2 = l1 then (b_PF_behave_285 G l0 l1 l5 M) else ((hR M 2000 l0).bind fun a5 => if hT M a5 = 2 then (hR M 413 a5).bind fun a8 => if hT M a8 = 17 then if 1 < hN M a8 then if hA M a8 1 = 0 then (b_PF_behave_285 G l0 l1 l5 M) else (hb (sI M 1803 a2 l1) fun M12 => b_PF_behave_285 G l0 l1 l5 M12) else none else none else none) else none else none
set_option maxRecDepth 100000 in
set_option maxHeartbeats 4000000 in
theorem t_PF_behave_254 {G : GT} (l0 : Nat) (l1 : Int32) (l5 : Int32) (M : PH) : VX G mi_PF_behave 3 41 254 [some (.ref l0), some (.int l1), none, none, none, some (.int l5)] [] M qI (b_PF_behave_254 G l0 l1 l5 M) := by
  unfold b_PF_behave_254
  refine V_open ok_PF_behave_254 ?_
  refine B_aload_n rfl ?_
  refine B_chk (fun t1 => ?_)
  refine K_getR 10 2 2002 lf_PF_26 rfl rfl t1 (fun a2 r3 => ?_)
  refine B_chk (fun t4 => ?_)
  refine K_getI 9 2 1802 lf_PF_363 rfl rfl t4 ?_
  refine B_iload_n rfl ?_
  refine B_ine (tgt := 285) (by decide) ?_ ?_
  · skip
    exact V_weak (ls' := [some (.ref l0), some (.int l1), none, none, none, some (.int l5)]) ⟨rfl, ⟨rfl, ⟨rfl, trivial⟩⟩⟩ (t_PF_behave_285 l0 l1 l5 M)
  · skip
    refine B_aload_n rfl ?_
    refine K_getR 10 0 2000 lf_PF_10 rfl rfl t1 (fun a5 r6 => ?_)
    refine B_chk (fun t7 => ?_)
    refine K_getR 2 13 413 lf_PF_172 rfl rfl t7 (fun a8 r9 => ?_)
    refine B_iconst (1 : Int32) ic_1 ?_
    refine B_chk (fun t10 => ?_)
    refine K_zaldc 1 rfl t10 ?_
    refine B_eq (tgt := 285) (by decide) ?_ ?_
    · skip
      exact V_weak (ls' := [some (.ref l0), some (.int l1), none, none, none, some (.int l5)]) ⟨rfl, ⟨rfl, ⟨rfl, trivial⟩⟩⟩ (t_PF_behave_285 l0 l1 l5 M)
    · skip
      refine B_aload_n rfl ?_
      refine K_getRk 10 2 2002 lf_PF_26 rfl rfl t1 r3 ?_
      refine B_iload_n rfl ?_
      refine K_putI 9 3 1803 lf_PF_365 rfl (Or.inl rfl) rfl t4 (fun M12 e11 => ?_)
      refine V_close ?_
      exact V_weak (ls' := [some (.ref l0), some (.int l1), none, none, none, some (.int l5)]) ⟨rfl, ⟨rfl, ⟨rfl, trivial⟩⟩⟩ (t_PF_behave_285 l0 l1 l5 M12)
set_option maxRecDepth 100000 in
def b_PF_behave_223 (G : GT) (l0 : Nat) (l1 : Int32) (s0 : Int32) (M : PH) : Option (Int32 × PH) :=
  if hT M l0 = 10 then (hR M 2002 l0).bind fun a2 => if hT M a2 = 9 then if ¬ hI M 1800 a2 = l1 then (b_PF_behave_254 G l0 l1 s0 M) else ((hR M 2000 l0).bind fun a5 => if hT M a5 = 2 then if hI M 411 a5 = 0 then (b_PF_behave_254 G l0 l1 s0 M) else (hb (sI M 1800 a2 (0 : Int32)) fun M9 => b_PF_behave_254 G l0 l1 s0 M9) else none) else none else none
set_option maxRecDepth 100000 in
set_option maxHeartbeats 4000000 in
theorem t_PF_behave_223 {G : GT} (l0 : Nat) (l1 : Int32) (s0 : Int32) (M : PH) : VX G mi_PF_behave 3 41 223 [some (.ref l0), some (.int l1), none, none, none, none] [.int s0] M qI (b_PF_behave_223 G l0 l1 s0 M) := by
  unfold b_PF_behave_223
  refine V_open ok_PF_behave_223 ?_
  refine S_i [some (.ref l0), some (.int l1), none, none, none, some (.int s0)] (by decide) rfl ?_
  refine B_aload_n rfl ?_
  refine B_chk (fun t1 => ?_)
  refine K_getR 10 2 2002 lf_PF_26 rfl rfl t1 (fun a2 r3 => ?_)
  refine B_chk (fun t4 => ?_)
  refine K_getI 9 0 1800 lf_PF_185 rfl rfl t4 ?_
  refine B_iload_n rfl ?_
  refine B_ine (tgt := 254) (by decide) ?_ ?_
  · skip
    exact V_weak (ls' := [some (.ref l0), some (.int l1), none, none, none, some (.int s0)]) ⟨rfl, ⟨rfl, ⟨rfl, trivial⟩⟩⟩ (t_PF_behave_254 l0 l1 s0 M)
  · skip
    refine B_aload_n rfl ?_
    refine K_getR 10 0 2000 lf_PF_10 rfl rfl t1 (fun a5 r6 => ?_)
    refine B_chk (fun t7 => ?_)
    refine K_getI 2 11 411 lf_PF_285 rfl rfl t7 ?_
    refine B_eq (tgt := 254) (by decide) ?_ ?_
    · skip
      exact V_weak (ls' := [some (.ref l0), some (.int l1), none, none, none, some (.int s0)]) ⟨rfl, ⟨rfl, ⟨rfl, trivial⟩⟩⟩ (t_PF_behave_254 l0 l1 s0 M)
    · skip
      refine B_aload_n rfl ?_
      refine K_getRk 10 2 2002 lf_PF_26 rfl rfl t1 r3 ?_
      refine B_iconst (0 : Int32) ic_0 ?_
      refine K_putI 9 0 1800 lf_PF_185 rfl (Or.inl rfl) rfl t4 (fun M9 e8 => ?_)
      refine V_close ?_
      exact V_weak (ls' := [some (.ref l0), some (.int l1), none, none, none, some (.int s0)]) ⟨rfl, ⟨rfl, ⟨rfl, trivial⟩⟩⟩ (t_PF_behave_254 l0 l1 s0 M9)
set_option maxRecDepth 100000 in
def b_PF_behave_222 (G : GT) (l0 : Nat) (l1 : Int32) (M : PH) : Option (Int32 × PH) :=
  b_PF_behave_223 G l0 l1 (0 : Int32) M
set_option maxRecDepth 100000 in
set_option maxHeartbeats 4000000 in
theorem t_PF_behave_222 {G : GT} (l0 : Nat) (l1 : Int32) (M : PH) : VX G mi_PF_behave 3 41 222 [some (.ref l0), some (.int l1), none, none, none, none] [] M qI (b_PF_behave_222 G l0 l1 M) := by
  unfold b_PF_behave_222
  refine V_open ok_PF_behave_222 ?_
  refine B_iconst (0 : Int32) ic_0 ?_
  refine V_close ?_
  exact V_weak (ls' := [some (.ref l0), some (.int l1), none, none, none, none]) ⟨rfl, ⟨rfl, trivial⟩⟩ (t_PF_behave_223 l0 l1 (0 : Int32) M)
set_option maxRecDepth 100000 in
def b_PF_behave_192 (G : GT) (l0 : Nat) (l1 : Int32) (l4 : Int32) (M : PH) : Option (Int32 × PH) :=
  if hT M l0 = 10 then (hR M 2002 l0).bind fun a2 => if hT M a2 = 9 then if ¬ hI M 1800 a2 = l1 then (b_PF_behave_222 G l0 l1 M) else ((hR M 2000 l0).bind fun a5 => if hT M a5 = 2 then if hI M 411 a5 = 0 then (b_PF_behave_222 G l0 l1 M) else (if l4 = 0 then (b_PF_behave_222 G l0 l1 M) else (b_PF_behave_223 G l0 l1 (1 : Int32) M)) else none) else none else none
set_option maxRecDepth 100000 in
set_option maxHeartbeats 4000000 in
theorem t_PF_behave_192 {G : GT} (l0 : Nat) (l1 : Int32) (l4 : Int32) (M : PH) : VX G mi_PF_behave 3 41 192 [some (.ref l0), some (.int l1), none, none, some (.int l4), none] [] M qI (b_PF_behave_192 G l0 l1 l4 M) := by
  unfold b_PF_behave_192
  refine V_open ok_PF_behave_192 ?_
  refine B_aload_n rfl ?_
  refine B_chk (fun t1 => ?_)
  refine K_getR 10 2 2002 lf_PF_26 rfl rfl t1 (fun a2 r3 => ?_)
  refine B_chk (fun t4 => ?_)
  refine K_getI 9 0 1800 lf_PF_185 rfl rfl t4 ?_
  refine B_iload_n rfl ?_
  refine B_ine (tgt := 222) (by decide) ?_ ?_
  · skip
    exact V_weak (ls' := [some (.ref l0), some (.int l1), none, none, none, none]) ⟨rfl, ⟨rfl, trivial⟩⟩ (t_PF_behave_222 l0 l1 M)
  · skip
    refine B_aload_n rfl ?_
    refine K_getR 10 0 2000 lf_PF_10 rfl rfl t1 (fun a5 r6 => ?_)
    refine B_chk (fun t7 => ?_)
    refine K_getI 2 11 411 lf_PF_285 rfl rfl t7 ?_
    refine B_eq (tgt := 222) (by decide) ?_ ?_
    · skip
      exact V_weak (ls' := [some (.ref l0), some (.int l1), none, none, none, none]) ⟨rfl, ⟨rfl, trivial⟩⟩ (t_PF_behave_222 l0 l1 M)
    · skip
      refine B_iload rfl ?_
      refine B_eq (tgt := 222) (by decide) ?_ ?_
      · skip
        exact V_weak (ls' := [some (.ref l0), some (.int l1), none, none, none, none]) ⟨rfl, ⟨rfl, trivial⟩⟩ (t_PF_behave_222 l0 l1 M)
      · skip
        refine B_iconst (1 : Int32) ic_1 ?_
        refine B_goto (tgt := 223) (by decide) ?_
        exact V_weak (ls' := [some (.ref l0), some (.int l1), none, none, none, none]) ⟨rfl, ⟨rfl, trivial⟩⟩ (t_PF_behave_223 l0 l1 (1 : Int32) M)
set_option maxRecDepth 100000 in
def b_PF_behave_143 (G : GT) (l0 : Nat) (l1 : Int32) (l4 : Int32) (M : PH) : Option (Int32 × PH) :=
  if l4 = 0 then (b_PF_behave_192 G l0 l1 l4 M) else (if hT M l0 = 10 then (hR M 2000 l0).bind fun a2 => if hT M a2 = 2 then if hI M 410 a2 = 0 then (b_PF_behave_192 G l0 l1 l4 M) else ((hR M 2002 l0).bind fun a5 => if hT M a5 = 9 then if ¬ hI M 1800 a5 = 0 then (b_PF_behave_192 G l0 l1 l4 M) else (bV (f_Att_activate G a5 l1 M) fun M8 => (if hT M8 l0 = 10 then (hR M8 2002 l0).bind fun a10 => if hT M8 a10 = 9 then bV (f_Att_focus G a10 l1 M8) fun M13 => (if hT M13 l0 = 10 then (hR M13 2002 l0).bind fun a15 => if hT M13 a15 = 9 then hb (sI M13 1806 a15 (1 : Int32)) fun M19 => b_PF_behave_192 G l0 l1 l4 M19 else none else none) else none else none)) else none) else none else none)
set_option maxRecDepth 100000 in
set_option maxHeartbeats 4000000 in
theorem t_PF_behave_143 {G : GT} (l0 : Nat) (l1 : Int32) (l4 : Int32) (M : PH) : VX G mi_PF_behave 3 41 143 [some (.ref l0), some (.int l1), none, none, some (.int l4), none] [] M qI (b_PF_behave_143 G l0 l1 l4 M) := by
  unfold b_PF_behave_143
  refine V_open ok_PF_behave_143 ?_
  refine B_iload rfl ?_
  refine B_eq (tgt := 192) (by decide) ?_ ?_
  · skip
    exact V_weak (ls' := [some (.ref l0), some (.int l1), none, none, some (.int l4), none]) ⟨rfl, ⟨rfl, ⟨rfl, trivial⟩⟩⟩ (t_PF_behave_192 l0 l1 l4 M)
  · skip
    refine B_aload_n rfl ?_
    refine B_chk (fun t1 => ?_)
    refine K_getR 10 0 2000 lf_PF_10 rfl rfl t1 (fun a2 r3 => ?_)
    refine B_chk (fun t4 => ?_)
    refine K_getI 2 10 410 lf_PF_138 rfl rfl t4 ?_
    refine B_eq (tgt := 192) (by decide) ?_ ?_
    · skip
      exact V_weak (ls' := [some (.ref l0), some (.int l1), none, none, some (.int l4), none]) ⟨rfl, ⟨rfl, ⟨rfl, trivial⟩⟩⟩ (t_PF_behave_192 l0 l1 l4 M)
    · skip
      refine B_aload_n rfl ?_
      refine K_getR 10 2 2002 lf_PF_26 rfl rfl t1 (fun a5 r6 => ?_)
      refine B_chk (fun t7 => ?_)
      refine K_getI 9 0 1800 lf_PF_185 rfl rfl t7 ?_
      refine B_ne (tgt := 192) (by decide) ?_ ?_
      · skip
        exact V_weak (ls' := [some (.ref l0), some (.int l1), none, none, some (.int l4), none]) ⟨rfl, ⟨rfl, ⟨rfl, trivial⟩⟩⟩ (t_PF_behave_192 l0 l1 l4 M)
      · skip
        refine B_aload_n rfl ?_
        refine K_getRk 10 2 2002 lf_PF_26 rfl rfl t1 r6 ?_
        refine B_iload_n rfl ?_
        refine C_V (vs := [.ref a5, .int l1]) (st := []) (ci_V lv_PF_282 rfl rfl t7) rfl rfl rfl (s_Att_activate a5 l1 M) (fun M8 => ?_)
        refine B_aload_n rfl ?_
        refine B_chk (fun t9 => ?_)
        refine K_getR 10 2 2002 lf_PF_26 rfl rfl t9 (fun a10 r11 => ?_)
        refine B_iload_n rfl ?_
        refine B_chk (fun t12 => ?_)
        refine C_V (vs := [.ref a10, .int l1]) (st := []) (ci_V lv_PF_357 rfl rfl t12) rfl rfl rfl (s_Att_focus a10 l1 M8) (fun M13 => ?_)
        refine B_aload_n rfl ?_
        refine B_chk (fun t14 => ?_)
        refine K_getR 10 2 2002 lf_PF_26 rfl rfl t14 (fun a15 r16 => ?_)
        refine B_iconst (1 : Int32) ic_1 ?_
        refine B_chk (fun t17 => ?_)
        refine K_putZ 9 6 1806 lf_PF_360 rfl (Or.inl rfl) rfl t17 (Or.inr rfl) (fun M19 e18 => ?_)
        refine V_close ?_
        exact V_weak (ls' := [some (.ref l0), some (.int l1), none, none, some (.int l4), none]) ⟨rfl, ⟨rfl, ⟨rfl, trivial⟩⟩⟩ (t_PF_behave_192 l0 l1 l4 M19)
set_option maxRecDepth 100000 in
def b_PF_behave_128 (G : GT) (l0 : Nat) (l1 : Int32) (s0 : Int32) (M : PH) : Option (Int32 × PH) :=
  if s0 = 0 then (b_PF_behave_143 G l0 l1 s0 M) else (if hT M l0 = 10 then (hR M 2002 l0).bind fun a2 => if hT M a2 = 9 then hb (sI M 1801 a2 l1) fun M6 => b_PF_behave_143 G l0 l1 s0 M6 else none else none)
set_option maxRecDepth 100000 in
set_option maxHeartbeats 4000000 in
theorem t_PF_behave_128 {G : GT} (l0 : Nat) (l1 : Int32) (s0 : Int32) (M : PH) : VX G mi_PF_behave 3 41 128 [some (.ref l0), some (.int l1), none, none, none, none] [.int s0] M qI (b_PF_behave_128 G l0 l1 s0 M) := by
  unfold b_PF_behave_128
  refine V_open ok_PF_behave_128 ?_
  refine S_i [some (.ref l0), some (.int l1), none, none, some (.int s0), none] (by decide) rfl ?_
  refine B_iload rfl ?_
  refine B_eq (tgt := 143) (by decide) ?_ ?_
  · skip
    exact V_weak (ls' := [some (.ref l0), some (.int l1), none, none, some (.int s0), none]) ⟨rfl, ⟨rfl, ⟨rfl, trivial⟩⟩⟩ (t_PF_behave_143 l0 l1 s0 M)
  · skip
    refine B_aload_n rfl ?_
    refine B_chk (fun t1 => ?_)
    refine K_getR 10 2 2002 lf_PF_26 rfl rfl t1 (fun a2 r3 => ?_)
    refine B_iload_n rfl ?_
    refine B_chk (fun t4 => ?_)
    refine K_putI 9 1 1801 lf_PF_354 rfl (Or.inl rfl) rfl t4 (fun M6 e5 => ?_)
    refine V_close ?_
    exact V_weak (ls' := [some (.ref l0), some (.int l1), none, none, some (.int s0), none]) ⟨rfl, ⟨rfl, ⟨rfl, trivial⟩⟩⟩ (t_PF_behave_143 l0 l1 s0 M6)
set_option maxRecDepth 100000 in
def b_PF_behave_127 (G : GT) (l0 : Nat) (l1 : Int32) (M : PH) : Option (Int32 × PH) :=
  b_PF_behave_128 G l0 l1 (0 : Int32) M
set_option maxRecDepth 100000 in
set_option maxHeartbeats 4000000 in
theorem t_PF_behave_127 {G : GT} (l0 : Nat) (l1 : Int32) (M : PH) : VX G mi_PF_behave 3 41 127 [some (.ref l0), some (.int l1), none, none, none, none] [] M qI (b_PF_behave_127 G l0 l1 M) := by
  unfold b_PF_behave_127
  refine V_open ok_PF_behave_127 ?_
  refine B_iconst (0 : Int32) ic_0 ?_
  refine V_close ?_
  exact V_weak (ls' := [some (.ref l0), some (.int l1), none, none, none, none]) ⟨rfl, ⟨rfl, trivial⟩⟩ (t_PF_behave_128 l0 l1 (0 : Int32) M)
set_option maxRecDepth 100000 in
def b_PF_behave_70 (G : GT) (l0 : Nat) (l1 : Int32) (s0 : Int32) (M : PH) : Option (Int32 × PH) :=
  if hT M l0 = 10 then (hR M 2021 l0).bind fun a2 => (hR M 2000 l0).bind fun a4 => if hT M a4 = 2 then if hT M a2 = 1 then bI (f_Rect_has G a2 (hI M 405 a4) (hI M 406 a4) M) fun v9 M8 => (if v9 = 0 then (b_PF_behave_127 G l0 l1 M8) else (if hT M8 l0 = 10 then bR (f_PF_panel G l0 M8) fun a12 M11 => (if hT M11 a12 = 7 then if ¬ hI M8 2008 l0 = hI M11 1400 a12 then (b_PF_behave_127 G l0 l1 M11) else (if s0 = 0 then (b_PF_behave_127 G l0 l1 M11) else (if hT M11 l0 = 10 then (hR M11 2002 l0).bind fun a15 => if hT M11 a15 = 9 then if ¬ hI M11 1801 a15 = 0 then (b_PF_behave_127 G l0 l1 M11) else (b_PF_behave_128 G l0 l1 (1 : Int32) M11) else none else none)) else none) else none)) else none else none else none
set_option maxRecDepth 100000 in
set_option maxHeartbeats 4000000 in
theorem t_PF_behave_70 {G : GT} (l0 : Nat) (l1 : Int32) (s0 : Int32) (M : PH) : VX G mi_PF_behave 3 41 70 [some (.ref l0), some (.int l1), none, none, none, none] [.int s0] M qI (b_PF_behave_70 G l0 l1 s0 M) := by
  unfold b_PF_behave_70
  refine V_open ok_PF_behave_70 ?_
  refine S_in [some (.ref l0), some (.int l1), none, some (.int s0), none, none] (by decide) rfl ?_
  refine B_aload_n rfl ?_
  refine B_chk (fun t1 => ?_)
  refine K_getR 10 21 2021 lf_PF_76 rfl rfl t1 (fun a2 r3 => ?_)
  refine B_aload_n rfl ?_
  refine K_getR 10 0 2000 lf_PF_10 rfl rfl t1 (fun a4 r5 => ?_)
  refine B_chk (fun t6 => ?_)
  refine K_getI 2 5 405 lf_PF_141 rfl rfl t6 ?_
  refine B_aload_n rfl ?_
  refine K_getRk 10 0 2000 lf_PF_10 rfl rfl t1 r5 ?_
  refine K_getI 2 6 406 lf_PF_147 rfl rfl t6 ?_
  refine B_chk (fun t7 => ?_)
  refine C_I (vs := [.ref a2, .int (hI M 405 a4), .int (hI M 406 a4)]) (st := []) (ci_V lv_PF_162 rfl rfl t7) rfl rfl rfl (s_Rect_has a2 (hI M 405 a4) (hI M 406 a4) M) (fun v9 M8 => ?_)
  refine B_eq (tgt := 127) (by decide) ?_ ?_
  · skip
    exact V_weak (ls' := [some (.ref l0), some (.int l1), none, none, none, none]) ⟨rfl, ⟨rfl, trivial⟩⟩ (t_PF_behave_127 l0 l1 M8)
  · skip
    refine B_aload_n rfl ?_
    refine B_chk (fun t10 => ?_)
    refine K_getI 10 8 2008 lf_PF_46 rfl rfl t10 ?_
    refine B_aload_n rfl ?_
    refine C_R (vs := [.ref l0]) (st := [.int (hI M8 2008 l0)]) (ci_V lv_PF_350 rfl rfl t10) rfl rfl rfl (s_PF_panel l0 M8) (fun a12 M11 => ?_)
    refine B_chk (fun t13 => ?_)
    refine K_getI 7 0 1400 lf_PF_281 rfl rfl t13 ?_
    refine B_ine (tgt := 127) (by decide) ?_ ?_
    · skip
      exact V_weak (ls' := [some (.ref l0), some (.int l1), none, none, none, none]) ⟨rfl, ⟨rfl, trivial⟩⟩ (t_PF_behave_127 l0 l1 M11)
    · skip
      refine B_iload_n rfl ?_
      refine B_eq (tgt := 127) (by decide) ?_ ?_
      · skip
        exact V_weak (ls' := [some (.ref l0), some (.int l1), none, none, none, none]) ⟨rfl, ⟨rfl, trivial⟩⟩ (t_PF_behave_127 l0 l1 M11)
      · skip
        refine B_aload_n rfl ?_
        refine B_chk (fun t14 => ?_)
        refine K_getR 10 2 2002 lf_PF_26 rfl rfl t14 (fun a15 r16 => ?_)
        refine B_chk (fun t17 => ?_)
        refine K_getI 9 1 1801 lf_PF_354 rfl rfl t17 ?_
        refine B_ne (tgt := 127) (by decide) ?_ ?_
        · skip
          exact V_weak (ls' := [some (.ref l0), some (.int l1), none, none, none, none]) ⟨rfl, ⟨rfl, trivial⟩⟩ (t_PF_behave_127 l0 l1 M11)
        · skip
          refine B_iconst (1 : Int32) ic_1 ?_
          refine B_goto (tgt := 128) (by decide) ?_
          exact V_weak (ls' := [some (.ref l0), some (.int l1), none, none, none, none]) ⟨rfl, ⟨rfl, trivial⟩⟩ (t_PF_behave_128 l0 l1 (1 : Int32) M11)
set_option maxRecDepth 100000 in
def b_PF_behave_65 (G : GT) (l0 : Nat) (l1 : Int32) (M : PH) : Option (Int32 × PH) :=
  b_PF_behave_70 G l0 l1 (1 : Int32) M
set_option maxRecDepth 100000 in
set_option maxHeartbeats 4000000 in
theorem t_PF_behave_65 {G : GT} (l0 : Nat) (l1 : Int32) (M : PH) : VX G mi_PF_behave 3 41 65 [some (.ref l0), some (.int l1), none, none, none, none] [] M qI (b_PF_behave_65 G l0 l1 M) := by
  unfold b_PF_behave_65
  refine V_open ok_PF_behave_65 ?_
  refine B_iconst (1 : Int32) ic_1 ?_
  refine B_goto (tgt := 70) (by decide) ?_
  exact V_weak (ls' := [some (.ref l0), some (.int l1), none, none, none, none]) ⟨rfl, ⟨rfl, trivial⟩⟩ (t_PF_behave_70 l0 l1 (1 : Int32) M)
set_option maxRecDepth 100000 in
def f_PF_behave (G : GT) (l0 : Nat) (l1 : Int32) (l2 : Int32) (M : PH) : Option (Int32 × PH) :=
  if hT M l0 = 10 then bR (f_PF_layout G l0 M) fun a3 M2 => (if hT M2 l0 = 10 then (hR M2 2020 l0).bind fun a5 => if hT M2 a3 = 5 then bV (f_Layout_put G a3 a5 l2 (12 : Int32) M2) fun M8 => (if hT M8 l0 = 10 then (hR M8 2002 l0).bind fun a10 => if hT M8 a10 = 9 then bV (f_Att_tellItem G a10 l1 M8) fun M13 => (if hT M13 l0 = 10 then (hR M13 2021 l0).bind fun a15 => (hR M13 2020 l0).bind fun a17 => if hT M13 a15 = 1 then bV (f_Rect_be2 G a15 a17 M13) fun M20 => (if hT M20 l0 = 10 then (hR M20 2021 l0).bind fun a22 => bR (f_PF_clip G l0 M20) fun a25 M24 => (if hT M24 a22 = 1 then bV (f_Rect_meet G a22 a25 M24) fun M27 => (if hT M27 l0 = 10 then (hR M27 2002 l0).bind fun a29 => if hT M27 a29 = 9 then if hI M27 1800 a29 = 0 then (b_PF_behave_65 G l0 l1 M27) else (if ¬ hI M27 1800 a29 = l1 then (b_PF_behave_70 G l0 l1 (0 : Int32) M27) else (b_PF_behave_65 G l0 l1 M27)) else none else none) else none) else none) else none else none) else none else none) else none else none) else none
set_option maxRecDepth 100000 in
set_option maxHeartbeats 4000000 in
theorem s_PF_behave {G : GT} (l0 : Nat) (l1 : Int32) (l2 : Int32) (M : PH) : VX G mi_PF_behave 3 41 0 [some (.ref l0), some (.int l1), some (.int l2), none, none, none] [] M qI (f_PF_behave G l0 l1 l2 M) := by
  unfold f_PF_behave
  refine V_open ok_PF_behave_0 ?_
  refine B_aload_n rfl ?_
  refine B_chk (fun t1 => ?_)
  refine C_R (vs := [.ref l0]) (st := []) (ci_V lv_PF_245 rfl rfl t1) rfl rfl rfl (s_PF_layout l0 M) (fun a3 M2 => ?_)
  refine B_aload_n rfl ?_
  refine B_chk (fun t4 => ?_)
  refine K_getR 10 20 2020 lf_PF_72 rfl rfl t4 (fun a5 r6 => ?_)
  refine B_iload_n rfl ?_
  refine B_bipush (12 : Int32) bp_12 ?_
  refine B_chk (fun t7 => ?_)
  refine C_V (vs := [.ref a3, .ref a5, .int l2, .int (12 : Int32)]) (st := []) (ci_V lv_PF_343 rfl rfl t7) rfl rfl rfl (s_Layout_put a3 a5 l2 (12 : Int32) M2) (fun M8 => ?_)
  refine B_aload_n rfl ?_
  refine B_chk (fun t9 => ?_)
  refine K_getR 10 2 2002 lf_PF_26 rfl rfl t9 (fun a10 r11 => ?_)
  refine B_iload_n rfl ?_
  refine B_chk (fun t12 => ?_)
  refine C_V (vs := [.ref a10, .int l1]) (st := []) (ci_V lv_PF_347 rfl rfl t12) rfl rfl rfl (s_Att_tellItem a10 l1 M8) (fun M13 => ?_)
  refine B_aload_n rfl ?_
  refine B_chk (fun t14 => ?_)
  refine K_getR 10 21 2021 lf_PF_76 rfl rfl t14 (fun a15 r16 => ?_)
  refine B_aload_n rfl ?_
  refine K_getR 10 20 2020 lf_PF_72 rfl rfl t14 (fun a17 r18 => ?_)
  refine B_chk (fun t19 => ?_)
  refine C_V (vs := [.ref a15, .ref a17]) (st := []) (ci_V lv_PF_254 rfl rfl t19) rfl rfl rfl (s_Rect_be2 a15 a17 M13) (fun M20 => ?_)
  refine B_aload_n rfl ?_
  refine B_chk (fun t21 => ?_)
  refine K_getR 10 21 2021 lf_PF_76 rfl rfl t21 (fun a22 r23 => ?_)
  refine B_aload_n rfl ?_
  refine C_R (vs := [.ref l0]) (st := [.ref a22]) (ci_V lv_PF_251 rfl rfl t21) rfl rfl rfl (s_PF_clip l0 M20) (fun a25 M24 => ?_)
  refine B_chk (fun t26 => ?_)
  refine C_V (vs := [.ref a22, .ref a25]) (st := []) (ci_V lv_PF_304 rfl rfl t26) rfl rfl rfl (s_Rect_meet a22 a25 M24) (fun M27 => ?_)
  refine B_aload_n rfl ?_
  refine B_chk (fun t28 => ?_)
  refine K_getR 10 2 2002 lf_PF_26 rfl rfl t28 (fun a29 r30 => ?_)
  refine B_chk (fun t31 => ?_)
  refine K_getI 9 0 1800 lf_PF_185 rfl rfl t31 ?_
  refine B_eq (tgt := 65) (by decide) ?_ ?_
  · skip
    exact V_weak (ls' := [some (.ref l0), some (.int l1), none, none, none, none]) ⟨rfl, ⟨rfl, trivial⟩⟩ (t_PF_behave_65 l0 l1 M27)
  · skip
    refine B_aload_n rfl ?_
    refine K_getRk 10 2 2002 lf_PF_26 rfl rfl t28 r30 ?_
    refine K_getI 9 0 1800 lf_PF_185 rfl rfl t31 ?_
    refine B_iload_n rfl ?_
    refine B_ine (tgt := 69) (by decide) ?_ ?_
    · skip
      refine V_open ok_PF_behave_69 ?_
      refine B_iconst (0 : Int32) ic_0 ?_
      refine V_close ?_
      exact V_weak (ls' := [some (.ref l0), some (.int l1), none, none, none, none]) ⟨rfl, ⟨rfl, trivial⟩⟩ (t_PF_behave_70 l0 l1 (0 : Int32) M27)
    · skip
      refine V_close ?_
      exact V_weak (ls' := [some (.ref l0), some (.int l1), none, none, none, none]) ⟨rfl, ⟨rfl, trivial⟩⟩ (t_PF_behave_65 l0 l1 M27)

-- PF_draw
theorem ok_PF_draw_0 : okb prog_1_method_32_code 0 [(.aload_n 0, 1), (.invokevirtual 350, 3), (.getfield 209, 3), (.aload_n 0, 1), (.getfield 72, 3), (.aload_n 0, 1), (.getfield 26, 3), (.getfield 185, 3), (.iload_n 1, 1), (.if_icmp .ne 7, 3), (.iconst 5, 1), (.goto 19, 3)] = true := by decide +kernel
theorem ok_PF_draw_26 : okb prog_1_method_32_code 26 [(.aload_n 0, 1), (.getfield 26, 3), (.getfield 354, 3), (.iload_n 1, 1), (.if_icmp .ne 7, 3), (.iconst 4, 1), (.goto 4, 3)] = true := by decide +kernel
theorem ok_PF_draw_41 : okb prog_1_method_32_code 41 [(.iconst 3, 1)] = true := by decide +kernel
theorem ok_PF_draw_42 : okb prog_1_method_32_code 42 [(.iconst 0, 1), (.aload_n 0, 1), (.invokevirtual 251, 3), (.invokevirtual 307, 3), (.return_, 1)] = true := by decide +kernel
set_option maxRecDepth 100000 in
def b_PF_draw_42 (G : GT) (l0 : Nat) (s0 : Nat) (s1 : Nat) (s2 : Int32) (M : PH) : Option (PH) :=
  if hT M l0 = 10 then bR (f_PF_clip G l0 M) fun a3 M2 => (if hT M2 s0 = 4 then bV (f_DrawList_quad G s0 s1 s2 (0 : Int32) a3 M2) fun M5 => (some M5) else none) else none
set_option maxRecDepth 100000 in
set_option maxHeartbeats 4000000 in
theorem t_PF_draw_42 {G : GT} (l0 : Nat) (s0 : Nat) (s1 : Nat) (s2 : Int32) (M : PH) : VX G mi_PF_draw 4 69 42 [some (.ref l0), none] [.int s2, .ref s1, .ref s0] M qV (b_PF_draw_42 G l0 s0 s1 s2 M) := by
  unfold b_PF_draw_42
  refine V_open ok_PF_draw_42 ?_
  refine B_iconst (0 : Int32) ic_0 ?_
  refine B_aload_n rfl ?_
  refine B_chk (fun t1 => ?_)
  refine C_R (vs := [.ref l0]) (st := [.int (0 : Int32), .int s2, .ref s1, .ref s0]) (ci_V lv_PF_251 rfl rfl t1) rfl rfl rfl (s_PF_clip l0 M) (fun a3 M2 => ?_)
  refine B_chk (fun t4 => ?_)
  refine C_V (vs := [.ref s0, .ref s1, .int s2, .int (0 : Int32), .ref a3]) (st := []) (ci_V lv_PF_307 rfl rfl t4) rfl rfl rfl (s_DrawList_quad s0 s1 s2 (0 : Int32) a3 M2) (fun M5 => ?_)
  exact B_vret rfl
set_option maxRecDepth 100000 in
def f_PF_draw (G : GT) (l0 : Nat) (l1 : Int32) (M : PH) : Option (PH) :=
  if hT M l0 = 10 then bR (f_PF_panel G l0 M) fun a3 M2 => (if hT M2 a3 = 7 then (hR M2 1403 a3).bind fun a5 => if hT M2 l0 = 10 then (hR M2 2020 l0).bind fun a8 => (hR M2 2002 l0).bind fun a10 => if hT M2 a10 = 9 then if ¬ hI M2 1800 a10 = l1 then (if ¬ hI M2 1801 a10 = l1 then (b_PF_draw_42 G l0 a5 a8 (3 : Int32) M2) else (b_PF_draw_42 G l0 a5 a8 (4 : Int32) M2)) else (b_PF_draw_42 G l0 a5 a8 (5 : Int32) M2) else none else none else none) else none
set_option maxRecDepth 100000 in
set_option maxHeartbeats 4000000 in
theorem s_PF_draw {G : GT} (l0 : Nat) (l1 : Int32) (M : PH) : VX G mi_PF_draw 4 69 0 [some (.ref l0), some (.int l1)] [] M qV (f_PF_draw G l0 l1 M) := by
  unfold f_PF_draw
  refine V_open ok_PF_draw_0 ?_
  refine B_aload_n rfl ?_
  refine B_chk (fun t1 => ?_)
  refine C_R (vs := [.ref l0]) (st := []) (ci_V lv_PF_350 rfl rfl t1) rfl rfl rfl (s_PF_panel l0 M) (fun a3 M2 => ?_)
  refine B_chk (fun t4 => ?_)
  refine K_getR 7 3 1403 lf_PF_209 rfl rfl t4 (fun a5 r6 => ?_)
  refine B_aload_n rfl ?_
  refine B_chk (fun t7 => ?_)
  refine K_getR 10 20 2020 lf_PF_72 rfl rfl t7 (fun a8 r9 => ?_)
  refine B_aload_n rfl ?_
  refine K_getR 10 2 2002 lf_PF_26 rfl rfl t7 (fun a10 r11 => ?_)
  refine B_chk (fun t12 => ?_)
  refine K_getI 9 0 1800 lf_PF_185 rfl rfl t12 ?_
  refine B_iload_n rfl ?_
  refine B_ine (tgt := 26) (by decide) ?_ ?_
  · skip
    refine V_open ok_PF_draw_26 ?_
    refine B_aload_n rfl ?_
    refine K_getRk 10 2 2002 lf_PF_26 rfl rfl t7 r11 ?_
    refine K_getI 9 1 1801 lf_PF_354 rfl rfl t12 ?_
    refine B_iload_n rfl ?_
    refine B_ine (tgt := 41) (by decide) ?_ ?_
    · skip
      refine V_open ok_PF_draw_41 ?_
      refine B_iconst (3 : Int32) ic_3 ?_
      refine V_close ?_
      exact V_weak (ls' := [some (.ref l0), none]) ⟨rfl, trivial⟩ (t_PF_draw_42 l0 a5 a8 (3 : Int32) M2)
    · skip
      refine B_iconst (4 : Int32) ic_4 ?_
      refine B_goto (tgt := 42) (by decide) ?_
      exact V_weak (ls' := [some (.ref l0), none]) ⟨rfl, trivial⟩ (t_PF_draw_42 l0 a5 a8 (4 : Int32) M2)
  · skip
    refine B_iconst (5 : Int32) ic_5 ?_
    refine B_goto (tgt := 42) (by decide) ?_
    exact V_weak (ls' := [some (.ref l0), none]) ⟨rfl, trivial⟩ (t_PF_draw_42 l0 a5 a8 (5 : Int32) M2)

-- PF_drawSign
theorem ok_PF_drawSign_0 : okb prog_1_method_33_code 0 [(.aload_n 0, 1), (.getfield 72, 3), (.getfield 191, 3), (.iconst 2, 1), (.iadd, 1), (.bipush 6, 2), (.iload_n 1, 1), (.imul, 1), (.iadd, 1), (.istore_n 3, 1), (.aload_n 0, 1), (.getfield 82, 3), (.iload_n 3, 1), (.aload_n 0, 1), (.getfield 72, 3), (.getfield 194, 3), (.iconst 2, 1), (.iadd, 1), (.iload_n 3, 1), (.bipush 6, 2), (.iadd, 1), (.aload_n 0, 1), (.getfield 72, 3), (.getfield 194, 3), (.bipush 10, 2), (.iadd, 1), (.invokevirtual 97, 3), (.aload_n 0, 1), (.invokevirtual 350, 3), (.getfield 209, 3), (.aload_n 0, 1), (.getfield 82, 3), (.bipush 6, 2), (.iload_n 2, 1), (.aload_n 0, 1), (.invokevirtual 251, 3), (.invokevirtual 307, 3), (.return_, 1)] = true := by decide +kernel
set_option maxRecDepth 100000 in
def f_PF_drawSign (G : GT) (l0 : Nat) (l1 : Int32) (l2 : Int32) (M : PH) : Option (PH) :=
  if hT M l0 = 10 then (hR M 2020 l0).bind fun a2 => if hT M a2 = 1 then vb (((hI M 200 a2) + (2 : Int32)) + ((6 : Int32) * l1)) fun v5 => (hR M 2023 l0).bind fun a6 => if hT M a6 = 1 then bV (f_Rect_be G a6 v5 ((hI M 201 a2) + (2 : Int32)) (v5 + (6 : Int32)) ((hI M 201 a2) + (10 : Int32)) M) fun M9 => (if hT M9 l0 = 10 then bR (f_PF_panel G l0 M9) fun a12 M11 => (if hT M11 a12 = 7 then (hR M11 1403 a12).bind fun a14 => if hT M11 l0 = 10 then (hR M11 2023 l0).bind fun a17 => bR (f_PF_clip G l0 M11) fun a20 M19 => (if hT M19 a14 = 4 then bV (f_DrawList_quad G a14 a17 (6 : Int32) l2 a20 M19) fun M22 => (some M22) else none) else none else none) else none) else none else none else none
set_option maxRecDepth 100000 in
set_option maxHeartbeats 4000000 in
theorem s_PF_drawSign {G : GT} (l0 : Nat) (l1 : Int32) (l2 : Int32) (M : PH) : VX G mi_PF_drawSign 4 69 0 [some (.ref l0), some (.int l1), some (.int l2), none] [] M qV (f_PF_drawSign G l0 l1 l2 M) := by
  unfold f_PF_drawSign
  refine V_open ok_PF_drawSign_0 ?_
  refine B_aload_n rfl ?_
  refine B_chk (fun t1 => ?_)
  refine K_getR 10 20 2020 lf_PF_72 rfl rfl t1 (fun a2 r3 => ?_)
  refine B_chk (fun t4 => ?_)
  refine K_getI 1 0 200 lf_PF_191 rfl rfl t4 ?_
  refine B_iconst (2 : Int32) ic_2 ?_
  refine B_iadd ?_
  refine B_bipush (6 : Int32) bp_6 ?_
  refine B_iload_n rfl ?_
  refine B_imul ?_
  refine B_iadd ?_
  refine B_vb (fun v5 => ?_)
  refine S_in [some (.ref l0), some (.int l1), some (.int l2), some (.int v5)] (by decide) rfl ?_
  refine B_aload_n rfl ?_
  refine K_getR 10 23 2023 lf_PF_82 rfl rfl t1 (fun a6 r7 => ?_)
  refine B_iload_n rfl ?_
  refine B_aload_n rfl ?_
  refine K_getRk 10 20 2020 lf_PF_72 rfl rfl t1 r3 ?_
  refine K_getI 1 1 201 lf_PF_194 rfl rfl t4 ?_
  refine B_iconst (2 : Int32) ic_2 ?_
  refine B_iadd ?_
  refine B_iload_n rfl ?_
  refine B_bipush (6 : Int32) bp_6 ?_
  refine B_iadd ?_
  refine B_aload_n rfl ?_
  refine K_getRk 10 20 2020 lf_PF_72 rfl rfl t1 r3 ?_
  refine K_getI 1 1 201 lf_PF_194 rfl rfl t4 ?_
  refine B_bipush (10 : Int32) bp_10 ?_
  refine B_iadd ?_
  refine B_chk (fun t8 => ?_)
  refine C_V (vs := [.ref a6, .int v5, .int ((hI M 201 a2) + (2 : Int32)), .int (v5 + (6 : Int32)), .int ((hI M 201 a2) + (10 : Int32))]) (st := []) (ci_V lv_PF_97 rfl rfl t8) rfl rfl rfl (s_Rect_be a6 v5 ((hI M 201 a2) + (2 : Int32)) (v5 + (6 : Int32)) ((hI M 201 a2) + (10 : Int32)) M) (fun M9 => ?_)
  refine B_aload_n rfl ?_
  refine B_chk (fun t10 => ?_)
  refine C_R (vs := [.ref l0]) (st := []) (ci_V lv_PF_350 rfl rfl t10) rfl rfl rfl (s_PF_panel l0 M9) (fun a12 M11 => ?_)
  refine B_chk (fun t13 => ?_)
  refine K_getR 7 3 1403 lf_PF_209 rfl rfl t13 (fun a14 r15 => ?_)
  refine B_aload_n rfl ?_
  refine B_chk (fun t16 => ?_)
  refine K_getR 10 23 2023 lf_PF_82 rfl rfl t16 (fun a17 r18 => ?_)
  refine B_bipush (6 : Int32) bp_6 ?_
  refine B_iload_n rfl ?_
  refine B_aload_n rfl ?_
  refine C_R (vs := [.ref l0]) (st := [.int l2, .int (6 : Int32), .ref a17, .ref a14]) (ci_V lv_PF_251 rfl rfl t16) rfl rfl rfl (s_PF_clip l0 M11) (fun a20 M19 => ?_)
  refine B_chk (fun t21 => ?_)
  refine C_V (vs := [.ref a14, .ref a17, .int (6 : Int32), .int l2, .ref a20]) (st := []) (ci_V lv_PF_307 rfl rfl t21) rfl rfl rfl (s_DrawList_quad a14 a17 (6 : Int32) l2 a20 M19) (fun M22 => ?_)
  exact B_vret rfl

-- PF_drawLabel
theorem ok_PF_drawLabel_0 : okb prog_1_method_34_code 0 [(.iload_n 1, 1), (.bipush 99, 2), (.if_icmp .le 7, 3), (.iconst 3, 1), (.goto 14, 3)] = true := by decide +kernel
theorem ok_PF_drawLabel_10 : okb prog_1_method_34_code 10 [(.iload_n 1, 1), (.bipush 9, 2), (.if_icmp .le 7, 3), (.iconst 2, 1), (.goto 4, 3)] = true := by decide +kernel
theorem ok_PF_drawLabel_20 : okb prog_1_method_34_code 20 [(.iconst 1, 1)] = true := by decide +kernel
theorem ok_PF_drawLabel_21 : okb prog_1_method_34_code 21 [(.istore_n 2, 1), (.iload_n 1, 1), (.istore_n 3, 1), (.iload_n 2, 1), (.iconst 3, 1), (.if_icmp .ne 8, 3), (.bipush 100, 2), (.goto 14, 3)] = true := by decide +kernel
theorem ok_PF_drawLabel_34 : okb prog_1_method_34_code 34 [(.iload_n 2, 1), (.iconst 2, 1), (.if_icmp .ne 8, 3), (.bipush 10, 2), (.goto 4, 3)] = true := by decide +kernel
theorem ok_PF_drawLabel_44 : okb prog_1_method_34_code 44 [(.iconst 1, 1)] = true := by decide +kernel
theorem ok_PF_drawLabel_45 : okb prog_1_method_34_code 45 [(.istore 4, 2), (.iconst 0, 1), (.istore 5, 2)] = true := by decide +kernel
theorem ok_PF_drawLabel_50 : okb prog_1_method_34_code 50 [(.iload 5, 2), (.iload_n 2, 1), (.if_icmp .ge 33, 3), (.aload_n 0, 1), (.iload 5, 2), (.iconst 1, 1), (.iload_n 3, 1), (.iload 4, 2), (.idiv, 1), (.iadd, 1), (.invokevirtual 371, 3), (.iload_n 3, 1), (.iload 4, 2), (.irem, 1), (.istore_n 3, 1), (.iload 4, 2), (.bipush 10, 2), (.idiv, 1), (.istore 4, 2), (.iinc 5 1, 3), (.goto (-33), 3)] = true := by decide +kernel
theorem ok_PF_drawLabel_86 : okb prog_1_method_34_code 86 [(.return_, 1)] = true := by decide +kernel
set_option maxRecDepth 100000 in
def b_PF_drawLabel_50 (G : GT) (k50 : Nat → Int32 → Int32 → Int32 → Int32 → PH → Option (PH)) (l0 : Nat) (l2 : Int32) (l3 : Int32) (l4 : Int32) (l5 : Int32) (M : PH) : Option (PH) :=
  if l2 ≤ l5 then (some M) else (if l4 = 0 then none else if hT M l0 = 10 then bV (f_PF_drawSign G l0 l5 ((1 : Int32) + (l3 / l4)) M) fun M2 => (if l4 = 0 then none else vb (l3 - l3 / l4 * l4) fun v3 => if (10 : Int32) = 0 then none else vb (l4 / (10 : Int32)) fun v4 => k50 l0 l2 v3 v4 (l5 + (1 : Int32)) M2) else none)
set_option maxRecDepth 100000 in
set_option maxHeartbeats 4000000 in
theorem t_PF_drawLabel_50 {G : GT} {k50 : Nat → Int32 → Int32 → Int32 → Int32 → PH → Option (PH)} (hk50 : ∀ (l0 : Nat) (l2 : Int32) (l3 : Int32) (l4 : Int32) (l5 : Int32) (M : PH), VX G mi_PF_drawLabel 5 84 50 [some (.ref l0), none, some (.int l2), some (.int l3), some (.int l4), some (.int l5)] [] M qV (k50 l0 l2 l3 l4 l5 M)) (l0 : Nat) (l2 : Int32) (l3 : Int32) (l4 : Int32) (l5 : Int32) (M : PH) : VX G mi_PF_drawLabel 5 84 50 [some (.ref l0), none, some (.int l2), some (.int l3), some (.int l4), some (.int l5)] [] M qV (b_PF_drawLabel_50 G k50 l0 l2 l3 l4 l5 M) := by
  unfold b_PF_drawLabel_50
  refine V_open ok_PF_drawLabel_50 ?_
  refine B_iload rfl ?_
  refine B_iload_n rfl ?_
  refine B_ige (tgt := 86) (by decide) ?_ ?_
  · skip
    refine V_open ok_PF_drawLabel_86 ?_
    exact B_vret rfl
  · skip
    refine B_aload_n rfl ?_
    refine B_iload rfl ?_
    refine B_iconst (1 : Int32) ic_1 ?_
    refine B_iload_n rfl ?_
    refine B_iload rfl ?_
    refine B_idiv ?_
    refine B_iadd ?_
    refine B_chk (fun t1 => ?_)
    refine C_V (vs := [.ref l0, .int l5, .int ((1 : Int32) + (l3 / l4))]) (st := []) (ci_V lv_PF_371 rfl rfl t1) rfl rfl rfl (s_PF_drawSign l0 l5 ((1 : Int32) + (l3 / l4)) M) (fun M2 => ?_)
    refine B_iload_n rfl ?_
    refine B_iload rfl ?_
    refine B_irem ?_
    refine B_vb (fun v3 => ?_)
    refine S_in [some (.ref l0), none, some (.int l2), some (.int v3), some (.int l4), some (.int l5)] (by decide) rfl ?_
    refine B_iload rfl ?_
    refine B_bipush (10 : Int32) bp_10 ?_
    refine B_idiv ?_
    refine B_vb (fun v4 => ?_)
    refine S_i [some (.ref l0), none, some (.int l2), some (.int v3), some (.int v4), some (.int l5)] (by decide) rfl ?_
    refine S_inc (1 : Int32) [some (.ref l0), none, some (.int l2), some (.int v3), some (.int v4), some (.int (l5 + (1 : Int32)))] ic_1 rfl (by decide) rfl ?_
    refine B_goto (tgt := 50) (by decide) ?_
    exact V_weak (ls' := [some (.ref l0), none, some (.int l2), some (.int v3), some (.int v4), some (.int (l5 + (1 : Int32)))]) ⟨rfl, ⟨rfl, ⟨rfl, ⟨rfl, ⟨rfl, trivial⟩⟩⟩⟩⟩ (hk50 l0 l2 v3 v4 (l5 + (1 : Int32)) M2)
set_option maxRecDepth 100000 in
def w_PF_drawLabel_50 (G : GT) : Nat → Nat → Int32 → Int32 → Int32 → Int32 → PH → Option (PH)
  | 0 => fun _ _ _ _ _ _ => none
  | n + 1 => b_PF_drawLabel_50 G (w_PF_drawLabel_50 G n)
set_option maxRecDepth 100000 in
set_option maxHeartbeats 4000000 in
theorem tw_PF_drawLabel_50 {G : GT} : ∀ (n : Nat) (l0 : Nat) (l2 : Int32) (l3 : Int32) (l4 : Int32) (l5 : Int32) (M : PH), VX G mi_PF_drawLabel 5 84 50 [some (.ref l0), none, some (.int l2), some (.int l3), some (.int l4), some (.int l5)] [] M qV (w_PF_drawLabel_50 G n l0 l2 l3 l4 l5 M)
  | 0, _, _, _, _, _, _ => X_none
  | n + 1, l0, l2, l3, l4, l5, M => t_PF_drawLabel_50 (tw_PF_drawLabel_50 n) l0 l2 l3 l4 l5 M
set_option maxRecDepth 100000 in
def b_PF_drawLabel_45 (G : GT) (l0 : Nat) (l2 : Int32) (l3 : Int32) (s0 : Int32) (M : PH) : Option (PH) :=
  w_PF_drawLabel_50 G FU l0 l2 l3 s0 (0 : Int32) M
set_option maxRecDepth 100000 in
set_option maxHeartbeats 4000000 in
theorem t_PF_drawLabel_45 {G : GT} (l0 : Nat) (l2 : Int32) (l3 : Int32) (s0 : Int32) (M : PH) : VX G mi_PF_drawLabel 5 84 45 [some (.ref l0), none, some (.int l2), some (.int l3), none, none] [.int s0] M qV (b_PF_drawLabel_45 G l0 l2 l3 s0 M) := by
  unfold b_PF_drawLabel_45
  refine V_open ok_PF_drawLabel_45 ?_
  refine S_i [some (.ref l0), none, some (.int l2), some (.int l3), some (.int s0), none] (by decide) rfl ?_
  refine B_iconst (0 : Int32) ic_0 ?_
  refine S_i [some (.ref l0), none, some (.int l2), some (.int l3), some (.int s0), some (.int (0 : Int32))] (by decide) rfl ?_
  refine V_close ?_
  exact V_weak (ls' := [some (.ref l0), none, some (.int l2), some (.int l3), some (.int s0), some (.int (0 : Int32))]) ⟨rfl, ⟨rfl, ⟨rfl, ⟨rfl, ⟨rfl, trivial⟩⟩⟩⟩⟩ (tw_PF_drawLabel_50 FU l0 l2 l3 s0 (0 : Int32) M)
set_option maxRecDepth 100000 in
def b_PF_drawLabel_21 (G : GT) (l0 : Nat) (l1 : Int32) (s0 : Int32) (M : PH) : Option (PH) :=
  if ¬ s0 = (3 : Int32) then (if ¬ s0 = (2 : Int32) then (b_PF_drawLabel_45 G l0 s0 l1 (1 : Int32) M) else (b_PF_drawLabel_45 G l0 s0 l1 (10 : Int32) M)) else (b_PF_drawLabel_45 G l0 s0 l1 (100 : Int32) M)
set_option maxRecDepth 100000 in
set_option maxHeartbeats 4000000 in
theorem t_PF_drawLabel_21 {G : GT} (l0 : Nat) (l1 : Int32) (s0 : Int32) (M : PH) : VX G mi_PF_drawLabel 5 84 21 [some (.ref l0), some (.int l1), none, none, none, none] [.int s0] M qV (b_PF_drawLabel_21 G l0 l1 s0 M) := by
  unfold b_PF_drawLabel_21
  refine V_open ok_PF_drawLabel_21 ?_
  refine S_in [some (.ref l0), some (.int l1), some (.int s0), none, none, none] (by decide) rfl ?_
  refine B_iload_n rfl ?_
  refine S_in [some (.ref l0), some (.int l1), some (.int s0), some (.int l1), none, none] (by decide) rfl ?_
  refine B_iload_n rfl ?_
  refine B_iconst (3 : Int32) ic_3 ?_
  refine B_ine (tgt := 34) (by decide) ?_ ?_
  · skip
    refine V_open ok_PF_drawLabel_34 ?_
    refine B_iload_n rfl ?_
    refine B_iconst (2 : Int32) ic_2 ?_
    refine B_ine (tgt := 44) (by decide) ?_ ?_
    · skip
      refine V_open ok_PF_drawLabel_44 ?_
      refine B_iconst (1 : Int32) ic_1 ?_
      refine V_close ?_
      exact V_weak (ls' := [some (.ref l0), none, some (.int s0), some (.int l1), none, none]) ⟨rfl, ⟨rfl, ⟨rfl, trivial⟩⟩⟩ (t_PF_drawLabel_45 l0 s0 l1 (1 : Int32) M)
    · skip
      refine B_bipush (10 : Int32) bp_10 ?_
      refine B_goto (tgt := 45) (by decide) ?_
      exact V_weak (ls' := [some (.ref l0), none, some (.int s0), some (.int l1), none, none]) ⟨rfl, ⟨rfl, ⟨rfl, trivial⟩⟩⟩ (t_PF_drawLabel_45 l0 s0 l1 (10 : Int32) M)
  · skip
    refine B_bipush (100 : Int32) bp_100 ?_
    refine B_goto (tgt := 45) (by decide) ?_
    exact V_weak (ls' := [some (.ref l0), none, some (.int s0), some (.int l1), none, none]) ⟨rfl, ⟨rfl, ⟨rfl, trivial⟩⟩⟩ (t_PF_drawLabel_45 l0 s0 l1 (100 : Int32) M)
set_option maxRecDepth 100000 in
def f_PF_drawLabel (G : GT) (l0 : Nat) (l1 : Int32) (M : PH) : Option (PH) :=
  if l1 ≤ (99 : Int32) then (if l1 ≤ (9 : Int32) then (b_PF_drawLabel_21 G l0 l1 (1 : Int32) M) else (b_PF_drawLabel_21 G l0 l1 (2 : Int32) M)) else (b_PF_drawLabel_21 G l0 l1 (3 : Int32) M)
set_option maxRecDepth 100000 in
set_option maxHeartbeats 4000000 in
theorem s_PF_drawLabel {G : GT} (l0 : Nat) (l1 : Int32) (M : PH) : VX G mi_PF_drawLabel 5 84 0 [some (.ref l0), some (.int l1), none, none, none, none] [] M qV (f_PF_drawLabel G l0 l1 M) := by
  unfold f_PF_drawLabel
  refine V_open ok_PF_drawLabel_0 ?_
  refine B_iload_n rfl ?_
  refine B_bipush (99 : Int32) bp_99 ?_
  refine B_ile (tgt := 10) (by decide) ?_ ?_
  · skip
    refine V_open ok_PF_drawLabel_10 ?_
    refine B_iload_n rfl ?_
    refine B_bipush (9 : Int32) bp_9 ?_
    refine B_ile (tgt := 20) (by decide) ?_ ?_
    · skip
      refine V_open ok_PF_drawLabel_20 ?_
      refine B_iconst (1 : Int32) ic_1 ?_
      refine V_close ?_
      exact V_weak (ls' := [some (.ref l0), some (.int l1), none, none, none, none]) ⟨rfl, ⟨rfl, trivial⟩⟩ (t_PF_drawLabel_21 l0 l1 (1 : Int32) M)
    · skip
      refine B_iconst (2 : Int32) ic_2 ?_
      refine B_goto (tgt := 21) (by decide) ?_
      exact V_weak (ls' := [some (.ref l0), some (.int l1), none, none, none, none]) ⟨rfl, ⟨rfl, trivial⟩⟩ (t_PF_drawLabel_21 l0 l1 (2 : Int32) M)
  · skip
    refine B_iconst (3 : Int32) ic_3 ?_
    refine B_goto (tgt := 21) (by decide) ?_
    exact V_weak (ls' := [some (.ref l0), some (.int l1), none, none, none, none]) ⟨rfl, ⟨rfl, trivial⟩⟩ (t_PF_drawLabel_21 l0 l1 (3 : Int32) M)

-- PF_button
theorem ok_PF_button_0 : okb prog_1_method_35_code 0 [(.aload_n 0, 1), (.iload_n 1, 1), (.iload_n 2, 1), (.iconst 1, 1), (.invokevirtual 374, 3), (.aload_n 0, 1), (.iload_n 1, 1), (.invokevirtual 378, 3), (.istore_n 3, 1), (.aload_n 0, 1), (.iload_n 3, 1), (.iload_n 2, 1), (.invokevirtual 382, 3), (.istore 4, 2), (.aload_n 0, 1), (.iload_n 3, 1), (.invokevirtual 385, 3), (.aload_n 0, 1), (.iload_n 1, 1), (.invokevirtual 388, 3), (.iload 4, 2), (.ireturn, 1)] = true := by decide +kernel
set_option maxRecDepth 100000 in
def f_PF_button (G : GT) (l0 : Nat) (l1 : Int32) (l2 : Int32) (M : PH) : Option (Nat × Int32 × PH) :=
  if hT M l0 = 10 then bT (f_PF_wantItem G l0 l1 l2 (1 : Int32) M) fun M2 => (if hT M2 l0 = 10 then bI (f_PF_idOf G l0 l1 M2) fun v5 M4 => (if hT M4 l0 = 10 then bI (f_PF_behave G l0 v5 l2 M4) fun v8 M7 => (if hT M7 l0 = 10 then bV (f_PF_draw G l0 v5 M7) fun M10 => (if hT M10 l0 = 10 then bV (f_PF_drawLabel G l0 l1 M10) fun M12 => (if v8 = 0 ∨ v8 = 1 then some (0, v8, M12) else none) else none) else none) else none) else none) else none
set_option maxRecDepth 100000 in
set_option maxHeartbeats 4000000 in
theorem s_PF_button {G : GT} (l0 : Nat) (l1 : Int32) (l2 : Int32) (M : PH) : VX G mi_PF_button 8 109 0 [some (.ref l0), some (.int l1), some (.int l2), none, none] [] M qT (f_PF_button G l0 l1 l2 M) := by
  unfold f_PF_button
  refine V_open ok_PF_button_0 ?_
  refine B_aload_n rfl ?_
  refine B_iload_n rfl ?_
  refine B_iload_n rfl ?_
  refine B_iconst (1 : Int32) ic_1 ?_
  refine B_chk (fun t1 => ?_)
  refine C_T (vs := [.ref l0, .int l1, .int l2, .int (1 : Int32)]) (st := []) rfl (ci_V lv_PF_374 rfl rfl t1) rfl rfl rfl (s_PF_wantItem l0 l1 l2 (1 : Int32) M) (fun M2 => ?_)
  refine B_aload_n rfl ?_
  refine B_iload_n rfl ?_
  refine B_chk (fun t3 => ?_)
  refine C_I (vs := [.ref l0, .int l1]) (st := []) (ci_V lv_PF_378 rfl rfl t3) rfl rfl rfl (s_PF_idOf l0 l1 M2) (fun v5 M4 => ?_)
  refine S_in [some (.ref l0), some (.int l1), some (.int l2), some (.int v5), none] (by decide) rfl ?_
  refine B_aload_n rfl ?_
  refine B_iload_n rfl ?_
  refine B_iload_n rfl ?_
  refine B_chk (fun t6 => ?_)
  refine C_I (vs := [.ref l0, .int v5, .int l2]) (st := []) (ci_V lv_PF_382 rfl rfl t6) rfl rfl rfl (s_PF_behave l0 v5 l2 M4) (fun v8 M7 => ?_)
  refine S_i [some (.ref l0), some (.int l1), some (.int l2), some (.int v5), some (.int v8)] (by decide) rfl ?_
  refine B_aload_n rfl ?_
  refine B_iload_n rfl ?_
  refine B_chk (fun t9 => ?_)
  refine C_V (vs := [.ref l0, .int v5]) (st := []) (ci_V lv_PF_385 rfl rfl t9) rfl rfl rfl (s_PF_draw l0 v5 M7) (fun M10 => ?_)
  refine B_aload_n rfl ?_
  refine B_iload_n rfl ?_
  refine B_chk (fun t11 => ?_)
  refine C_V (vs := [.ref l0, .int l1]) (st := []) (ci_V lv_PF_388 rfl rfl t11) rfl rfl rfl (s_PF_drawLabel l0 l1 M10) (fun M12 => ?_)
  refine B_iload rfl ?_
  refine B_chk (fun z13 => ?_)
  exact Z_tret rfl z13

-- Law_button
theorem ok_Law_button_0 : okb method_9_code 0 [(.aload_n 3, 1), (.iconst 0, 1), (.aload_n 0, 1), (.iload_n 1, 1), (.iload_n 2, 1), (.invokevirtual 35, 3), (.ifCond .eq 7, 3), (.lconst 1, 1), (.goto 4, 3)] = true := by decide +kernel
theorem ok_Law_button_15 : okb method_9_code 15 [(.lconst 0, 1)] = true := by decide +kernel
theorem ok_Law_button_16 : okb method_9_code 16 [(.lastore, 1), (.goto 11, 3)] = true := by decide +kernel
theorem ok_Law_button_20 : okb method_9_code 20 [(.astore 4, 2), (.iconst 1, 1), (.ireturn, 1)] = true := by decide +kernel
theorem ok_Law_button_24 : okb method_9_code 24 [(.astore 4, 2), (.iconst 2, 1), (.ireturn, 1)] = true := by decide +kernel
theorem ok_Law_button_28 : okb method_9_code 28 [(.iconst 0, 1), (.ireturn, 1)] = true := by decide +kernel
set_option maxRecDepth 100000 in
def b_Law_button_16 (G : GT) (s0 : Nat) (s1 : Int32) (s2 : Int64) (M : PH) : Option (Int32 × PH) :=
  if hT M s0 = 19 then if ib s1 (hN M s0) = true then hb (sL M s0 s1.toNatClampNeg s2) fun M3 => (some ((0 : Int32), M3)) else none else none
set_option maxRecDepth 100000 in
set_option maxHeartbeats 4000000 in
theorem t_Law_button_16 {G : GT} (s0 : Nat) (s1 : Int32) (s2 : Int64) (M : PH) : VX G mi_Law_button 9 127 16 [none, none, none, none, none] [.long s2, .int s1, .ref s0] M qI (b_Law_button_16 G s0 s1 s2 M) := by
  unfold b_Law_button_16
  refine V_open ok_Law_button_16 ?_
  refine B_chk (fun t1 => ?_)
  refine K_last t1 (fun M3 e2 => ?_)
  refine B_goto (tgt := 28) (by decide) ?_
  refine V_open ok_Law_button_28 ?_
  refine B_iconst (0 : Int32) ic_0 ?_
  exact B_iret rfl
set_option maxRecDepth 100000 in
def f_Law_button (G : GT) (l0 : Nat) (l1 : Int32) (l2 : Int32) (l3 : Nat) (M : PH) : Option (Int32 × PH) :=
  if hT M l0 = 10 then bH2 (f_PF_button G l0 l1 l2 M) (fun v3 M2 => if v3 = 0 then (b_Law_button_16 G l3 (0 : Int32) (0 : Int64) M2) else (b_Law_button_16 G l3 (0 : Int32) (1 : Int64) M2)) (fun M2 => some ((1 : Int32), M2)) (fun M2 => some ((2 : Int32), M2)) else none
set_option maxRecDepth 100000 in
set_option maxHeartbeats 4000000 in
theorem s_Law_button {G : GT} (l0 : Nat) (l1 : Int32) (l2 : Int32) (l3 : Nat) (M : PH) : VX G mi_Law_button 9 127 0 [some (.ref l0), some (.int l1), some (.int l2), some (.ref l3), none] [] M qI (f_Law_button G l0 l1 l2 l3 M) := by
  unfold f_Law_button
  refine V_open ok_Law_button_0 ?_
  refine B_aload_n rfl ?_
  refine B_iconst (0 : Int32) ic_0 ?_
  refine B_aload_n rfl ?_
  refine B_iload_n rfl ?_
  refine B_iload_n rfl ?_
  refine B_chk (fun t1 => ?_)
  refine C_H2 (vs := [.ref l0, .int l1, .int l2]) (st := [.int (0 : Int32), .ref l3]) 17 20 22 24 13 (by decide) rfl lh_Law_22 lh_Law_13 (ci_V lv_Law_35 rfl rfl t1) rfl rfl rfl (s_PF_button l0 l1 l2 M) (fun v3 M2 => ?_) (fun ah M2 => ?_) (fun ah M2 => ?_)
  · skip
    refine B_eq (tgt := 15) (by decide) ?_ ?_
    · skip
      refine V_open ok_Law_button_15 ?_
      refine B_lconst (0 : Int64) lc_0 ?_
      refine V_close ?_
      exact V_weak (ls' := [none, none, none, none, none]) trivial (t_Law_button_16 l3 (0 : Int32) (0 : Int64) M2)
    · skip
      refine B_lconst (1 : Int64) lc_1 ?_
      refine B_goto (tgt := 16) (by decide) ?_
      exact V_weak (ls' := [none, none, none, none, none]) trivial (t_Law_button_16 l3 (0 : Int32) (1 : Int64) M2)
  · skip
    refine V_open ok_Law_button_20 ?_
    refine S_a [some (.ref l0), some (.int l1), some (.int l2), some (.ref l3), some (.ref ah)] (by decide) rfl ?_
    refine B_iconst (1 : Int32) ic_1 ?_
    exact B_iret rfl
  · skip
    refine V_open ok_Law_button_24 ?_
    refine S_a [some (.ref l0), some (.int l1), some (.int l2), some (.ref l3), some (.ref ah)] (by decide) rfl ?_
    refine B_iconst (2 : Int32) ic_2 ?_
    exact B_iret rfl

-- Mo_bars
theorem ok_Mo_bars_0 : okb prog_13_method_51_code 0 [(.aload_n 0, 1), (.iload_n 1, 1), (.ifCond .eq 7, 3), (.iconst 0, 1), (.goto 4, 3)] = true := by decide +kernel
theorem ok_Mo_bars_9 : okb prog_13_method_51_code 9 [(.iconst 1, 1)] = true := by decide +kernel
theorem ok_Mo_bars_10 : okb prog_13_method_51_code 10 [(.putfield 175, 3), (.iload_n 1, 1), (.ifCond .ne 5, 3), (.iconst 1, 1), (.ireturn, 1)] = true := by decide +kernel
theorem ok_Mo_bars_19 : okb prog_13_method_51_code 19 [(.aload_n 0, 1), (.getfield 236, 3), (.ifCond .eq 12, 3), (.aload_n 0, 1), (.getfield 285, 3), (.ifCond .le 5, 3), (.iconst 0, 1), (.ireturn, 1)] = true := by decide +kernel
theorem ok_Mo_bars_35 : okb prog_13_method_51_code 35 [(.aload_n 0, 1), (.iconst 2, 1), (.invokevirtual 297, 3), (.pop, 1), (.iconst 1, 1), (.ireturn, 1)] = true := by decide +kernel
set_option maxRecDepth 100000 in
def b_Mo_bars_35 (G : GT) (l0 : Nat) (M : PH) : Option (Int32 × PH) :=
  if hT M l0 = 11 then bI (f_Mo_fails G l0 (2 : Int32) M) fun v3 M2 => (some ((1 : Int32), M2)) else none
set_option maxRecDepth 100000 in
set_option maxHeartbeats 4000000 in
theorem t_Mo_bars_35 {G : GT} (l0 : Nat) (M : PH) : VX G mi_Mo_bars 1 14 35 [some (.ref l0), none] [] M qI (b_Mo_bars_35 G l0 M) := by
  unfold b_Mo_bars_35
  refine V_open ok_Mo_bars_35 ?_
  refine B_aload_n rfl ?_
  refine B_iconst (2 : Int32) ic_2 ?_
  refine B_chk (fun t1 => ?_)
  refine C_I (vs := [.ref l0, .int (2 : Int32)]) (st := []) (ci_V lv_Mo_297 rfl rfl t1) rfl rfl rfl (s_Mo_fails l0 (2 : Int32) M) (fun v3 M2 => ?_)
  refine B_pop rfl ?_
  refine B_iconst (1 : Int32) ic_1 ?_
  exact Z_ret rfl (Or.inr rfl)
set_option maxRecDepth 100000 in
def b_Mo_bars_10 (G : GT) (l0 : Nat) (l1 : Int32) (s0 : Nat) (s1 : Int32) (M : PH) : Option (Int32 × PH) :=
  if hT M s0 = 11 then hb (sI M 2200 s0 s1) fun M3 => if ¬ l1 = 0 then (if hT M3 l0 = 11 then if hI M3 2218 l0 = 0 then (b_Mo_bars_35 G l0 M3) else (if hI M3 2270 l0 ≤ 0 then (b_Mo_bars_35 G l0 M3) else (some ((0 : Int32), M3))) else none) else (some ((1 : Int32), M3)) else none
set_option maxRecDepth 100000 in
set_option maxHeartbeats 4000000 in
theorem t_Mo_bars_10 {G : GT} (l0 : Nat) (l1 : Int32) (s0 : Nat) (s1 : Int32) (M : PH) : VX G mi_Mo_bars 1 14 10 [some (.ref l0), some (.int l1)] [.int s1, .ref s0] M qI (b_Mo_bars_10 G l0 l1 s0 s1 M) := by
  unfold b_Mo_bars_10
  refine V_open ok_Mo_bars_10 ?_
  refine B_chk (fun t1 => ?_)
  refine K_putI 11 0 2200 lf_Mo_175 rfl (Or.inl rfl) rfl t1 (fun M3 e2 => ?_)
  refine B_iload_n rfl ?_
  refine B_ne (tgt := 19) (by decide) ?_ ?_
  · skip
    refine V_open ok_Mo_bars_19 ?_
    refine B_aload_n rfl ?_
    refine B_chk (fun t4 => ?_)
    refine K_getI 11 18 2218 lf_Mo_236 rfl rfl t4 ?_
    refine B_eq (tgt := 35) (by decide) ?_ ?_
    · skip
      exact V_weak (ls' := [some (.ref l0), none]) ⟨rfl, trivial⟩ (t_Mo_bars_35 l0 M3)
    · skip
      refine B_aload_n rfl ?_
      refine K_getI 11 70 2270 lf_Mo_285 rfl rfl t4 ?_
      refine B_le (tgt := 35) (by decide) ?_ ?_
      · skip
        exact V_weak (ls' := [some (.ref l0), none]) ⟨rfl, trivial⟩ (t_Mo_bars_35 l0 M3)
      · skip
        refine B_iconst (0 : Int32) ic_0 ?_
        exact Z_ret rfl (Or.inl rfl)
  · skip
    refine B_iconst (1 : Int32) ic_1 ?_
    exact Z_ret rfl (Or.inr rfl)
set_option maxRecDepth 100000 in
def f_Mo_bars (G : GT) (l0 : Nat) (l1 : Int32) (M : PH) : Option (Int32 × PH) :=
  if l1 = 0 then (b_Mo_bars_10 G l0 l1 l0 (1 : Int32) M) else (b_Mo_bars_10 G l0 l1 l0 (0 : Int32) M)
set_option maxRecDepth 100000 in
set_option maxHeartbeats 4000000 in
theorem s_Mo_bars {G : GT} (l0 : Nat) (l1 : Int32) (M : PH) : VX G mi_Mo_bars 1 14 0 [some (.ref l0), some (.int l1)] [] M qI (f_Mo_bars G l0 l1 M) := by
  unfold f_Mo_bars
  refine V_open ok_Mo_bars_0 ?_
  refine B_aload_n rfl ?_
  refine B_iload_n rfl ?_
  refine B_eq (tgt := 9) (by decide) ?_ ?_
  · skip
    refine V_open ok_Mo_bars_9 ?_
    refine B_iconst (1 : Int32) ic_1 ?_
    refine V_close ?_
    exact V_weak (ls' := [some (.ref l0), some (.int l1)]) ⟨rfl, ⟨rfl, trivial⟩⟩ (t_Mo_bars_10 l0 l1 l0 (1 : Int32) M)
  · skip
    refine B_iconst (0 : Int32) ic_0 ?_
    refine B_goto (tgt := 10) (by decide) ?_
    exact V_weak (ls' := [some (.ref l0), some (.int l1)]) ⟨rfl, ⟨rfl, trivial⟩⟩ (t_Mo_bars_10 l0 l1 l0 (0 : Int32) M)

-- Mo_nextX
theorem ok_Mo_nextX_0 : okb prog_13_method_41_code 0 [(.aload_n 0, 1), (.getfield 138, 3), (.iload_n 1, 1), (.baload, 1), (.ifCond .eq 23, 3), (.aload_n 0, 1), (.getfield 135, 3), (.iload_n 1, 1), (.baload, 1), (.ifCond .eq 14, 3), (.aload_n 0, 1), (.getfield 120, 3), (.iload_n 1, 1), (.iaload, 1), (.iconst 4, 1), (.iadd, 1), (.goto 16, 3)] = true := by decide +kernel
theorem ok_Mo_nextX_29 : okb prog_13_method_41_code 29 [(.aload_n 0, 1), (.getfield 111, 3), (.iload_n 1, 1), (.iaload, 1), (.aload_n 0, 1), (.getfield 117, 3), (.iload_n 1, 1), (.iaload, 1), (.iadd, 1), (.ireturn, 1)] = true := by decide +kernel
theorem ok_Mo_nextX_42 : okb prog_13_method_41_code 42 [(.ireturn, 1)] = true := by decide +kernel
set_option maxRecDepth 100000 in
def b_Mo_nextX_29 (G : GT) (l0 : Nat) (l1 : Int32) (M : PH) : Option (Int32 × PH) :=
  if hT M l0 = 11 then (hR M 2259 l0).bind fun a2 => if hT M a2 = 16 then if ib l1 (hN M a2) = true then (hR M 2261 l0).bind fun a5 => if hT M a5 = 16 then if ib l1 (hN M a5) = true then some ((hA M a2 l1.toNatClampNeg) + (hA M a5 l1.toNatClampNeg), M) else none else none else none else none else none
set_option maxRecDepth 100000 in
set_option maxHeartbeats 4000000 in
theorem t_Mo_nextX_29 {G : GT} (l0 : Nat) (l1 : Int32) (M : PH) : VX G mi_Mo_nextX 0 0 29 [some (.ref l0), some (.int l1)] [] M qI (b_Mo_nextX_29 G l0 l1 M) := by
  unfold b_Mo_nextX_29
  refine V_open ok_Mo_nextX_29 ?_
  refine B_aload_n rfl ?_
  refine B_chk (fun t1 => ?_)
  refine K_getR 11 59 2259 lf_Mo_111 rfl rfl t1 (fun a2 r3 => ?_)
  refine B_iload_n rfl ?_
  refine B_chk (fun t4 => ?_)
  refine K_iald t4 ?_
  refine B_aload_n rfl ?_
  refine K_getR 11 61 2261 lf_Mo_117 rfl rfl t1 (fun a5 r6 => ?_)
  refine B_iload_n rfl ?_
  refine B_chk (fun t7 => ?_)
  refine K_iald t7 ?_
  refine B_iadd ?_
  exact B_iret rfl
set_option maxRecDepth 100000 in
def f_Mo_nextX (G : GT) (l0 : Nat) (l1 : Int32) (M : PH) : Option (Int32 × PH) :=
  if hT M l0 = 11 then (hR M 2268 l0).bind fun a2 => if hT M a2 = 17 then if ib l1 (hN M a2) = true then if hA M a2 l1.toNatClampNeg = 0 then (b_Mo_nextX_29 G l0 l1 M) else ((hR M 2267 l0).bind fun a5 => if hT M a5 = 17 then if ib l1 (hN M a5) = true then if hA M a5 l1.toNatClampNeg = 0 then (b_Mo_nextX_29 G l0 l1 M) else ((hR M 2262 l0).bind fun a8 => if hT M a8 = 16 then if ib l1 (hN M a8) = true then some ((hA M a8 l1.toNatClampNeg) + (4 : Int32), M) else none else none) else none else none) else none else none else none
set_option maxRecDepth 100000 in
set_option maxHeartbeats 4000000 in
theorem s_Mo_nextX {G : GT} (l0 : Nat) (l1 : Int32) (M : PH) : VX G mi_Mo_nextX 0 0 0 [some (.ref l0), some (.int l1)] [] M qI (f_Mo_nextX G l0 l1 M) := by
  unfold f_Mo_nextX
  refine V_open ok_Mo_nextX_0 ?_
  refine B_aload_n rfl ?_
  refine B_chk (fun t1 => ?_)
  refine K_getR 11 68 2268 lf_Mo_138 rfl rfl t1 (fun a2 r3 => ?_)
  refine B_iload_n rfl ?_
  refine B_chk (fun t4 => ?_)
  refine K_zald t4 ?_
  refine B_eq (tgt := 29) (by decide) ?_ ?_
  · skip
    exact V_weak (ls' := [some (.ref l0), some (.int l1)]) ⟨rfl, ⟨rfl, trivial⟩⟩ (t_Mo_nextX_29 l0 l1 M)
  · skip
    refine B_aload_n rfl ?_
    refine K_getR 11 67 2267 lf_Mo_135 rfl rfl t1 (fun a5 r6 => ?_)
    refine B_iload_n rfl ?_
    refine B_chk (fun t7 => ?_)
    refine K_zald t7 ?_
    refine B_eq (tgt := 29) (by decide) ?_ ?_
    · skip
      exact V_weak (ls' := [some (.ref l0), some (.int l1)]) ⟨rfl, ⟨rfl, trivial⟩⟩ (t_Mo_nextX_29 l0 l1 M)
    · skip
      refine B_aload_n rfl ?_
      refine K_getR 11 62 2262 lf_Mo_120 rfl rfl t1 (fun a8 r9 => ?_)
      refine B_iload_n rfl ?_
      refine B_chk (fun t10 => ?_)
      refine K_iald t10 ?_
      refine B_iconst (4 : Int32) ic_4 ?_
      refine B_iadd ?_
      refine B_goto (tgt := 42) (by decide) ?_
      refine V_open ok_Mo_nextX_42 ?_
      exact B_iret rfl

-- Mo_nextY
theorem ok_Mo_nextY_0 : okb prog_13_method_42_code 0 [(.aload_n 0, 1), (.getfield 138, 3), (.iload_n 1, 1), (.baload, 1), (.ifCond .eq 21, 3), (.aload_n 0, 1), (.getfield 135, 3), (.iload_n 1, 1), (.baload, 1), (.ifCond .eq 12, 3), (.aload_n 0, 1), (.getfield 123, 3), (.iload_n 1, 1), (.iaload, 1), (.goto 29, 3)] = true := by decide +kernel
theorem ok_Mo_nextY_27 : okb prog_13_method_42_code 27 [(.aload_n 0, 1), (.getfield 135, 3), (.iload_n 1, 1), (.baload, 1), (.ifCond .eq 14, 3), (.aload_n 0, 1), (.getfield 126, 3), (.iload_n 1, 1), (.iaload, 1), (.iconst 4, 1), (.iadd, 1), (.goto 9, 3)] = true := by decide +kernel
theorem ok_Mo_nextY_47 : okb prog_13_method_42_code 47 [(.aload_n 0, 1), (.getfield 114, 3), (.iload_n 1, 1), (.iaload, 1), (.ireturn, 1)] = true := by decide +kernel
theorem ok_Mo_nextY_53 : okb prog_13_method_42_code 53 [(.ireturn, 1)] = true := by decide +kernel
set_option maxRecDepth 100000 in
def b_Mo_nextY_27 (G : GT) (l0 : Nat) (l1 : Int32) (M : PH) : Option (Int32 × PH) :=
  if hT M l0 = 11 then (hR M 2267 l0).bind fun a2 => if hT M a2 = 17 then if ib l1 (hN M a2) = true then if hA M a2 l1.toNatClampNeg = 0 then ((hR M 2260 l0).bind fun a5 => if hT M a5 = 16 then if ib l1 (hN M a5) = true then some (hA M a5 l1.toNatClampNeg, M) else none else none) else ((hR M 2264 l0).bind fun a8 => if hT M a8 = 16 then if ib l1 (hN M a8) = true then some ((hA M a8 l1.toNatClampNeg) + (4 : Int32), M) else none else none) else none else none else none
set_option maxRecDepth 100000 in
set_option maxHeartbeats 4000000 in
theorem t_Mo_nextY_27 {G : GT} (l0 : Nat) (l1 : Int32) (M : PH) : VX G mi_Mo_nextY 0 0 27 [some (.ref l0), some (.int l1)] [] M qI (b_Mo_nextY_27 G l0 l1 M) := by
  unfold b_Mo_nextY_27
  refine V_open ok_Mo_nextY_27 ?_
  refine B_aload_n rfl ?_
  refine B_chk (fun t1 => ?_)
  refine K_getR 11 67 2267 lf_Mo_135 rfl rfl t1 (fun a2 r3 => ?_)
  refine B_iload_n rfl ?_
  refine B_chk (fun t4 => ?_)
  refine K_zald t4 ?_
  refine B_eq (tgt := 47) (by decide) ?_ ?_
  · skip
    refine V_open ok_Mo_nextY_47 ?_
    refine B_aload_n rfl ?_
    refine K_getR 11 60 2260 lf_Mo_114 rfl rfl t1 (fun a5 r6 => ?_)
    refine B_iload_n rfl ?_
    refine B_chk (fun t7 => ?_)
    refine K_iald t7 ?_
    exact B_iret rfl
  · skip
    refine B_aload_n rfl ?_
    refine K_getR 11 64 2264 lf_Mo_126 rfl rfl t1 (fun a8 r9 => ?_)
    refine B_iload_n rfl ?_
    refine B_chk (fun t10 => ?_)
    refine K_iald t10 ?_
    refine B_iconst (4 : Int32) ic_4 ?_
    refine B_iadd ?_
    refine B_goto (tgt := 53) (by decide) ?_
    refine V_open ok_Mo_nextY_53 ?_
    exact B_iret rfl
set_option maxRecDepth 100000 in
def f_Mo_nextY (G : GT) (l0 : Nat) (l1 : Int32) (M : PH) : Option (Int32 × PH) :=
  if hT M l0 = 11 then (hR M 2268 l0).bind fun a2 => if hT M a2 = 17 then if ib l1 (hN M a2) = true then if hA M a2 l1.toNatClampNeg = 0 then (b_Mo_nextY_27 G l0 l1 M) else ((hR M 2267 l0).bind fun a5 => if hT M a5 = 17 then if ib l1 (hN M a5) = true then if hA M a5 l1.toNatClampNeg = 0 then (b_Mo_nextY_27 G l0 l1 M) else ((hR M 2263 l0).bind fun a8 => if hT M a8 = 16 then if ib l1 (hN M a8) = true then some (hA M a8 l1.toNatClampNeg, M) else none else none) else none else none) else none else none else none
set_option maxRecDepth 100000 in
set_option maxHeartbeats 4000000 in
theorem s_Mo_nextY {G : GT} (l0 : Nat) (l1 : Int32) (M : PH) : VX G mi_Mo_nextY 0 0 0 [some (.ref l0), some (.int l1)] [] M qI (f_Mo_nextY G l0 l1 M) := by
  unfold f_Mo_nextY
  refine V_open ok_Mo_nextY_0 ?_
  refine B_aload_n rfl ?_
  refine B_chk (fun t1 => ?_)
  refine K_getR 11 68 2268 lf_Mo_138 rfl rfl t1 (fun a2 r3 => ?_)
  refine B_iload_n rfl ?_
  refine B_chk (fun t4 => ?_)
  refine K_zald t4 ?_
  refine B_eq (tgt := 27) (by decide) ?_ ?_
  · skip
    exact V_weak (ls' := [some (.ref l0), some (.int l1)]) ⟨rfl, ⟨rfl, trivial⟩⟩ (t_Mo_nextY_27 l0 l1 M)
  · skip
    refine B_aload_n rfl ?_
    refine K_getR 11 67 2267 lf_Mo_135 rfl rfl t1 (fun a5 r6 => ?_)
    refine B_iload_n rfl ?_
    refine B_chk (fun t7 => ?_)
    refine K_zald t7 ?_
    refine B_eq (tgt := 27) (by decide) ?_ ?_
    · skip
      exact V_weak (ls' := [some (.ref l0), some (.int l1)]) ⟨rfl, ⟨rfl, trivial⟩⟩ (t_Mo_nextY_27 l0 l1 M)
    · skip
      refine B_aload_n rfl ?_
      refine K_getR 11 63 2263 lf_Mo_123 rfl rfl t1 (fun a8 r9 => ?_)
      refine B_iload_n rfl ?_
      refine B_chk (fun t10 => ?_)
      refine K_iald t10 ?_
      refine B_goto (tgt := 53) (by decide) ?_
      refine V_open ok_Mo_nextY_53 ?_
      exact B_iret rfl

-- Mo_idOf
theorem ok_Mo_idOf_0 : okb prog_13_method_44_code 0 [(.bipush 31, 2), (.aload_n 0, 1), (.getfield 108, 3), (.aload_n 0, 1), (.getfield 282, 3), (.iconst 1, 1), (.isub, 1), (.iaload, 1), (.imul, 1), (.iconst 1, 1), (.iadd, 1), (.iload_n 1, 1), (.iadd, 1), (.istore_n 2, 1), (.iload_n 2, 1), (.ifCond .ne 7, 3), (.iconst 1, 1), (.goto 4, 3)] = true := by decide +kernel
theorem ok_Mo_idOf_27 : okb prog_13_method_44_code 27 [(.iload_n 2, 1), (.ireturn, 1)] = true := by decide +kernel
theorem ok_Mo_idOf_28 : okb prog_13_method_44_code 28 [(.ireturn, 1)] = true := by decide +kernel
set_option maxRecDepth 100000 in
def f_Mo_idOf (G : GT) (l0 : Nat) (l1 : Int32) (M : PH) : Option (Int32 × PH) :=
  if hT M l0 = 11 then (hR M 2257 l0).bind fun a2 => if hT M a2 = 16 then if ib ((hI M 2258 l0) - (1 : Int32)) (hN M a2) = true then vb ((((31 : Int32) * (hA M a2 ((hI M 2258 l0) - (1 : Int32)).toNatClampNeg)) + (1 : Int32)) + l1) fun v5 => if ¬ v5 = 0 then (some (v5, M)) else (some ((1 : Int32), M)) else none else none else none
set_option maxRecDepth 100000 in
set_option maxHeartbeats 4000000 in
theorem s_Mo_idOf {G : GT} (l0 : Nat) (l1 : Int32) (M : PH) : VX G mi_Mo_idOf 0 0 0 [some (.ref l0), some (.int l1), none] [] M qI (f_Mo_idOf G l0 l1 M) := by
  unfold f_Mo_idOf
  refine V_open ok_Mo_idOf_0 ?_
  refine B_bipush (31 : Int32) bp_31 ?_
  refine B_aload_n rfl ?_
  refine B_chk (fun t1 => ?_)
  refine K_getR 11 57 2257 lf_Mo_108 rfl rfl t1 (fun a2 r3 => ?_)
  refine B_aload_n rfl ?_
  refine K_getI 11 58 2258 lf_Mo_282 rfl rfl t1 ?_
  refine B_iconst (1 : Int32) ic_1 ?_
  refine B_isub ?_
  refine B_chk (fun t4 => ?_)
  refine K_iald t4 ?_
  refine B_imul ?_
  refine B_iconst (1 : Int32) ic_1 ?_
  refine B_iadd ?_
  refine B_iload_n rfl ?_
  refine B_iadd ?_
  refine B_vb (fun v5 => ?_)
  refine S_in [some (.ref l0), some (.int l1), some (.int v5)] (by decide) rfl ?_
  refine B_iload_n rfl ?_
  refine B_ne (tgt := 27) (by decide) ?_ ?_
  · skip
    refine V_open ok_Mo_idOf_27 ?_
    refine B_iload_n rfl ?_
    exact B_iret rfl
  · skip
    refine B_iconst (1 : Int32) ic_1 ?_
    refine B_goto (tgt := 28) (by decide) ?_
    refine V_open ok_Mo_idOf_28 ?_
    exact B_iret rfl

-- Mo_lay
theorem ok_Mo_lay_0 : okb prog_13_method_45_code 0 [(.aload_n 0, 1), (.getfield 285, 3), (.iconst 1, 1), (.isub, 1), (.istore 4, 2), (.aload_n 0, 1), (.getfield 138, 3), (.iload 4, 2), (.baload, 1), (.ifCond .eq 17, 3), (.aload_n 0, 1), (.getfield 135, 3), (.iload 4, 2), (.baload, 1), (.ifCond .eq 7, 3), (.iconst 1, 1), (.goto 4, 3)] = true := by decide +kernel
theorem ok_Mo_lay_32 : okb prog_13_method_45_code 32 [(.iconst 0, 1)] = true := by decide +kernel
theorem ok_Mo_lay_33 : okb prog_13_method_45_code 33 [(.istore 5, 2), (.aload_n 0, 1), (.iload 4, 2), (.iload 5, 2), (.aload_n 0, 1), (.iload 4, 2), (.invokevirtual 350, 3), (.aload_n 0, 1), (.iload 4, 2), (.invokevirtual 353, 3), (.iload_n 2, 1), (.iload_n 3, 1), (.invokevirtual 346, 3), (.aload_n 0, 1), (.getfield 138, 3), (.iload 4, 2), (.iconst 0, 1), (.bastore, 1), (.aload_n 0, 1), (.iload_n 1, 1), (.invokevirtual 356, 3), (.istore 6, 2), (.aload_n 0, 1), (.iload 6, 2), (.invokevirtual 324, 3), (.iload 6, 2), (.ireturn, 1)] = true := by decide +kernel
set_option maxRecDepth 100000 in
def b_Mo_lay_33 (G : GT) (l0 : Nat) (l1 : Int32) (l2 : Int32) (l3 : Int32) (l4 : Int32) (s0 : Int32) (M : PH) : Option (Int32 × PH) :=
  if hT M l0 = 11 then bI (f_Mo_nextX G l0 l4 M) fun v3 M2 => (if hT M2 l0 = 11 then bI (f_Mo_nextY G l0 l4 M2) fun v6 M5 => (if hT M5 l0 = 11 then bV (f_Mo_put G l0 l4 s0 v3 v6 l2 l3 M5) fun M8 => (if hT M8 l0 = 11 then (hR M8 2268 l0).bind fun a10 => if hT M8 a10 = 17 then if ib l4 (hN M8 a10) = true then hb (sA M8 a10 l4.toNatClampNeg (0 : Int32)) fun M14 => (bI (f_Mo_idOf G l0 l1 M14) fun v17 M16 => (if hT M16 l0 = 11 then bV (f_Mo_tell G l0 v17 M16) fun M19 => (some (v17, M19)) else none)) else none else none else none) else none) else none) else none
set_option maxRecDepth 100000 in
set_option maxHeartbeats 4000000 in
theorem t_Mo_lay_33 {G : GT} (l0 : Nat) (l1 : Int32) (l2 : Int32) (l3 : Int32) (l4 : Int32) (s0 : Int32) (M : PH) : VX G mi_Mo_lay 2 33 33 [some (.ref l0), some (.int l1), some (.int l2), some (.int l3), some (.int l4), none, none] [.int s0] M qI (b_Mo_lay_33 G l0 l1 l2 l3 l4 s0 M) := by
  unfold b_Mo_lay_33
  refine V_open ok_Mo_lay_33 ?_
  refine S_i [some (.ref l0), some (.int l1), some (.int l2), some (.int l3), some (.int l4), some (.int s0), none] (by decide) rfl ?_
  refine B_aload_n rfl ?_
  refine B_iload rfl ?_
  refine B_iload rfl ?_
  refine B_aload_n rfl ?_
  refine B_iload rfl ?_
  refine B_chk (fun t1 => ?_)
  refine C_I (vs := [.ref l0, .int l4]) (st := [.int s0, .int l4, .ref l0]) (ci_V lv_Mo_350 rfl rfl t1) rfl rfl rfl (s_Mo_nextX l0 l4 M) (fun v3 M2 => ?_)
  refine B_aload_n rfl ?_
  refine B_iload rfl ?_
  refine B_chk (fun t4 => ?_)
  refine C_I (vs := [.ref l0, .int l4]) (st := [.int v3, .int s0, .int l4, .ref l0]) (ci_V lv_Mo_353 rfl rfl t4) rfl rfl rfl (s_Mo_nextY l0 l4 M2) (fun v6 M5 => ?_)
  refine B_iload_n rfl ?_
  refine B_iload_n rfl ?_
  refine B_chk (fun t7 => ?_)
  refine C_V (vs := [.ref l0, .int l4, .int s0, .int v3, .int v6, .int l2, .int l3]) (st := []) (ci_V lv_Mo_346 rfl rfl t7) rfl rfl rfl (s_Mo_put l0 l4 s0 v3 v6 l2 l3 M5) (fun M8 => ?_)
  refine B_aload_n rfl ?_
  refine B_chk (fun t9 => ?_)
  refine K_getR 11 68 2268 lf_Mo_138 rfl rfl t9 (fun a10 r11 => ?_)
  refine B_iload rfl ?_
  refine B_iconst (0 : Int32) ic_0 ?_
  refine B_chk (fun t12 => ?_)
  refine K_zast t12 (Or.inl rfl) (fun M14 e13 => ?_)
  refine B_aload_n rfl ?_
  refine B_iload_n rfl ?_
  have h15 : hT M14 l0 = 11 := by rw [e13]; exact t9
  refine C_I (vs := [.ref l0, .int l1]) (st := []) (ci_V lv_Mo_356 rfl rfl h15) rfl rfl rfl (s_Mo_idOf l0 l1 M14) (fun v17 M16 => ?_)
  refine S_i [some (.ref l0), some (.int l1), some (.int l2), some (.int l3), some (.int l4), some (.int s0), some (.int v17)] (by decide) rfl ?_
  refine B_aload_n rfl ?_
  refine B_iload rfl ?_
  refine B_chk (fun t18 => ?_)
  refine C_V (vs := [.ref l0, .int v17]) (st := []) (ci_V lv_Mo_324 rfl rfl t18) rfl rfl rfl (s_Mo_tell l0 v17 M16) (fun M19 => ?_)
  refine B_iload rfl ?_
  exact B_iret rfl
set_option maxRecDepth 100000 in
def b_Mo_lay_32 (G : GT) (l0 : Nat) (l1 : Int32) (l2 : Int32) (l3 : Int32) (l4 : Int32) (M : PH) : Option (Int32 × PH) :=
  b_Mo_lay_33 G l0 l1 l2 l3 l4 (0 : Int32) M
set_option maxRecDepth 100000 in
set_option maxHeartbeats 4000000 in
theorem t_Mo_lay_32 {G : GT} (l0 : Nat) (l1 : Int32) (l2 : Int32) (l3 : Int32) (l4 : Int32) (M : PH) : VX G mi_Mo_lay 2 33 32 [some (.ref l0), some (.int l1), some (.int l2), some (.int l3), some (.int l4), none, none] [] M qI (b_Mo_lay_32 G l0 l1 l2 l3 l4 M) := by
  unfold b_Mo_lay_32
  refine V_open ok_Mo_lay_32 ?_
  refine B_iconst (0 : Int32) ic_0 ?_
  refine V_close ?_
  exact V_weak (ls' := [some (.ref l0), some (.int l1), some (.int l2), some (.int l3), some (.int l4), none, none]) ⟨rfl, ⟨rfl, ⟨rfl, ⟨rfl, ⟨rfl, trivial⟩⟩⟩⟩⟩ (t_Mo_lay_33 l0 l1 l2 l3 l4 (0 : Int32) M)
set_option maxRecDepth 100000 in
def f_Mo_lay (G : GT) (l0 : Nat) (l1 : Int32) (l2 : Int32) (l3 : Int32) (M : PH) : Option (Int32 × PH) :=
  if hT M l0 = 11 then vb ((hI M 2270 l0) - (1 : Int32)) fun v2 => (hR M 2268 l0).bind fun a3 => if hT M a3 = 17 then if ib v2 (hN M a3) = true then if hA M a3 v2.toNatClampNeg = 0 then (b_Mo_lay_32 G l0 l1 l2 l3 v2 M) else ((hR M 2267 l0).bind fun a6 => if hT M a6 = 17 then if ib v2 (hN M a6) = true then if hA M a6 v2.toNatClampNeg = 0 then (b_Mo_lay_32 G l0 l1 l2 l3 v2 M) else (b_Mo_lay_33 G l0 l1 l2 l3 v2 (1 : Int32) M) else none else none) else none else none else none
set_option maxRecDepth 100000 in
set_option maxHeartbeats 4000000 in
theorem s_Mo_lay {G : GT} (l0 : Nat) (l1 : Int32) (l2 : Int32) (l3 : Int32) (M : PH) : VX G mi_Mo_lay 2 33 0 [some (.ref l0), some (.int l1), some (.int l2), some (.int l3), none, none, none] [] M qI (f_Mo_lay G l0 l1 l2 l3 M) := by
  unfold f_Mo_lay
  refine V_open ok_Mo_lay_0 ?_
  refine B_aload_n rfl ?_
  refine B_chk (fun t1 => ?_)
  refine K_getI 11 70 2270 lf_Mo_285 rfl rfl t1 ?_
  refine B_iconst (1 : Int32) ic_1 ?_
  refine B_isub ?_
  refine B_vb (fun v2 => ?_)
  refine S_i [some (.ref l0), some (.int l1), some (.int l2), some (.int l3), some (.int v2), none, none] (by decide) rfl ?_
  refine B_aload_n rfl ?_
  refine K_getR 11 68 2268 lf_Mo_138 rfl rfl t1 (fun a3 r4 => ?_)
  refine B_iload rfl ?_
  refine B_chk (fun t5 => ?_)
  refine K_zald t5 ?_
  refine B_eq (tgt := 32) (by decide) ?_ ?_
  · skip
    exact V_weak (ls' := [some (.ref l0), some (.int l1), some (.int l2), some (.int l3), some (.int v2), none, none]) ⟨rfl, ⟨rfl, ⟨rfl, ⟨rfl, ⟨rfl, trivial⟩⟩⟩⟩⟩ (t_Mo_lay_32 l0 l1 l2 l3 v2 M)
  · skip
    refine B_aload_n rfl ?_
    refine K_getR 11 67 2267 lf_Mo_135 rfl rfl t1 (fun a6 r7 => ?_)
    refine B_iload rfl ?_
    refine B_chk (fun t8 => ?_)
    refine K_zald t8 ?_
    refine B_eq (tgt := 32) (by decide) ?_ ?_
    · skip
      exact V_weak (ls' := [some (.ref l0), some (.int l1), some (.int l2), some (.int l3), some (.int v2), none, none]) ⟨rfl, ⟨rfl, ⟨rfl, ⟨rfl, ⟨rfl, trivial⟩⟩⟩⟩⟩ (t_Mo_lay_32 l0 l1 l2 l3 v2 M)
    · skip
      refine B_iconst (1 : Int32) ic_1 ?_
      refine B_goto (tgt := 33) (by decide) ?_
      exact V_weak (ls' := [some (.ref l0), some (.int l1), some (.int l2), some (.int l3), some (.int v2), none, none]) ⟨rfl, ⟨rfl, ⟨rfl, ⟨rfl, ⟨rfl, trivial⟩⟩⟩⟩⟩ (t_Mo_lay_33 l0 l1 l2 l3 v2 (1 : Int32) M)

-- Mo_hasBehaved
theorem ok_Mo_hasBehaved_0 : okb prog_13_method_22_code 0 [(.iconst 0, 1), (.istore_n 2, 1), (.iconst 0, 1), (.istore_n 3, 1)] = true := by decide +kernel
theorem ok_Mo_hasBehaved_4 : okb prog_13_method_22_code 4 [(.iload_n 3, 1), (.aload_n 0, 1), (.getfield 270, 3), (.if_icmp .ge 29, 3), (.iload_n 2, 1), (.ifCond .ne 13, 3), (.aload_n 0, 1), (.getfield 33, 3), (.iload_n 3, 1), (.iaload, 1), (.iload_n 1, 1), (.if_icmp .ne 7, 3)] = true := by decide +kernel
theorem ok_Mo_hasBehaved_26 : okb prog_13_method_22_code 26 [(.iconst 1, 1), (.goto 4, 3)] = true := by decide +kernel
theorem ok_Mo_hasBehaved_30 : okb prog_13_method_22_code 30 [(.iconst 0, 1)] = true := by decide +kernel
theorem ok_Mo_hasBehaved_31 : okb prog_13_method_22_code 31 [(.istore_n 2, 1), (.iinc 3 1, 3), (.goto (-31), 3)] = true := by decide +kernel
theorem ok_Mo_hasBehaved_38 : okb prog_13_method_22_code 38 [(.iload_n 2, 1), (.ireturn, 1)] = true := by decide +kernel
set_option maxRecDepth 100000 in
def b_Mo_hasBehaved_31 (G : GT) (k4 : Nat → Int32 → Int32 → Int32 → PH → Option (Int32 × PH)) (l0 : Nat) (l1 : Int32) (l3 : Int32) (s0 : Int32) (M : PH) : Option (Int32 × PH) :=
  k4 l0 l1 s0 (l3 + (1 : Int32)) M
set_option maxRecDepth 100000 in
set_option maxHeartbeats 4000000 in
theorem t_Mo_hasBehaved_31 {G : GT} {k4 : Nat → Int32 → Int32 → Int32 → PH → Option (Int32 × PH)} (hk4 : ∀ (l0 : Nat) (l1 : Int32) (l2 : Int32) (l3 : Int32) (M : PH), VX G mi_Mo_hasBehaved 0 0 4 [some (.ref l0), some (.int l1), some (.int l2), some (.int l3)] [] M qI (k4 l0 l1 l2 l3 M)) (l0 : Nat) (l1 : Int32) (l3 : Int32) (s0 : Int32) (M : PH) : VX G mi_Mo_hasBehaved 0 0 31 [some (.ref l0), some (.int l1), none, some (.int l3)] [.int s0] M qI (b_Mo_hasBehaved_31 G k4 l0 l1 l3 s0 M) := by
  unfold b_Mo_hasBehaved_31
  refine V_open ok_Mo_hasBehaved_31 ?_
  refine S_in [some (.ref l0), some (.int l1), some (.int s0), some (.int l3)] (by decide) rfl ?_
  refine S_inc (1 : Int32) [some (.ref l0), some (.int l1), some (.int s0), some (.int (l3 + (1 : Int32)))] ic_1 rfl (by decide) rfl ?_
  refine B_goto (tgt := 4) (by decide) ?_
  exact V_weak (ls' := [some (.ref l0), some (.int l1), some (.int s0), some (.int (l3 + (1 : Int32)))]) ⟨rfl, ⟨rfl, ⟨rfl, ⟨rfl, trivial⟩⟩⟩⟩ (hk4 l0 l1 s0 (l3 + (1 : Int32)) M)
set_option maxRecDepth 100000 in
def b_Mo_hasBehaved_26 (G : GT) (k4 : Nat → Int32 → Int32 → Int32 → PH → Option (Int32 × PH)) (l0 : Nat) (l1 : Int32) (l3 : Int32) (M : PH) : Option (Int32 × PH) :=
  b_Mo_hasBehaved_31 G k4 l0 l1 l3 (1 : Int32) M
set_option maxRecDepth 100000 in
set_option maxHeartbeats 4000000 in
theorem t_Mo_hasBehaved_26 {G : GT} {k4 : Nat → Int32 → Int32 → Int32 → PH → Option (Int32 × PH)} (hk4 : ∀ (l0 : Nat) (l1 : Int32) (l2 : Int32) (l3 : Int32) (M : PH), VX G mi_Mo_hasBehaved 0 0 4 [some (.ref l0), some (.int l1), some (.int l2), some (.int l3)] [] M qI (k4 l0 l1 l2 l3 M)) (l0 : Nat) (l1 : Int32) (l3 : Int32) (M : PH) : VX G mi_Mo_hasBehaved 0 0 26 [some (.ref l0), some (.int l1), none, some (.int l3)] [] M qI (b_Mo_hasBehaved_26 G k4 l0 l1 l3 M) := by
  unfold b_Mo_hasBehaved_26
  refine V_open ok_Mo_hasBehaved_26 ?_
  refine B_iconst (1 : Int32) ic_1 ?_
  refine B_goto (tgt := 31) (by decide) ?_
  exact V_weak (ls' := [some (.ref l0), some (.int l1), none, some (.int l3)]) ⟨rfl, ⟨rfl, ⟨rfl, trivial⟩⟩⟩ (t_Mo_hasBehaved_31 hk4 l0 l1 l3 (1 : Int32) M)
set_option maxRecDepth 100000 in
def b_Mo_hasBehaved_4 (G : GT) (k4 : Nat → Int32 → Int32 → Int32 → PH → Option (Int32 × PH)) (l0 : Nat) (l1 : Int32) (l2 : Int32) (l3 : Int32) (M : PH) : Option (Int32 × PH) :=
  if hT M l0 = 11 then if hI M 2227 l0 ≤ l3 then (if l2 = 0 ∨ l2 = 1 then some (l2, M) else none) else (if ¬ l2 = 0 then (b_Mo_hasBehaved_26 G k4 l0 l1 l3 M) else ((hR M 2226 l0).bind fun a3 => if hT M a3 = 16 then if ib l3 (hN M a3) = true then if ¬ hA M a3 l3.toNatClampNeg = l1 then (b_Mo_hasBehaved_31 G k4 l0 l1 l3 (0 : Int32) M) else (b_Mo_hasBehaved_26 G k4 l0 l1 l3 M) else none else none)) else none
set_option maxRecDepth 100000 in
set_option maxHeartbeats 4000000 in
theorem t_Mo_hasBehaved_4 {G : GT} {k4 : Nat → Int32 → Int32 → Int32 → PH → Option (Int32 × PH)} (hk4 : ∀ (l0 : Nat) (l1 : Int32) (l2 : Int32) (l3 : Int32) (M : PH), VX G mi_Mo_hasBehaved 0 0 4 [some (.ref l0), some (.int l1), some (.int l2), some (.int l3)] [] M qI (k4 l0 l1 l2 l3 M)) (l0 : Nat) (l1 : Int32) (l2 : Int32) (l3 : Int32) (M : PH) : VX G mi_Mo_hasBehaved 0 0 4 [some (.ref l0), some (.int l1), some (.int l2), some (.int l3)] [] M qI (b_Mo_hasBehaved_4 G k4 l0 l1 l2 l3 M) := by
  unfold b_Mo_hasBehaved_4
  refine V_open ok_Mo_hasBehaved_4 ?_
  refine B_iload_n rfl ?_
  refine B_aload_n rfl ?_
  refine B_chk (fun t1 => ?_)
  refine K_getI 11 27 2227 lf_Mo_270 rfl rfl t1 ?_
  refine B_ige (tgt := 38) (by decide) ?_ ?_
  · skip
    refine V_open ok_Mo_hasBehaved_38 ?_
    refine B_iload_n rfl ?_
    refine B_chk (fun z2 => ?_)
    exact Z_ret rfl z2
  · skip
    refine B_iload_n rfl ?_
    refine B_ne (tgt := 26) (by decide) ?_ ?_
    · skip
      exact V_weak (ls' := [some (.ref l0), some (.int l1), none, some (.int l3)]) ⟨rfl, ⟨rfl, ⟨rfl, trivial⟩⟩⟩ (t_Mo_hasBehaved_26 hk4 l0 l1 l3 M)
    · skip
      refine B_aload_n rfl ?_
      refine K_getR 11 26 2226 lf_Mo_33 rfl rfl t1 (fun a3 r4 => ?_)
      refine B_iload_n rfl ?_
      refine B_chk (fun t5 => ?_)
      refine K_iald t5 ?_
      refine B_iload_n rfl ?_
      refine B_ine (tgt := 30) (by decide) ?_ ?_
      · skip
        refine V_open ok_Mo_hasBehaved_30 ?_
        refine B_iconst (0 : Int32) ic_0 ?_
        refine V_close ?_
        exact V_weak (ls' := [some (.ref l0), some (.int l1), none, some (.int l3)]) ⟨rfl, ⟨rfl, ⟨rfl, trivial⟩⟩⟩ (t_Mo_hasBehaved_31 hk4 l0 l1 l3 (0 : Int32) M)
      · skip
        refine V_close ?_
        exact V_weak (ls' := [some (.ref l0), some (.int l1), none, some (.int l3)]) ⟨rfl, ⟨rfl, ⟨rfl, trivial⟩⟩⟩ (t_Mo_hasBehaved_26 hk4 l0 l1 l3 M)
set_option maxRecDepth 100000 in
def w_Mo_hasBehaved_4 (G : GT) : Nat → Nat → Int32 → Int32 → Int32 → PH → Option (Int32 × PH)
  | 0 => fun _ _ _ _ _ => none
  | n + 1 => b_Mo_hasBehaved_4 G (w_Mo_hasBehaved_4 G n)
set_option maxRecDepth 100000 in
set_option maxHeartbeats 4000000 in
theorem tw_Mo_hasBehaved_4 {G : GT} : ∀ (n : Nat) (l0 : Nat) (l1 : Int32) (l2 : Int32) (l3 : Int32) (M : PH), VX G mi_Mo_hasBehaved 0 0 4 [some (.ref l0), some (.int l1), some (.int l2), some (.int l3)] [] M qI (w_Mo_hasBehaved_4 G n l0 l1 l2 l3 M)
  | 0, _, _, _, _, _ => X_none
  | n + 1, l0, l1, l2, l3, M => t_Mo_hasBehaved_4 (tw_Mo_hasBehaved_4 n) l0 l1 l2 l3 M
set_option maxRecDepth 100000 in
def f_Mo_hasBehaved (G : GT) (l0 : Nat) (l1 : Int32) (M : PH) : Option (Int32 × PH) :=
  w_Mo_hasBehaved_4 G FU l0 l1 (0 : Int32) (0 : Int32) M
set_option maxRecDepth 100000 in
set_option maxHeartbeats 4000000 in
theorem s_Mo_hasBehaved {G : GT} (l0 : Nat) (l1 : Int32) (M : PH) : VX G mi_Mo_hasBehaved 0 0 0 [some (.ref l0), some (.int l1), none, none] [] M qI (f_Mo_hasBehaved G l0 l1 M) := by
  unfold f_Mo_hasBehaved
  refine V_open ok_Mo_hasBehaved_0 ?_
  refine B_iconst (0 : Int32) ic_0 ?_
  refine S_in [some (.ref l0), some (.int l1), some (.int (0 : Int32)), none] (by decide) rfl ?_
  refine B_iconst (0 : Int32) ic_0 ?_
  refine S_in [some (.ref l0), some (.int l1), some (.int (0 : Int32)), some (.int (0 : Int32))] (by decide) rfl ?_
  refine V_close ?_
  exact V_weak (ls' := [some (.ref l0), some (.int l1), some (.int (0 : Int32)), some (.int (0 : Int32))]) ⟨rfl, ⟨rfl, ⟨rfl, ⟨rfl, trivial⟩⟩⟩⟩ (tw_Mo_hasBehaved_4 FU l0 l1 (0 : Int32) (0 : Int32) M)

-- Mo_behaves
theorem ok_Mo_behaves_0 : okb prog_13_method_46_code 0 [(.aload_n 0, 1), (.getfield 150, 3), (.iconst 0, 1), (.iaload, 1), (.aload_n 0, 1), (.getfield 147, 3), (.iconst 0, 1), (.iaload, 1), (.invokestatic 182, 3), (.istore_n 2, 1), (.aload_n 0, 1), (.getfield 150, 3), (.iconst 1, 1), (.iaload, 1), (.aload_n 0, 1), (.getfield 147, 3), (.iconst 1, 1), (.iaload, 1), (.invokestatic 182, 3), (.istore_n 3, 1), (.aload_n 0, 1), (.getfield 150, 3), (.iconst 2, 1), (.iaload, 1), (.aload_n 0, 1), (.getfield 147, 3), (.iconst 2, 1), (.iaload, 1), (.invokestatic 178, 3), (.istore 4, 2), (.aload_n 0, 1), (.getfield 150, 3), (.iconst 3, 1), (.iaload, 1), (.aload_n 0, 1), (.getfield 147, 3), (.iconst 3, 1), (.iaload, 1), (.invokestatic 178, 3), (.istore 5, 2), (.aload_n 0, 1), (.aload_n 0, 1), (.getfield 192, 3), (.aload_n 0, 1), (.getfield 195, 3), (.iload_n 2, 1), (.iload_n 3, 1), (.iload 4, 2), (.iload 5, 2), (.invokevirtual 228, 3), (.ifCond .eq 40, 3), (.aload_n 0, 1), (.getfield 26, 3), (.aload_n 0, 1), (.getfield 144, 3), (.if_icmp .ne 29, 3), (.aload_n 0, 1), (.getfield 255, 3), (.ifCond .eq 11, 3), (.aload_n 0, 1), (.getfield 255, 3), (.iload_n 1, 1), (.if_icmp .ne 14, 3)] = true := by decide +kernel
theorem ok_Mo_behaves_113 : okb prog_13_method_46_code 113 [(.aload_n 0, 1), (.getfield 264, 3), (.ifCond .ne 7, 3), (.iconst 1, 1), (.goto 4, 3)] = true := by decide +kernel
theorem ok_Mo_behaves_124 : okb prog_13_method_46_code 124 [(.iconst 0, 1)] = true := by decide +kernel
theorem ok_Mo_behaves_125 : okb prog_13_method_46_code 125 [(.istore 6, 2), (.iload 6, 2), (.ifCond .eq 8, 3), (.aload_n 0, 1), (.iload_n 1, 1), (.putfield 264, 3)] = true := by decide +kernel
theorem ok_Mo_behaves_137 : okb prog_13_method_46_code 137 [(.iconst 0, 1), (.istore 7, 2), (.aload_n 0, 1), (.getfield 17, 3), (.iconst 0, 1), (.baload, 1), (.ifCond .eq 46, 3), (.aload_n 0, 1), (.getfield 273, 3), (.ifCond .ne 39, 3), (.aload_n 0, 1), (.getfield 294, 3), (.ifCond .eq 32, 3), (.iload_n 1, 1), (.aload_n 0, 1), (.getfield 294, 3), (.if_icmp .eq 24, 3), (.aload_n 0, 1), (.aload_n 0, 1), (.getfield 294, 3), (.invokevirtual 359, 3), (.ifCond .eq 13, 3), (.aload_n 0, 1), (.iload_n 1, 1), (.invokevirtual 300, 3), (.aload_n 0, 1), (.iconst 1, 1), (.putfield 273, 3)] = true := by decide +kernel
theorem ok_Mo_behaves_192 : okb prog_13_method_46_code 192 [(.aload_n 0, 1), (.getfield 33, 3), (.aload_n 0, 1), (.getfield 270, 3), (.iload_n 1, 1), (.iastore, 1), (.aload_n 0, 1), (.dup, 1), (.getfield 270, 3), (.iconst 1, 1), (.iadd, 1), (.putfield 270, 3), (.iload 6, 2), (.ifCond .eq 27, 3), (.aload_n 0, 1), (.getfield 202, 3), (.ifCond .eq 20, 3), (.aload_n 0, 1), (.getfield 255, 3), (.ifCond .ne 13, 3), (.aload_n 0, 1), (.iload_n 1, 1), (.putfield 255, 3), (.aload_n 0, 1), (.iload_n 1, 1), (.invokevirtual 300, 3)] = true := by decide +kernel
theorem ok_Mo_behaves_241 : okb prog_13_method_46_code 241 [(.aload_n 0, 1), (.getfield 255, 3), (.iload_n 1, 1), (.if_icmp .ne 19, 3), (.aload_n 0, 1), (.getfield 205, 3), (.ifCond .eq 12, 3), (.aload_n 0, 1), (.iconst 0, 1), (.putfield 255, 3), (.iload 6, 2), (.istore 7, 2)] = true := by decide +kernel
theorem ok_Mo_behaves_265 : okb prog_13_method_46_code 265 [(.aload_n 0, 1), (.getfield 294, 3), (.iload_n 1, 1), (.if_icmp .ne 17, 3), (.aload_n 0, 1), (.getfield 17, 3), (.iconst 1, 1), (.baload, 1), (.ifCond .eq 8, 3), (.aload_n 0, 1), (.iload_n 1, 1), (.putfield 291, 3)] = true := by decide +kernel
theorem ok_Mo_behaves_287 : okb prog_13_method_46_code 287 [(.aload_n 0, 1), (.getfield 294, 3), (.iload_n 1, 1), (.if_icmp .ne 28, 3), (.aload_n 0, 1), (.getfield 291, 3), (.iload_n 1, 1), (.if_icmp .ne 20, 3), (.aload_n 0, 1), (.getfield 20, 3), (.iconst 1, 1), (.baload, 1), (.ifCond .eq 11, 3), (.aload_n 0, 1), (.iconst 0, 1), (.putfield 291, 3), (.iconst 1, 1), (.istore 7, 2), (.iload 7, 2), (.ireturn, 1)] = true := by decide +kernel
theorem ok_Mo_behaves_320 : okb prog_13_method_46_code 320 [(.iload 7, 2), (.ireturn, 1)] = true := by decide +kernel
set_option maxRecDepth 100000 in
def b_Mo_behaves_287 (G : GT) (l0 : Nat) (l1 : Int32) (l7 : Int32) (M : PH) : Option (Int32 × PH) :=
  if hT M l0 = 11 then if ¬ hI M 2221 l0 = l1 then (if l7 = 0 ∨ l7 = 1 then some (l7, M) else none) else (if ¬ hI M 2222 l0 = l1 then (if l7 = 0 ∨ l7 = 1 then some (l7, M) else none) else ((hR M 2212 l0).bind fun a4 => if hT M a4 = 17 then if 1 < hN M a4 then if hA M a4 1 = 0 then (if l7 = 0 ∨ l7 = 1 then some (l7, M) else none) else (hb (sI M 2222 l0 (0 : Int32)) fun M9 => some ((1 : Int32), M9)) else none else none)) else none
set_option maxRecDepth 100000 in
set_option maxHeartbeats 4000000 in
theorem t_Mo_behaves_287 {G : GT} (l0 : Nat) (l1 : Int32) (l7 : Int32) (M : PH) : VX G mi_Mo_behaves 1 18 287 [some (.ref l0), some (.int l1), none, none, none, none, none, some (.int l7)] [] M qI (b_Mo_behaves_287 G l0 l1 l7 M) := by
  unfold b_Mo_behaves_287
  refine V_open ok_Mo_behaves_287 ?_
  refine B_aload_n rfl ?_
  refine B_chk (fun t1 => ?_)
  refine K_getI 11 21 2221 lf_Mo_294 rfl rfl t1 ?_
  refine B_iload_n rfl ?_
  refine B_ine (tgt := 320) (by decide) ?_ ?_
  · skip
    refine V_open ok_Mo_behaves_320 ?_
    refine B_iload rfl ?_
    refine B_chk (fun z2 => ?_)
    exact Z_ret rfl z2
  · skip
    refine B_aload_n rfl ?_
    refine K_getI 11 22 2222 lf_Mo_291 rfl rfl t1 ?_
    refine B_iload_n rfl ?_
    refine B_ine (tgt := 320) (by decide) ?_ ?_
    · skip
      refine V_open ok_Mo_behaves_320 ?_
      refine B_iload rfl ?_
      refine B_chk (fun z3 => ?_)
      exact Z_ret rfl z3
    · skip
      refine B_aload_n rfl ?_
      refine K_getR 11 12 2212 lf_Mo_20 rfl rfl t1 (fun a4 r5 => ?_)
      refine B_iconst (1 : Int32) ic_1 ?_
      refine B_chk (fun t6 => ?_)
      refine K_zaldc 1 rfl t6 ?_
      refine B_eq (tgt := 320) (by decide) ?_ ?_
      · skip
        refine V_open ok_Mo_behaves_320 ?_
        refine B_iload rfl ?_
        refine B_chk (fun z7 => ?_)
        exact Z_ret rfl z7
      · skip
        refine B_aload_n rfl ?_
        refine B_iconst (0 : Int32) ic_0 ?_
        refine K_putI 11 22 2222 lf_Mo_291 rfl (Or.inl rfl) rfl t1 (fun M9 e8 => ?_)
        refine B_iconst (1 : Int32) ic_1 ?_
        refine S_i [some (.ref l0), some (.int l1), none, none, none, none, none, some (.int (1 : Int32))] (by decide) rfl ?_
        refine B_iload rfl ?_
        exact Z_ret rfl (Or.inr rfl)
set_option maxRecDepth 100000 in
def b_Mo_behaves_265 (G : GT) (l0 : Nat) (l1 : Int32) (l7 : Int32) (M : PH) : Option (Int32 × PH) :=
  if hT M l0 = 11 then if ¬ hI M 2221 l0 = l1 then (b_Mo_behaves_287 G l0 l1 l7 M) else ((hR M 2211 l0).bind fun a2 => if hT M a2 = 17 then if 1 < hN M a2 then if hA M a2 1 = 0 then (b_Mo_behaves_287 G l0 l1 l7 M) else (hb (sI M 2222 l0 l1) fun M6 => b_Mo_behaves_287 G l0 l1 l7 M6) else none else none) else none
set_option maxRecDepth 100000 in
set_option maxHeartbeats 4000000 in
theorem t_Mo_behaves_265 {G : GT} (l0 : Nat) (l1 : Int32) (l7 : Int32) (M : PH) : VX G mi_Mo_behaves 1 18 265 [some (.ref l0), some (.int l1), none, none, none, none, none, some (.int l7)] [] M qI (b_Mo_behaves_265 G l0 l1 l7 M) := by
  unfold b_Mo_behaves_265
  refine V_open ok_Mo_behaves_265 ?_
  refine B_aload_n rfl ?_
  refine B_chk (fun t1 => ?_)
  refine K_getI 11 21 2221 lf_Mo_294 rfl rfl t1 ?_
  refine B_iload_n rfl ?_
  refine B_ine (tgt := 287) (by decide) ?_ ?_
  · skip
    exact V_weak (ls' := [some (.ref l0), some (.int l1), none, none, none, none, none, some (.int l7)]) ⟨rfl, ⟨rfl, ⟨rfl, trivial⟩⟩⟩ (t_Mo_behaves_287 l0 l1 l7 M)
  · skip
    refine B_aload_n rfl ?_
    refine K_getR 11 11 2211 lf_Mo_17 rfl rfl t1 (fun a2 r3 => ?_)
    refine B_iconst (1 : Int32) ic_1 ?_
    refine B_chk (fun t4 => ?_)
    refine K_zaldc 1 rfl t4 ?_
    refine B_eq (tgt := 287) (by decide) ?_ ?_
    · skip
      exact V_weak (ls' := [some (.ref l0), some (.int l1), none, none, none, none, none, some (.int l7)]) ⟨rfl, ⟨rfl, ⟨rfl, trivial⟩⟩⟩ (t_Mo_behaves_287 l0 l1 l7 M)
    · skip
      refine B_aload_n rfl ?_
      refine B_iload_n rfl ?_
      refine K_putI 11 22 2222 lf_Mo_291 rfl (Or.inl rfl) rfl t1 (fun M6 e5 => ?_)
      refine V_close ?_
      exact V_weak (ls' := [some (.ref l0), some (.int l1), none, none, none, none, none, some (.int l7)]) ⟨rfl, ⟨rfl, ⟨rfl, trivial⟩⟩⟩ (t_Mo_behaves_287 l0 l1 l7 M6)
set_option maxRecDepth 100000 in
def b_Mo_behaves_241 (G : GT) (l0 : Nat) (l1 : Int32) (l6 : Int32) (l7 : Int32) (M : PH) : Option (Int32 × PH) :=
  if hT M l0 = 11 then if ¬ hI M 2219 l0 = l1 then (b_Mo_behaves_265 G l0 l1 l7 M) else (if hI M 2214 l0 = 0 then (b_Mo_behaves_265 G l0 l1 l7 M) else (hb (sI M 2219 l0 (0 : Int32)) fun M3 => b_Mo_behaves_265 G l0 l1 l6 M3)) else none
set_option maxRecDepth 100000 in
set_option maxHeartbeats 4000000 in
theorem t_Mo_behaves_241 {G : GT} (l0 : Nat) (l1 : Int32) (l6 : Int32) (l7 : Int32) (M : PH) : VX G mi_Mo_behaves 1 18 241 [some (.ref l0), some (.int l1), none, none, none, none, some (.int l6), some (.int l7)] [] M qI (b_Mo_behaves_241 G l0 l1 l6 l7 M) := by
  unfold b_Mo_behaves_241
  refine V_open ok_Mo_behaves_241 ?_
  refine B_aload_n rfl ?_
  refine B_chk (fun t1 => ?_)
  refine K_getI 11 19 2219 lf_Mo_255 rfl rfl t1 ?_
  refine B_iload_n rfl ?_
  refine B_ine (tgt := 265) (by decide) ?_ ?_
  · skip
    exact V_weak (ls' := [some (.ref l0), some (.int l1), none, none, none, none, none, some (.int l7)]) ⟨rfl, ⟨rfl, ⟨rfl, trivial⟩⟩⟩ (t_Mo_behaves_265 l0 l1 l7 M)
  · skip
    refine B_aload_n rfl ?_
    refine K_getI 11 14 2214 lf_Mo_205 rfl rfl t1 ?_
    refine B_eq (tgt := 265) (by decide) ?_ ?_
    · skip
      exact V_weak (ls' := [some (.ref l0), some (.int l1), none, none, none, none, none, some (.int l7)]) ⟨rfl, ⟨rfl, ⟨rfl, trivial⟩⟩⟩ (t_Mo_behaves_265 l0 l1 l7 M)
    · skip
      refine B_aload_n rfl ?_
      refine B_iconst (0 : Int32) ic_0 ?_
      refine K_putI 11 19 2219 lf_Mo_255 rfl (Or.inl rfl) rfl t1 (fun M3 e2 => ?_)
      refine B_iload rfl ?_
      refine S_i [some (.ref l0), some (.int l1), none, none, none, none, some (.int l6), some (.int l6)] (by decide) rfl ?_
      refine V_close ?_
      exact V_weak (ls' := [some (.ref l0), some (.int l1), none, none, none, none, none, some (.int l6)]) ⟨rfl, ⟨rfl, ⟨rfl, trivial⟩⟩⟩ (t_Mo_behaves_265 l0 l1 l6 M3)
set_option maxRecDepth 100000 in
def b_Mo_behaves_192 (G : GT) (l0 : Nat) (l1 : Int32) (l6 : Int32) (l7 : Int32) (M : PH) : Option (Int32 × PH) :=
  if hT M l0 = 11 then (hR M 2226 l0).bind fun a2 => if hT M a2 = 16 then if ib (hI M 2227 l0) (hN M a2) = true then hb (sA M a2 (hI M 2227 l0).toNatClampNeg l1) fun M6 => (hb (sI M6 2227 l0 ((hI M6 2227 l0) + (1 : Int32))) fun M9 => if l6 = 0 then (b_Mo_behaves_241 G l0 l1 l6 l7 M9) else (if hI M9 2213 l0 = 0 then (b_Mo_behaves_241 G l0 l1 l6 l7 M9) else (if ¬ hI M9 2219 l0 = 0 then (b_Mo_behaves_241 G l0 l1 l6 l7 M9) else (hb (sI M9 2219 l0 l1) fun M12 => bV (f_Mo_give G l0 l1 M12) fun M14 => (b_Mo_behaves_241 G l0 l1 l6 l7 M14))))) else none else none else none
set_option maxRecDepth 100000 in
set_option maxHeartbeats 4000000 in
theorem t_Mo_behaves_192 {G : GT} (l0 : Nat) (l1 : Int32) (l6 : Int32) (l7 : Int32) (M : PH) : VX G mi_Mo_behaves 1 18 192 [some (.ref l0), some (.int l1), none, none, none, none, some (.int l6), some (.int l7)] [] M qI (b_Mo_behaves_192 G l0 l1 l6 l7 M) := by
  unfold b_Mo_behaves_192
  refine V_open ok_Mo_behaves_192 ?_
  refine B_aload_n rfl ?_
  refine B_chk (fun t1 => ?_)
  refine K_getR 11 26 2226 lf_Mo_33 rfl rfl t1 (fun a2 r3 => ?_)
  refine B_aload_n rfl ?_
  refine K_getI 11 27 2227 lf_Mo_270 rfl rfl t1 ?_
  refine B_iload_n rfl ?_
  refine B_chk (fun t4 => ?_)
  refine K_iast t4 (fun M6 e5 => ?_)
  refine B_aload_n rfl ?_
  refine B_dup rfl ?_
  have h7 : hT M6 l0 = 11 := by rw [e5]; exact t1
  refine K_getI 11 27 2227 lf_Mo_270 rfl rfl h7 ?_
  refine B_iconst (1 : Int32) ic_1 ?_
  refine B_iadd ?_
  refine K_putI 11 27 2227 lf_Mo_270 rfl (Or.inl rfl) rfl h7 (fun M9 e8 => ?_)
  refine B_iload rfl ?_
  refine B_eq (tgt := 241) (by decide) ?_ ?_
  · skip
    exact V_weak (ls' := [some (.ref l0), some (.int l1), none, none, none, none, some (.int l6), some (.int l7)]) ⟨rfl, ⟨rfl, ⟨rfl, ⟨rfl, trivial⟩⟩⟩⟩ (t_Mo_behaves_241 l0 l1 l6 l7 M9)
  · skip
    refine B_aload_n rfl ?_
    have h10 : hT M9 l0 = 11 := by rw [e8]; exact h7
    refine K_getI 11 13 2213 lf_Mo_202 rfl rfl h10 ?_
    refine B_eq (tgt := 241) (by decide) ?_ ?_
    · skip
      exact V_weak (ls' := [some (.ref l0), some (.int l1), none, none, none, none, some (.int l6), some (.int l7)]) ⟨rfl, ⟨rfl, ⟨rfl, ⟨rfl, trivial⟩⟩⟩⟩ (t_Mo_behaves_241 l0 l1 l6 l7 M9)
    · skip
      refine B_aload_n rfl ?_
      refine K_getI 11 19 2219 lf_Mo_255 rfl rfl h10 ?_
      refine B_ne (tgt := 241) (by decide) ?_ ?_
      · skip
        exact V_weak (ls' := [some (.ref l0), some (.int l1), none, none, none, none, some (.int l6), some (.int l7)]) ⟨rfl, ⟨rfl, ⟨rfl, ⟨rfl, trivial⟩⟩⟩⟩ (t_Mo_behaves_241 l0 l1 l6 l7 M9)
      · skip
        refine B_aload_n rfl ?_
        refine B_iload_n rfl ?_
        refine K_putI 11 19 2219 lf_Mo_255 rfl (Or.inl rfl) rfl h10 (fun M12 e11 => ?_)
        refine B_aload_n rfl ?_
        refine B_iload_n rfl ?_
        have h13 : hT M12 l0 = 11 := by rw [e11]; exact h10
        refine C_V (vs := [.ref l0, .int l1]) (st := []) (ci_V lv_Mo_300 rfl rfl h13) rfl rfl rfl (s_Mo_give l0 l1 M12) (fun M14 => ?_)
        refine V_close ?_
        exact V_weak (ls' := [some (.ref l0), some (.int l1), none, none, none, none, some (.int l6), some (.int l7)]) ⟨rfl, ⟨rfl, ⟨rfl, ⟨rfl, trivial⟩⟩⟩⟩ (t_Mo_behaves_241 l0 l1 l6 l7 M14)
set_option maxRecDepth 100000 in
def b_Mo_behaves_137 (G : GT) (l0 : Nat) (l1 : Int32) (l6 : Int32) (M : PH) : Option (Int32 × PH) :=
  if hT M l0 = 11 then (hR M 2211 l0).bind fun a2 => if hT M a2 = 17 then if 0 < hN M a2 then if hA M a2 0 = 0 then (b_Mo_behaves_192 G l0 l1 l6 (0 : Int32) M) else (if ¬ hI M 2228 l0 = 0 then (b_Mo_behaves_192 G l0 l1 l6 (0 : Int32) M) else (if hI M 2221 l0 = 0 then (b_Mo_behaves_192 G l0 l1 l6 (0 : Int32) M) else (if l1 = hI M 2221 l0 then (b_Mo_behaves_192 G l0 l1 l6 (0 : Int32) M) else (bI (f_Mo_hasBehaved G l0 (hI M 2221 l0) M) fun v6 M5 => (if v6 = 0 then (b_Mo_behaves_192 G l0 l1 l6 (0 : Int32) M5) else (if hT M5 l0 = 11 then bV (f_Mo_give G l0 l1 M5) fun M8 => (if hT M8 l0 = 11 then hb (sI M8 2228 l0 (1 : Int32)) fun M11 => b_Mo_behaves_192 G l0 l1 l6 (0 : Int32) M11 else none) else none)))))) else none else none else none
set_option maxRecDepth 100000 in
set_option maxHeartbeats 4000000 in
theorem t_Mo_behaves_137 {G : GT} (l0 : Nat) (l1 : Int32) (l6 : Int32) (M : PH) : VX G mi_Mo_behaves 1 18 137 [some (.ref l0), some (.int l1), none, none, none, none, some (.int l6), none] [] M qI (b_Mo_behaves_137 G l0 l1 l6 M) := by
  unfold b_Mo_behaves_137
  refine V_open ok_Mo_behaves_137 ?_
  refine B_iconst (0 : Int32) ic_0 ?_
  refine S_i [some (.ref l0), some (.int l1), none, none, none, none, some (.int l6), some (.int (0 : Int32))] (by decide) rfl ?_
  refine B_aload_n rfl ?_
  refine B_chk (fun t1 => ?_)
  refine K_getR 11 11 2211 lf_Mo_17 rfl rfl t1 (fun a2 r3 => ?_)
  refine B_iconst (0 : Int32) ic_0 ?_
  refine B_chk (fun t4 => ?_)
  refine K_zaldc 0 rfl t4 ?_
  refine B_eq (tgt := 192) (by decide) ?_ ?_
  · skip
    exact V_weak (ls' := [some (.ref l0), some (.int l1), none, none, none, none, some (.int l6), some (.int (0 : Int32))]) ⟨rfl, ⟨rfl, ⟨rfl, ⟨rfl, trivial⟩⟩⟩⟩ (t_Mo_behaves_192 l0 l1 l6 (0 : Int32) M)
  · skip
    refine B_aload_n rfl ?_
    refine K_getI 11 28 2228 lf_Mo_273 rfl rfl t1 ?_
    refine B_ne (tgt := 192) (by decide) ?_ ?_
    · skip
      exact V_weak (ls' := [some (.ref l0), some (.int l1), none, none, none, none, some (.int l6), some (.int (0 : Int32))]) ⟨rfl, ⟨rfl, ⟨rfl, ⟨rfl, trivial⟩⟩⟩⟩ (t_Mo_behaves_192 l0 l1 l6 (0 : Int32) M)
    · skip
      refine B_aload_n rfl ?_
      refine K_getI 11 21 2221 lf_Mo_294 rfl rfl t1 ?_
      refine B_eq (tgt := 192) (by decide) ?_ ?_
      · skip
        exact V_weak (ls' := [some (.ref l0), some (.int l1), none, none, none, none, some (.int l6), some (.int (0 : Int32))]) ⟨rfl, ⟨rfl, ⟨rfl, ⟨rfl, trivial⟩⟩⟩⟩ (t_Mo_behaves_192 l0 l1 l6 (0 : Int32) M)
      · skip
        refine B_iload_n rfl ?_
        refine B_aload_n rfl ?_
        refine K_getI 11 21 2221 lf_Mo_294 rfl rfl t1 ?_
        refine B_ieq (tgt := 192) (by decide) ?_ ?_
        · skip
          exact V_weak (ls' := [some (.ref l0), some (.int l1), none, none, none, none, some (.int l6), some (.int (0 : Int32))]) ⟨rfl, ⟨rfl, ⟨rfl, ⟨rfl, trivial⟩⟩⟩⟩ (t_Mo_behaves_192 l0 l1 l6 (0 : Int32) M)
        · skip
          refine B_aload_n rfl ?_
          refine B_aload_n rfl ?_
          refine K_getI 11 21 2221 lf_Mo_294 rfl rfl t1 ?_
          refine C_I (vs := [.ref l0, .int (hI M 2221 l0)]) (st := []) (ci_V lv_Mo_359 rfl rfl t1) rfl rfl rfl (s_Mo_hasBehaved l0 (hI M 2221 l0) M) (fun v6 M5 => ?_)
          refine B_eq (tgt := 192) (by decide) ?_ ?_
          · skip
            exact V_weak (ls' := [some (.ref l0), some (.int l1), none, none, none, none, some (.int l6), some (.int (0 : Int32))]) ⟨rfl, ⟨rfl, ⟨rfl, ⟨rfl, trivial⟩⟩⟩⟩ (t_Mo_behaves_192 l0 l1 l6 (0 : Int32) M5)
          · skip
            refine B_aload_n rfl ?_
            refine B_iload_n rfl ?_
            refine B_chk (fun t7 => ?_)
            refine C_V (vs := [.ref l0, .int l1]) (st := []) (ci_V lv_Mo_300 rfl rfl t7) rfl rfl rfl (s_Mo_give l0 l1 M5) (fun M8 => ?_)
            refine B_aload_n rfl ?_
            refine B_iconst (1 : Int32) ic_1 ?_
            refine B_chk (fun t9 => ?_)
            refine K_putZ 11 28 2228 lf_Mo_273 rfl (Or.inl rfl) rfl t9 (Or.inr rfl) (fun M11 e10 => ?_)
            refine V_close ?_
            exact V_weak (ls' := [some (.ref l0), some (.int l1), none, none, none, none, some (.int l6), some (.int (0 : Int32))]) ⟨rfl, ⟨rfl, ⟨rfl, ⟨rfl, trivial⟩⟩⟩⟩ (t_Mo_behaves_192 l0 l1 l6 (0 : Int32) M11)
set_option maxRecDepth 100000 in
def b_Mo_behaves_125 (G : GT) (l0 : Nat) (l1 : Int32) (s0 : Int32) (M : PH) : Option (Int32 × PH) :=
  if s0 = 0 then (b_Mo_behaves_137 G l0 l1 s0 M) else (if hT M l0 = 11 then hb (sI M 2220 l0 l1) fun M3 => b_Mo_behaves_137 G l0 l1 s0 M3 else none)
set_option maxRecDepth 100000 in
set_option maxHeartbeats 4000000 in
theorem t_Mo_behaves_125 {G : GT} (l0 : Nat) (l1 : Int32) (s0 : Int32) (M : PH) : VX G mi_Mo_behaves 1 18 125 [some (.ref l0), some (.int l1), none, none, none, none, none, none] [.int s0] M qI (b_Mo_behaves_125 G l0 l1 s0 M) := by
  unfold b_Mo_behaves_125
  refine V_open ok_Mo_behaves_125 ?_
  refine S_i [some (.ref l0), some (.int l1), none, none, none, none, some (.int s0), none] (by decide) rfl ?_
  refine B_iload rfl ?_
  refine B_eq (tgt := 137) (by decide) ?_ ?_
  · skip
    exact V_weak (ls' := [some (.ref l0), some (.int l1), none, none, none, none, some (.int s0), none]) ⟨rfl, ⟨rfl, ⟨rfl, trivial⟩⟩⟩ (t_Mo_behaves_137 l0 l1 s0 M)
  · skip
    refine B_aload_n rfl ?_
    refine B_iload_n rfl ?_
    refine B_chk (fun t1 => ?_)
    refine K_putI 11 20 2220 lf_Mo_264 rfl (Or.inl rfl) rfl t1 (fun M3 e2 => ?_)
    refine V_close ?_
    exact V_weak (ls' := [some (.ref l0), some (.int l1), none, none, none, none, some (.int s0), none]) ⟨rfl, ⟨rfl, ⟨rfl, trivial⟩⟩⟩ (t_Mo_behaves_137 l0 l1 s0 M3)
set_option maxRecDepth 100000 in
def b_Mo_behaves_124 (G : GT) (l0 : Nat) (l1 : Int32) (M : PH) : Option (Int32 × PH) :=
  b_Mo_behaves_125 G l0 l1 (0 : Int32) M
set_option maxRecDepth 100000 in
set_option maxHeartbeats 4000000 in
theorem t_Mo_behaves_124 {G : GT} (l0 : Nat) (l1 : Int32) (M : PH) : VX G mi_Mo_behaves 1 18 124 [some (.ref l0), some (.int l1), none, none, none, none, none, none] [] M qI (b_Mo_behaves_124 G l0 l1 M) := by
  unfold b_Mo_behaves_124
  refine V_open ok_Mo_behaves_124 ?_
  refine B_iconst (0 : Int32) ic_0 ?_
  refine V_close ?_
  exact V_weak (ls' := [some (.ref l0), some (.int l1), none, none, none, none, none, none]) ⟨rfl, ⟨rfl, trivial⟩⟩ (t_Mo_behaves_125 l0 l1 (0 : Int32) M)
set_option maxRecDepth 100000 in
def b_Mo_behaves_113 (G : GT) (l0 : Nat) (l1 : Int32) (M : PH) : Option (Int32 × PH) :=
  if hT M l0 = 11 then if ¬ hI M 2220 l0 = 0 then (b_Mo_behaves_124 G l0 l1 M) else (b_Mo_behaves_125 G l0 l1 (1 : Int32) M) else none
set_option maxRecDepth 100000 in
set_option maxHeartbeats 4000000 in
theorem t_Mo_behaves_113 {G : GT} (l0 : Nat) (l1 : Int32) (M : PH) : VX G mi_Mo_behaves 1 18 113 [some (.ref l0), some (.int l1), none, none, none, none, none, none] [] M qI (b_Mo_behaves_113 G l0 l1 M) := by
  unfold b_Mo_behaves_113
  refine V_open ok_Mo_behaves_113 ?_
  refine B_aload_n rfl ?_
  refine B_chk (fun t1 => ?_)
  refine K_getI 11 20 2220 lf_Mo_264 rfl rfl t1 ?_
  refine B_ne (tgt := 124) (by decide) ?_ ?_
  · skip
    exact V_weak (ls' := [some (.ref l0), some (.int l1), none, none, none, none, none, none]) ⟨rfl, ⟨rfl, trivial⟩⟩ (t_Mo_behaves_124 l0 l1 M)
  · skip
    refine B_iconst (1 : Int32) ic_1 ?_
    refine B_goto (tgt := 125) (by decide) ?_
    exact V_weak (ls' := [some (.ref l0), some (.int l1), none, none, none, none, none, none]) ⟨rfl, ⟨rfl, trivial⟩⟩ (t_Mo_behaves_125 l0 l1 (1 : Int32) M)
set_option maxRecDepth 100000 in
def f_Mo_behaves (G : GT) (l0 : Nat) (l1 : Int32) (M : PH) : Option (Int32 × PH) :=
  if hT M l0 = 11 then (hR M 2273 l0).bind fun a2 => if hT M a2 = 16 then if 0 < hN M a2 then (hR M 2272 l0).bind fun a5 => if hT M a5 = 16 then if 0 < hN M a5 then bI (f_Mo_max G (hA M a2 0) (hA M a5 0) M) fun v9 M8 => (if hT M8 l0 = 11 then (hR M8 2273 l0).bind fun a11 => if hT M8 a11 = 16 then if 1 < hN M8 a11 then (hR M8 2272 l0).bind fun a14 => if hT M8 a14 = 16 then if 1 < hN M8 a14 then bI (f_Mo_max G (hA M8 a11 1) (hA M8 a14 1) M8) fun v18 M17 => (if hT M17 l0 = 11 then (hR M17 2273 l0).bind fun a20 => if hT M17 a20 = 16 then if 2 < hN M17 a20 then (hR M17 2272 l0).bind fun a23 => if hT M17 a23 = 16 then if 2 < hN M17 a23 then bI (f_Mo_min G (hA M17 a20 2) (hA M17 a23 2) M17) fun v27 M26 => (if hT M26 l0 = 11 then (hR M26 2273 l0).bind fun a29 => if hT M26 a29 = 16 then if 3 < hN M26 a29 then (hR M26 2272 l0).bind fun a32 => if hT M26 a32 = 16 then if 3 < hN M26 a32 then bI (f_Mo_min G (hA M26 a29 3) (hA M26 a32 3) M26) fun v36 M35 => (if hT M35 l0 = 11 then bI (f_Mo_isIn G l0 (hI M35 2203 l0) (hI M35 2204 l0) v9 v18 v27 v36 M35) fun v39 M38 => (if v39 = 0 then (b_Mo_behaves_124 G l0 l1 M38) else (if hT M38 l0 = 11 then if ¬ hI M38 2223 l0 = hI M38 2271 l0 then (b_Mo_behaves_124 G l0 l1 M38) else (if hI M38 2219 l0 = 0 then (b_Mo_behaves_113 G l0 l1 M38) else (if ¬ hI M38 2219 l0 = l1 then (b_Mo_behaves_124 G l0 l1 M38) else (b_Mo_behaves_113 G l0 l1 M38))) else none)) else none) else none else none else none else none else none) else none else none else none else none else none) else none else none else none else none else none) else none else none else none else none else none
set_option maxRecDepth 100000 in
set_option maxHeartbeats 4000000 in
theorem s_Mo_behaves {G : GT} (l0 : Nat) (l1 : Int32) (M : PH) : VX G mi_Mo_behaves 1 18 0 [some (.ref l0), some (.int l1), none, none, none, none, none, none] [] M qI (f_Mo_behaves G l0 l1 M) := by
  unfold f_Mo_behaves
  refine V_open ok_Mo_behaves_0 ?_
  refine B_aload_n rfl ?_
  refine B_chk (fun t1 => ?_)
  refine K_getR 11 73 2273 lf_Mo_150 rfl rfl t1 (fun a2 r3 => ?_)
  refine B_iconst (0 : Int32) ic_0 ?_
  refine B_chk (fun t4 => ?_)
  refine K_ialdc 0 rfl t4 ?_
  refine B_aload_n rfl ?_
  refine K_getR 11 72 2272 lf_Mo_147 rfl rfl t1 (fun a5 r6 => ?_)
  refine B_iconst (0 : Int32) ic_0 ?_
  refine B_chk (fun t7 => ?_)
  refine K_ialdc 0 rfl t7 ?_
  refine C_I (vs := [.int (hA M a2 0), .int (hA M a5 0)]) (st := []) (ci_S ls_Mo_182 rfl) rfl rfl rfl (s_Mo_max (hA M a2 0) (hA M a5 0) M) (fun v9 M8 => ?_)
  refine S_in [some (.ref l0), some (.int l1), some (.int v9), none, none, none, none, none] (by decide) rfl ?_
  refine B_aload_n rfl ?_
  refine B_chk (fun t10 => ?_)
  refine K_getR 11 73 2273 lf_Mo_150 rfl rfl t10 (fun a11 r12 => ?_)
  refine B_iconst (1 : Int32) ic_1 ?_
  refine B_chk (fun t13 => ?_)
  refine K_ialdc 1 rfl t13 ?_
  refine B_aload_n rfl ?_
  refine K_getR 11 72 2272 lf_Mo_147 rfl rfl t10 (fun a14 r15 => ?_)
  refine B_iconst (1 : Int32) ic_1 ?_
  refine B_chk (fun t16 => ?_)
  refine K_ialdc 1 rfl t16 ?_
  refine C_I (vs := [.int (hA M8 a11 1), .int (hA M8 a14 1)]) (st := []) (ci_S ls_Mo_182 rfl) rfl rfl rfl (s_Mo_max (hA M8 a11 1) (hA M8 a14 1) M8) (fun v18 M17 => ?_)
  refine S_in [some (.ref l0), some (.int l1), some (.int v9), some (.int v18), none, none, none, none] (by decide) rfl ?_
  refine B_aload_n rfl ?_
  refine B_chk (fun t19 => ?_)
  refine K_getR 11 73 2273 lf_Mo_150 rfl rfl t19 (fun a20 r21 => ?_)
  refine B_iconst (2 : Int32) ic_2 ?_
  refine B_chk (fun t22 => ?_)
  refine K_ialdc 2 rfl t22 ?_
  refine B_aload_n rfl ?_
  refine K_getR 11 72 2272 lf_Mo_147 rfl rfl t19 (fun a23 r24 => ?_)
  refine B_iconst (2 : Int32) ic_2 ?_
  refine B_chk (fun t25 => ?_)
  refine K_ialdc 2 rfl t25 ?_
  refine C_I (vs := [.int (hA M17 a20 2), .int (hA M17 a23 2)]) (st := []) (ci_S ls_Mo_178 rfl) rfl rfl rfl (s_Mo_min (hA M17 a20 2) (hA M17 a23 2) M17) (fun v27 M26 => ?_)
  refine S_i [some (.ref l0), some (.int l1), some (.int v9), some (.int v18), some (.int v27), none, none, none] (by decide) rfl ?_
  refine B_aload_n rfl ?_
  refine B_chk (fun t28 => ?_)
  refine K_getR 11 73 2273 lf_Mo_150 rfl rfl t28 (fun a29 r30 => ?_)
  refine B_iconst (3 : Int32) ic_3 ?_
  refine B_chk (fun t31 => ?_)
  refine K_ialdc 3 rfl t31 ?_
  refine B_aload_n rfl ?_
  refine K_getR 11 72 2272 lf_Mo_147 rfl rfl t28 (fun a32 r33 => ?_)
  refine B_iconst (3 : Int32) ic_3 ?_
  refine B_chk (fun t34 => ?_)
  refine K_ialdc 3 rfl t34 ?_
  refine C_I (vs := [.int (hA M26 a29 3), .int (hA M26 a32 3)]) (st := []) (ci_S ls_Mo_178 rfl) rfl rfl rfl (s_Mo_min (hA M26 a29 3) (hA M26 a32 3) M26) (fun v36 M35 => ?_)
  refine S_i [some (.ref l0), some (.int l1), some (.int v9), some (.int v18), some (.int v27), some (.int v36), none, none] (by decide) rfl ?_
  refine B_aload_n rfl ?_
  refine B_aload_n rfl ?_
  refine B_chk (fun t37 => ?_)
  refine K_getI 11 3 2203 lf_Mo_192 rfl rfl t37 ?_
  refine B_aload_n rfl ?_
  refine K_getI 11 4 2204 lf_Mo_195 rfl rfl t37 ?_
  refine B_iload_n rfl ?_
  refine B_iload_n rfl ?_
  refine B_iload rfl ?_
  refine B_iload rfl ?_
  refine C_I (vs := [.ref l0, .int (hI M35 2203 l0), .int (hI M35 2204 l0), .int v9, .int v18, .int v27, .int v36]) (st := []) (ci_V lv_Mo_228 rfl rfl t37) rfl rfl rfl (s_Mo_isIn l0 (hI M35 2203 l0) (hI M35 2204 l0) v9 v18 v27 v36 M35) (fun v39 M38 => ?_)
  refine B_eq (tgt := 124) (by decide) ?_ ?_
  · skip
    exact V_weak (ls' := [some (.ref l0), some (.int l1), none, none, none, none, none, none]) ⟨rfl, ⟨rfl, trivial⟩⟩ (t_Mo_behaves_124 l0 l1 M38)
  · skip
    refine B_aload_n rfl ?_
    refine B_chk (fun t40 => ?_)
    refine K_getI 11 23 2223 lf_Mo_26 rfl rfl t40 ?_
    refine B_aload_n rfl ?_
    refine K_getI 11 71 2271 lf_Mo_144 rfl rfl t40 ?_
    refine B_ine (tgt := 124) (by decide) ?_ ?_
    · skip
      exact V_weak (ls' := [some (.ref l0), some (.int l1), none, none, none, none, none, none]) ⟨rfl, ⟨rfl, trivial⟩⟩ (t_Mo_behaves_124 l0 l1 M38)
    · skip
      refine B_aload_n rfl ?_
      refine K_getI 11 19 2219 lf_Mo_255 rfl rfl t40 ?_
      refine B_eq (tgt := 113) (by decide) ?_ ?_
      · skip
        exact V_weak (ls' := [some (.ref l0), some (.int l1), none, none, none, none, none, none]) ⟨rfl, ⟨rfl, trivial⟩⟩ (t_Mo_behaves_113 l0 l1 M38)
      · skip
        refine B_aload_n rfl ?_
        refine K_getI 11 19 2219 lf_Mo_255 rfl rfl t40 ?_
        refine B_iload_n rfl ?_
        refine B_ine (tgt := 124) (by decide) ?_ ?_
        · skip
          exact V_weak (ls' := [some (.ref l0), some (.int l1), none, none, none, none, none, none]) ⟨rfl, ⟨rfl, trivial⟩⟩ (t_Mo_behaves_124 l0 l1 M38)
        · skip
          refine V_close ?_
          exact V_weak (ls' := [some (.ref l0), some (.int l1), none, none, none, none, none, none]) ⟨rfl, ⟨rfl, trivial⟩⟩ (t_Mo_behaves_113 l0 l1 M38)

-- Mo_shape
theorem ok_Mo_shape_0 : okb prog_13_method_29_code 0 [(.aload_n 0, 1), (.aload_n 0, 1), (.getfield 150, 3), (.iconst 0, 1), (.iaload, 1), (.aload_n 0, 1), (.getfield 150, 3), (.iconst 1, 1), (.iaload, 1), (.aload_n 0, 1), (.getfield 150, 3), (.iconst 2, 1), (.iaload, 1), (.aload_n 0, 1), (.getfield 150, 3), (.iconst 3, 1), (.iaload, 1), (.iload_n 1, 1), (.aload_n 0, 1), (.getfield 255, 3), (.if_icmp .ne 7, 3), (.iconst 5, 1), (.goto 16, 3)] = true := by decide +kernel
theorem ok_Mo_shape_37 : okb prog_13_method_29_code 37 [(.iload_n 1, 1), (.aload_n 0, 1), (.getfield 264, 3), (.if_icmp .ne 7, 3), (.iconst 4, 1), (.goto 4, 3)] = true := by decide +kernel
theorem ok_Mo_shape_49 : okb prog_13_method_29_code 49 [(.iconst 3, 1)] = true := by decide +kernel
theorem ok_Mo_shape_50 : okb prog_13_method_29_code 50 [(.iconst 0, 1), (.invokevirtual 320, 3), (.return_, 1)] = true := by decide +kernel
set_option maxRecDepth 100000 in
def b_Mo_shape_50 (G : GT) (s0 : Nat) (s1 : Int32) (s2 : Int32) (s3 : Int32) (s4 : Int32) (s5 : Int32) (M : PH) : Option (PH) :=
  if hT M s0 = 11 then bV (f_Mo_quadClipped G s0 s1 s2 s3 s4 s5 (0 : Int32) M) fun M2 => (some M2) else none
set_option maxRecDepth 100000 in
set_option maxHeartbeats 4000000 in
theorem t_Mo_shape_50 {G : GT} (s0 : Nat) (s1 : Int32) (s2 : Int32) (s3 : Int32) (s4 : Int32) (s5 : Int32) (M : PH) : VX G mi_Mo_shape 3 55 50 [none, none] [.int s5, .int s4, .int s3, .int s2, .int s1, .ref s0] M qV (b_Mo_shape_50 G s0 s1 s2 s3 s4 s5 M) := by
  unfold b_Mo_shape_50
  refine V_open ok_Mo_shape_50 ?_
  refine B_iconst (0 : Int32) ic_0 ?_
  refine B_chk (fun t1 => ?_)
  refine C_V (vs := [.ref s0, .int s1, .int s2, .int s3, .int s4, .int s5, .int (0 : Int32)]) (st := []) (ci_V lv_Mo_320 rfl rfl t1) rfl rfl rfl (s_Mo_quadClipped s0 s1 s2 s3 s4 s5 (0 : Int32) M) (fun M2 => ?_)
  exact B_vret rfl
set_option maxRecDepth 100000 in
def f_Mo_shape (G : GT) (l0 : Nat) (l1 : Int32) (M : PH) : Option (PH) :=
  if hT M l0 = 11 then (hR M 2273 l0).bind fun a2 => if hT M a2 = 16 then if 0 < hN M a2 then if 1 < hN M a2 then if 2 < hN M a2 then if 3 < hN M a2 then if ¬ l1 = hI M 2219 l0 then (if ¬ l1 = hI M 2220 l0 then (b_Mo_shape_50 G l0 (hA M a2 0) (hA M a2 1) (hA M a2 2) (hA M a2 3) (3 : Int32) M) else (b_Mo_shape_50 G l0 (hA M a2 0) (hA M a2 1) (hA M a2 2) (hA M a2 3) (4 : Int32) M)) else (b_Mo_shape_50 G l0 (hA M a2 0) (hA M a2 1) (hA M a2 2) (hA M a2 3) (5 : Int32) M) else none else none else none else none else none else none
set_option maxRecDepth 100000 in
set_option maxHeartbeats 4000000 in
theorem s_Mo_shape {G : GT} (l0 : Nat) (l1 : Int32) (M : PH) : VX G mi_Mo_shape 3 55 0 [some (.ref l0), some (.int l1)] [] M qV (f_Mo_shape G l0 l1 M) := by
  unfold f_Mo_shape
  refine V_open ok_Mo_shape_0 ?_
  refine B_aload_n rfl ?_
  refine B_aload_n rfl ?_
  refine B_chk (fun t1 => ?_)
  refine K_getR 11 73 2273 lf_Mo_150 rfl rfl t1 (fun a2 r3 => ?_)
  refine B_iconst (0 : Int32) ic_0 ?_
  refine B_chk (fun t4 => ?_)
  refine K_ialdc 0 rfl t4 ?_
  refine B_aload_n rfl ?_
  refine K_getRk 11 73 2273 lf_Mo_150 rfl rfl t1 r3 ?_
  refine B_iconst (1 : Int32) ic_1 ?_
  refine K_ialdc 1 rfl t4 ?_
  refine B_aload_n rfl ?_
  refine K_getRk 11 73 2273 lf_Mo_150 rfl rfl t1 r3 ?_
  refine B_iconst (2 : Int32) ic_2 ?_
  refine K_ialdc 2 rfl t4 ?_
  refine B_aload_n rfl ?_
  refine K_getRk 11 73 2273 lf_Mo_150 rfl rfl t1 r3 ?_
  refine B_iconst (3 : Int32) ic_3 ?_
  refine K_ialdc 3 rfl t4 ?_
  refine B_iload_n rfl ?_
  refine B_aload_n rfl ?_
  refine K_getI 11 19 2219 lf_Mo_255 rfl rfl t1 ?_
  refine B_ine (tgt := 37) (by decide) ?_ ?_
  · skip
    refine V_open ok_Mo_shape_37 ?_
    refine B_iload_n rfl ?_
    refine B_aload_n rfl ?_
    refine K_getI 11 20 2220 lf_Mo_264 rfl rfl t1 ?_
    refine B_ine (tgt := 49) (by decide) ?_ ?_
    · skip
      refine V_open ok_Mo_shape_49 ?_
      refine B_iconst (3 : Int32) ic_3 ?_
      refine V_close ?_
      exact V_weak (ls' := [none, none]) trivial (t_Mo_shape_50 l0 (hA M a2 0) (hA M a2 1) (hA M a2 2) (hA M a2 3) (3 : Int32) M)
    · skip
      refine B_iconst (4 : Int32) ic_4 ?_
      refine B_goto (tgt := 50) (by decide) ?_
      exact V_weak (ls' := [none, none]) trivial (t_Mo_shape_50 l0 (hA M a2 0) (hA M a2 1) (hA M a2 2) (hA M a2 3) (4 : Int32) M)
  · skip
    refine B_iconst (5 : Int32) ic_5 ?_
    refine B_goto (tgt := 50) (by decide) ?_
    exact V_weak (ls' := [none, none]) trivial (t_Mo_shape_50 l0 (hA M a2 0) (hA M a2 1) (hA M a2 2) (hA M a2 3) (5 : Int32) M)
