-- Mo_popup
theorem ok_Mo_popup_0 : okb prog_13_method_38_code 0 [(.aload_n 0, 1), (.aload_n 0, 1), (.iload_n 1, 1), (.invokevirtual 343, 3), (.ifCond .eq 29, 3), (.iload_n 2, 1), (.bipush 40, 2), (.if_icmp .lt 23, 3), (.iload_n 2, 1), (.sipush 400, 3), (.if_icmp .gt 16, 3), (.iload_n 3, 1), (.bipush 30, 2), (.if_icmp .lt 10, 3), (.iload_n 3, 1), (.sipush 400, 3), (.if_icmp .le 7, 3)] = true := by decide +kernel
theorem ok_Mo_popup_35 : okb prog_13_method_38_code 35 [(.iconst 1, 1), (.goto 4, 3)] = true := by decide +kernel
theorem ok_Mo_popup_39 : okb prog_13_method_38_code 39 [(.iconst 0, 1)] = true := by decide +kernel
theorem ok_Mo_popup_40 : okb prog_13_method_38_code 40 [(.putfield 175, 3), (.aload_n 0, 1), (.getfield 175, 3), (.ifCond .le 5, 3), (.iconst 0, 1), (.ireturn, 1)] = true := by decide +kernel
theorem ok_Mo_popup_52 : okb prog_13_method_38_code 52 [(.aload_n 0, 1), (.getfield 236, 3), (.ifCond .eq 20, 3), (.aload_n 0, 1), (.getfield 279, 3), (.ifCond .gt 13, 3), (.aload_n 0, 1), (.getfield 60, 3), (.bipush 8, 2), (.baload, 1), (.ifCond .eq 17, 3)] = true := by decide +kernel
theorem ok_Mo_popup_76 : okb prog_13_method_38_code 76 [(.aload_n 0, 1), (.iconst 2, 1), (.invokevirtual 297, 3), (.ifCond .le 7, 3), (.iconst 1, 1), (.goto 4, 3)] = true := by decide +kernel
theorem ok_Mo_popup_88 : okb prog_13_method_38_code 88 [(.iconst 0, 1), (.ireturn, 1)] = true := by decide +kernel
theorem ok_Mo_popup_89 : okb prog_13_method_38_code 89 [(.ireturn, 1)] = true := by decide +kernel
theorem ok_Mo_popup_90 : okb prog_13_method_38_code 90 [(.aload_n 0, 1), (.getfield 69, 3), (.iload_n 1, 1), (.if_icmp .eq 5, 3), (.iconst 0, 1), (.ireturn, 1)] = true := by decide +kernel
theorem ok_Mo_popup_100 : okb prog_13_method_38_code 100 [(.aload_n 0, 1), (.bipush 8, 2), (.iload_n 2, 1), (.iload_n 3, 1), (.invokevirtual 340, 3), (.iconst 1, 1), (.ireturn, 1)] = true := by decide +kernel
set_option maxRecDepth 100000 in
def b_Mo_popup_76 (G : GT) (l0 : Nat) (M : PH) : Option (Int32 × PH) :=
  if hT M l0 = 11 then bI (f_Mo_fails G l0 (2 : Int32) M) fun v3 M2 => (if v3 ≤ 0 then (some ((0 : Int32), M2)) else (some ((1 : Int32), M2))) else none
set_option maxRecDepth 100000 in
set_option maxHeartbeats 4000000 in
theorem t_Mo_popup_76 {G : GT} (l0 : Nat) (M : PH) : VX G mi_Mo_popup 4 76 76 [some (.ref l0), none, none, none] [] M qI (b_Mo_popup_76 G l0 M) := by
  unfold b_Mo_popup_76
  refine V_open ok_Mo_popup_76 ?_
  refine B_aload_n rfl ?_
  refine B_iconst (2 : Int32) ic_2 ?_
  refine B_chk (fun t1 => ?_)
  refine C_I (vs := [.ref l0, .int (2 : Int32)]) (st := []) (ci_V lv_Mo_297 rfl rfl t1) rfl rfl rfl (s_Mo_fails l0 (2 : Int32) M) (fun v3 M2 => ?_)
  refine B_le (tgt := 88) (by decide) ?_ ?_
  · skip
    refine V_open ok_Mo_popup_88 ?_
    refine B_iconst (0 : Int32) ic_0 ?_
    exact Z_ret rfl (Or.inl rfl)
  · skip
    refine B_iconst (1 : Int32) ic_1 ?_
    refine B_goto (tgt := 89) (by decide) ?_
    refine V_open ok_Mo_popup_89 ?_
    exact Z_ret rfl (Or.inr rfl)
set_option maxRecDepth 100000 in
def b_Mo_popup_40 (G : GT) (l0 : Nat) (l1 : Int32) (l2 : Int32) (l3 : Int32) (s0 : Nat) (s1 : Int32) (M : PH) : Option (Int32 × PH) :=
  if hT M s0 = 11 then hb (sI M 2200 s0 s1) fun M3 => if hT M3 l0 = 11 then if hI M3 2200 l0 ≤ 0 then (if hI M3 2218 l0 = 0 then (b_Mo_popup_76 G l0 M3) else (if 0 < hI M3 2256 l0 then (b_Mo_popup_76 G l0 M3) else ((hR M3 2237 l0).bind fun a5 => if hT M3 a5 = 17 then if 8 < hN M3 a5 then if hA M3 a5 8 = 0 then (if hI M3 2240 l0 = l1 then (bV (f_Mo_tellWindow G l0 (8 : Int32) l2 l3 M3) fun M8 => (some ((1 : Int32), M8))) else (some ((0 : Int32), M3))) else (b_Mo_popup_76 G l0 M3) else none else none))) else (some ((0 : Int32), M3)) else none else none
set_option maxRecDepth 100000 in
set_option maxHeartbeats 4000000 in
theorem t_Mo_popup_40 {G : GT} (l0 : Nat) (l1 : Int32) (l2 : Int32) (l3 : Int32) (s0 : Nat) (s1 : Int32) (M : PH) : VX G mi_Mo_popup 4 76 40 [some (.ref l0), some (.int l1), some (.int l2), some (.int l3)] [.int s1, .ref s0] M qI (b_Mo_popup_40 G l0 l1 l2 l3 s0 s1 M) := by
  unfold b_Mo_popup_40
  refine V_open ok_Mo_popup_40 ?_
  refine B_chk (fun t1 => ?_)
  refine K_putI 11 0 2200 lf_Mo_175 rfl (Or.inl rfl) rfl t1 (fun M3 e2 => ?_)
  refine B_aload_n rfl ?_
  refine B_chk (fun t4 => ?_)
  refine K_getI 11 0 2200 lf_Mo_175 rfl rfl t4 ?_
  refine B_le (tgt := 52) (by decide) ?_ ?_
  · skip
    refine V_open ok_Mo_popup_52 ?_
    refine B_aload_n rfl ?_
    refine K_getI 11 18 2218 lf_Mo_236 rfl rfl t4 ?_
    refine B_eq (tgt := 76) (by decide) ?_ ?_
    · skip
      exact V_weak (ls' := [some (.ref l0), none, none, none]) ⟨rfl, trivial⟩ (t_Mo_popup_76 l0 M3)
    · skip
      refine B_aload_n rfl ?_
      refine K_getI 11 56 2256 lf_Mo_279 rfl rfl t4 ?_
      refine B_gt (tgt := 76) (by decide) ?_ ?_
      · skip
        exact V_weak (ls' := [some (.ref l0), none, none, none]) ⟨rfl, trivial⟩ (t_Mo_popup_76 l0 M3)
      · skip
        refine B_aload_n rfl ?_
        refine K_getR 11 37 2237 lf_Mo_60 rfl rfl t4 (fun a5 r6 => ?_)
        refine B_bipush (8 : Int32) bp_8 ?_
        refine B_chk (fun t7 => ?_)
        refine K_zaldc 8 rfl t7 ?_
        refine B_eq (tgt := 90) (by decide) ?_ ?_
        · skip
          refine V_open ok_Mo_popup_90 ?_
          refine B_aload_n rfl ?_
          refine K_getI 11 40 2240 lf_Mo_69 rfl rfl t4 ?_
          refine B_iload_n rfl ?_
          refine B_ieq (tgt := 100) (by decide) ?_ ?_
          · skip
            refine V_open ok_Mo_popup_100 ?_
            refine B_aload_n rfl ?_
            refine B_bipush (8 : Int32) bp_8 ?_
            refine B_iload_n rfl ?_
            refine B_iload_n rfl ?_
            refine C_V (vs := [.ref l0, .int (8 : Int32), .int l2, .int l3]) (st := []) (ci_V lv_Mo_340 rfl rfl t4) rfl rfl rfl (s_Mo_tellWindow l0 (8 : Int32) l2 l3 M3) (fun M8 => ?_)
            refine B_iconst (1 : Int32) ic_1 ?_
            exact Z_ret rfl (Or.inr rfl)
          · skip
            refine B_iconst (0 : Int32) ic_0 ?_
            exact Z_ret rfl (Or.inl rfl)
        · skip
          refine V_close ?_
          exact V_weak (ls' := [some (.ref l0), none, none, none]) ⟨rfl, trivial⟩ (t_Mo_popup_76 l0 M3)
  · skip
    refine B_iconst (0 : Int32) ic_0 ?_
    exact Z_ret rfl (Or.inl rfl)
set_option maxRecDepth 100000 in
def b_Mo_popup_35 (G : GT) (l0 : Nat) (l1 : Int32) (l2 : Int32) (l3 : Int32) (s0 : Nat) (M : PH) : Option (Int32 × PH) :=
  b_Mo_popup_40 G l0 l1 l2 l3 s0 (1 : Int32) M
set_option maxRecDepth 100000 in
set_option maxHeartbeats 4000000 in
theorem t_Mo_popup_35 {G : GT} (l0 : Nat) (l1 : Int32) (l2 : Int32) (l3 : Int32) (s0 : Nat) (M : PH) : VX G mi_Mo_popup 4 76 35 [some (.ref l0), some (.int l1), some (.int l2), some (.int l3)] [.ref s0] M qI (b_Mo_popup_35 G l0 l1 l2 l3 s0 M) := by
  unfold b_Mo_popup_35
  refine V_open ok_Mo_popup_35 ?_
  refine B_iconst (1 : Int32) ic_1 ?_
  refine B_goto (tgt := 40) (by decide) ?_
  exact V_weak (ls' := [some (.ref l0), some (.int l1), some (.int l2), some (.int l3)]) ⟨rfl, ⟨rfl, ⟨rfl, ⟨rfl, trivial⟩⟩⟩⟩ (t_Mo_popup_40 l0 l1 l2 l3 s0 (1 : Int32) M)
set_option maxRecDepth 100000 in
def f_Mo_popup (G : GT) (l0 : Nat) (l1 : Int32) (l2 : Int32) (l3 : Int32) (M : PH) : Option (Int32 × PH) :=
  if hT M l0 = 11 then bI (f_Mo_isLabel G l0 l1 M) fun v3 M2 => (if v3 = 0 then (b_Mo_popup_35 G l0 l1 l2 l3 l0 M2) else (if l2 < (40 : Int32) then (b_Mo_popup_35 G l0 l1 l2 l3 l0 M2) else (if (400 : Int32) < l2 then (b_Mo_popup_35 G l0 l1 l2 l3 l0 M2) else (if l3 < (30 : Int32) then (b_Mo_popup_35 G l0 l1 l2 l3 l0 M2) else (if l3 ≤ (400 : Int32) then (b_Mo_popup_40 G l0 l1 l2 l3 l0 (0 : Int32) M2) else (b_Mo_popup_35 G l0 l1 l2 l3 l0 M2)))))) else none
set_option maxRecDepth 100000 in
set_option maxHeartbeats 4000000 in
theorem s_Mo_popup {G : GT} (l0 : Nat) (l1 : Int32) (l2 : Int32) (l3 : Int32) (M : PH) : VX G mi_Mo_popup 4 76 0 [some (.ref l0), some (.int l1), some (.int l2), some (.int l3)] [] M qI (f_Mo_popup G l0 l1 l2 l3 M) := by
  unfold f_Mo_popup
  refine V_open ok_Mo_popup_0 ?_
  refine B_aload_n rfl ?_
  refine B_aload_n rfl ?_
  refine B_iload_n rfl ?_
  refine B_chk (fun t1 => ?_)
  refine C_I (vs := [.ref l0, .int l1]) (st := [.ref l0]) (ci_V lv_Mo_343 rfl rfl t1) rfl rfl rfl (s_Mo_isLabel l0 l1 M) (fun v3 M2 => ?_)
  refine B_eq (tgt := 35) (by decide) ?_ ?_
  · skip
    exact V_weak (ls' := [some (.ref l0), some (.int l1), some (.int l2), some (.int l3)]) ⟨rfl, ⟨rfl, ⟨rfl, ⟨rfl, trivial⟩⟩⟩⟩ (t_Mo_popup_35 l0 l1 l2 l3 l0 M2)
  · skip
    refine B_iload_n rfl ?_
    refine B_bipush (40 : Int32) bp_40 ?_
    refine B_ilt (tgt := 35) (by decide) ?_ ?_
    · skip
      exact V_weak (ls' := [some (.ref l0), some (.int l1), some (.int l2), some (.int l3)]) ⟨rfl, ⟨rfl, ⟨rfl, ⟨rfl, trivial⟩⟩⟩⟩ (t_Mo_popup_35 l0 l1 l2 l3 l0 M2)
    · skip
      refine B_iload_n rfl ?_
      refine B_sipush (400 : Int32) sp_400 ?_
      refine B_igt (tgt := 35) (by decide) ?_ ?_
      · skip
        exact V_weak (ls' := [some (.ref l0), some (.int l1), some (.int l2), some (.int l3)]) ⟨rfl, ⟨rfl, ⟨rfl, ⟨rfl, trivial⟩⟩⟩⟩ (t_Mo_popup_35 l0 l1 l2 l3 l0 M2)
      · skip
        refine B_iload_n rfl ?_
        refine B_bipush (30 : Int32) bp_30 ?_
        refine B_ilt (tgt := 35) (by decide) ?_ ?_
        · skip
          exact V_weak (ls' := [some (.ref l0), some (.int l1), some (.int l2), some (.int l3)]) ⟨rfl, ⟨rfl, ⟨rfl, ⟨rfl, trivial⟩⟩⟩⟩ (t_Mo_popup_35 l0 l1 l2 l3 l0 M2)
        · skip
          refine B_iload_n rfl ?_
          refine B_sipush (400 : Int32) sp_400 ?_
          refine B_ile (tgt := 39) (by decide) ?_ ?_
          · skip
            refine V_open ok_Mo_popup_39 ?_
            refine B_iconst (0 : Int32) ic_0 ?_
            refine V_close ?_
            exact V_weak (ls' := [some (.ref l0), some (.int l1), some (.int l2), some (.int l3)]) ⟨rfl, ⟨rfl, ⟨rfl, ⟨rfl, trivial⟩⟩⟩⟩ (t_Mo_popup_40 l0 l1 l2 l3 l0 (0 : Int32) M2)
          · skip
            refine V_close ?_
            exact V_weak (ls' := [some (.ref l0), some (.int l1), some (.int l2), some (.int l3)]) ⟨rfl, ⟨rfl, ⟨rfl, ⟨rfl, trivial⟩⟩⟩⟩ (t_Mo_popup_35 l0 l1 l2 l3 l0 M2)

-- PF_dismiss
theorem ok_PF_dismiss_0 : okb prog_1_method_28_code 0 [(.aload_n 0, 1), (.getfield 50, 3), (.ifCond .lt 7, 3), (.iconst 1, 1), (.goto 4, 3)] = true := by decide +kernel
theorem ok_PF_dismiss_11 : okb prog_1_method_28_code 11 [(.iconst 0, 1)] = true := by decide +kernel
theorem ok_PF_dismiss_12 : okb prog_1_method_28_code 12 [(.istore_n 1, 1), (.aload_n 0, 1), (.iconst (-1), 1), (.putfield 50, 3), (.iload_n 1, 1), (.ireturn, 1)] = true := by decide +kernel
set_option maxRecDepth 100000 in
def b_PF_dismiss_12 (G : GT) (l0 : Nat) (s0 : Int32) (M : PH) : Option (Int32 × PH) :=
  if hT M l0 = 10 then hb (sI M 2013 l0 (-1 : Int32)) fun M3 => if s0 = 0 ∨ s0 = 1 then some (s0, M3) else none else none
set_option maxRecDepth 100000 in
set_option maxHeartbeats 4000000 in
theorem t_PF_dismiss_12 {G : GT} (l0 : Nat) (s0 : Int32) (M : PH) : VX G mi_PF_dismiss 0 0 12 [some (.ref l0), none] [.int s0] M qI (b_PF_dismiss_12 G l0 s0 M) := by
  unfold b_PF_dismiss_12
  refine V_open ok_PF_dismiss_12 ?_
  refine S_in [some (.ref l0), some (.int s0)] (by decide) rfl ?_
  refine B_aload_n rfl ?_
  refine B_iconst (-1 : Int32) ic_m1 ?_
  refine B_chk (fun t1 => ?_)
  refine K_putI 10 13 2013 lf_PF_50 rfl (Or.inl rfl) rfl t1 (fun M3 e2 => ?_)
  refine B_iload_n rfl ?_
  refine B_chk (fun z4 => ?_)
  exact Z_ret rfl z4
set_option maxRecDepth 100000 in
def f_PF_dismiss (G : GT) (l0 : Nat) (M : PH) : Option (Int32 × PH) :=
  if hT M l0 = 10 then if hI M 2013 l0 < 0 then (b_PF_dismiss_12 G l0 (0 : Int32) M) else (b_PF_dismiss_12 G l0 (1 : Int32) M) else none
set_option maxRecDepth 100000 in
set_option maxHeartbeats 4000000 in
theorem s_PF_dismiss {G : GT} (l0 : Nat) (M : PH) : VX G mi_PF_dismiss 0 0 0 [some (.ref l0), none] [] M qI (f_PF_dismiss G l0 M) := by
  unfold f_PF_dismiss
  refine V_open ok_PF_dismiss_0 ?_
  refine B_aload_n rfl ?_
  refine B_chk (fun t1 => ?_)
  refine K_getI 10 13 2013 lf_PF_50 rfl rfl t1 ?_
  refine B_lt (tgt := 11) (by decide) ?_ ?_
  · skip
    refine V_open ok_PF_dismiss_11 ?_
    refine B_iconst (0 : Int32) ic_0 ?_
    refine V_close ?_
    exact V_weak (ls' := [some (.ref l0), none]) ⟨rfl, trivial⟩ (t_PF_dismiss_12 l0 (0 : Int32) M)
  · skip
    refine B_iconst (1 : Int32) ic_1 ?_
    refine B_goto (tgt := 12) (by decide) ?_
    exact V_weak (ls' := [some (.ref l0), none]) ⟨rfl, trivial⟩ (t_PF_dismiss_12 l0 (1 : Int32) M)

-- Mo_dismiss
theorem ok_Mo_dismiss_0 : okb prog_13_method_39_code 0 [(.aload_n 0, 1), (.iconst 0, 1), (.putfield 175, 3), (.aload_n 0, 1), (.getfield 69, 3), (.iconst (-1), 1), (.if_icmp .eq 7, 3), (.iconst 1, 1), (.goto 4, 3)] = true := by decide +kernel
theorem ok_Mo_dismiss_17 : okb prog_13_method_39_code 17 [(.iconst 0, 1)] = true := by decide +kernel
theorem ok_Mo_dismiss_18 : okb prog_13_method_39_code 18 [(.istore_n 1, 1), (.aload_n 0, 1), (.iconst (-1), 1), (.putfield 69, 3), (.iload_n 1, 1), (.ireturn, 1)] = true := by decide +kernel
set_option maxRecDepth 100000 in
def b_Mo_dismiss_18 (G : GT) (l0 : Nat) (s0 : Int32) (M : PH) : Option (Int32 × PH) :=
  if hT M l0 = 11 then hb (sI M 2240 l0 (-1 : Int32)) fun M3 => if s0 = 0 ∨ s0 = 1 then some (s0, M3) else none else none
set_option maxRecDepth 100000 in
set_option maxHeartbeats 4000000 in
theorem t_Mo_dismiss_18 {G : GT} (l0 : Nat) (s0 : Int32) (M : PH) : VX G mi_Mo_dismiss 0 0 18 [some (.ref l0), none] [.int s0] M qI (b_Mo_dismiss_18 G l0 s0 M) := by
  unfold b_Mo_dismiss_18
  refine V_open ok_Mo_dismiss_18 ?_
  refine S_in [some (.ref l0), some (.int s0)] (by decide) rfl ?_
  refine B_aload_n rfl ?_
  refine B_iconst (-1 : Int32) ic_m1 ?_
  refine B_chk (fun t1 => ?_)
  refine K_putI 11 40 2240 lf_Mo_69 rfl (Or.inl rfl) rfl t1 (fun M3 e2 => ?_)
  refine B_iload_n rfl ?_
  refine B_chk (fun z4 => ?_)
  exact Z_ret rfl z4
set_option maxRecDepth 100000 in
def f_Mo_dismiss (G : GT) (l0 : Nat) (M : PH) : Option (Int32 × PH) :=
  if hT M l0 = 11 then hb (sI M 2200 l0 (0 : Int32)) fun M3 => if hI M3 2240 l0 = (-1 : Int32) then (b_Mo_dismiss_18 G l0 (0 : Int32) M3) else (b_Mo_dismiss_18 G l0 (1 : Int32) M3) else none
set_option maxRecDepth 100000 in
set_option maxHeartbeats 4000000 in
theorem s_Mo_dismiss {G : GT} (l0 : Nat) (M : PH) : VX G mi_Mo_dismiss 0 0 0 [some (.ref l0), none] [] M qI (f_Mo_dismiss G l0 M) := by
  unfold f_Mo_dismiss
  refine V_open ok_Mo_dismiss_0 ?_
  refine B_aload_n rfl ?_
  refine B_iconst (0 : Int32) ic_0 ?_
  refine B_chk (fun t1 => ?_)
  refine K_putI 11 0 2200 lf_Mo_175 rfl (Or.inl rfl) rfl t1 (fun M3 e2 => ?_)
  refine B_aload_n rfl ?_
  have h4 : hT M3 l0 = 11 := by rw [e2]; exact t1
  refine K_getI 11 40 2240 lf_Mo_69 rfl rfl h4 ?_
  refine B_iconst (-1 : Int32) ic_m1 ?_
  refine B_ieq (tgt := 17) (by decide) ?_ ?_
  · skip
    refine V_open ok_Mo_dismiss_17 ?_
    refine B_iconst (0 : Int32) ic_0 ?_
    refine V_close ?_
    exact V_weak (ls' := [some (.ref l0), none]) ⟨rfl, trivial⟩ (t_Mo_dismiss_18 l0 (0 : Int32) M3)
  · skip
    refine B_iconst (1 : Int32) ic_1 ?_
    refine B_goto (tgt := 18) (by decide) ?_
    exact V_weak (ls' := [some (.ref l0), none]) ⟨rfl, trivial⟩ (t_Mo_dismiss_18 l0 (1 : Int32) M3)

-- Layout_high
theorem ok_Layout_high_0 : okb prog_5_method_7_code 0 [(.aload_n 0, 1), (.getfield 25, 3), (.aload_n 0, 1), (.getfield 13, 3), (.isub, 1), (.ireturn, 1)] = true := by decide +kernel
set_option maxRecDepth 100000 in
def f_Layout_high (G : GT) (l0 : Nat) (M : PH) : Option (Int32 × PH) :=
  if hT M l0 = 5 then some ((hI M 1008 l0) - (hI M 1001 l0), M) else none
set_option maxRecDepth 100000 in
set_option maxHeartbeats 4000000 in
theorem s_Layout_high {G : GT} (l0 : Nat) (M : PH) : VX G mi_Layout_high 0 0 0 [some (.ref l0)] [] M qI (f_Layout_high G l0 M) := by
  unfold f_Layout_high
  refine V_open ok_Layout_high_0 ?_
  refine B_aload_n rfl ?_
  refine B_chk (fun t1 => ?_)
  refine K_getI 5 8 1008 lf_Layout_25 rfl rfl t1 ?_
  refine B_aload_n rfl ?_
  refine K_getI 5 1 1001 lf_Layout_13 rfl rfl t1 ?_
  refine B_isub ?_
  exact B_iret rfl

-- Layout_isNear
theorem ok_Layout_isNear_0 : okb prog_5_method_3_code 0 [(.aload_n 0, 1), (.getfield 32, 3), (.ifCond .eq 14, 3), (.aload_n 0, 1), (.getfield 28, 3), (.ifCond .eq 7, 3), (.iconst 1, 1), (.goto 4, 3)] = true := by decide +kernel
theorem ok_Layout_isNear_18 : okb prog_5_method_3_code 18 [(.iconst 0, 1), (.ireturn, 1)] = true := by decide +kernel
theorem ok_Layout_isNear_19 : okb prog_5_method_3_code 19 [(.ireturn, 1)] = true := by decide +kernel
set_option maxRecDepth 100000 in
def f_Layout_isNear (G : GT) (l0 : Nat) (M : PH) : Option (Int32 × PH) :=
  if hT M l0 = 5 then if hI M 1010 l0 = 0 then (some ((0 : Int32), M)) else (if hI M 1009 l0 = 0 then (some ((0 : Int32), M)) else (some ((1 : Int32), M))) else none
set_option maxRecDepth 100000 in
set_option maxHeartbeats 4000000 in
theorem s_Layout_isNear {G : GT} (l0 : Nat) (M : PH) : VX G mi_Layout_isNear 0 0 0 [some (.ref l0)] [] M qI (f_Layout_isNear G l0 M) := by
  unfold f_Layout_isNear
  refine V_open ok_Layout_isNear_0 ?_
  refine B_aload_n rfl ?_
  refine B_chk (fun t1 => ?_)
  refine K_getI 5 10 1010 lf_Layout_32 rfl rfl t1 ?_
  refine B_eq (tgt := 18) (by decide) ?_ ?_
  · skip
    refine V_open ok_Layout_isNear_18 ?_
    refine B_iconst (0 : Int32) ic_0 ?_
    exact Z_ret rfl (Or.inl rfl)
  · skip
    refine B_aload_n rfl ?_
    refine K_getI 5 9 1009 lf_Layout_28 rfl rfl t1 ?_
    refine B_eq (tgt := 18) (by decide) ?_ ?_
    · skip
      refine V_open ok_Layout_isNear_18 ?_
      refine B_iconst (0 : Int32) ic_0 ?_
      exact Z_ret rfl (Or.inl rfl)
    · skip
      refine B_iconst (1 : Int32) ic_1 ?_
      refine B_goto (tgt := 19) (by decide) ?_
      refine V_open ok_Layout_isNear_19 ?_
      exact Z_ret rfl (Or.inr rfl)

-- Layout_x
theorem ok_Layout_x_0 : okb prog_5_method_4_code 0 [(.aload_n 0, 1), (.invokevirtual 35, 3), (.ifCond .eq 12, 3), (.aload_n 0, 1), (.getfield 39, 3), (.iconst 4, 1), (.iadd, 1), (.goto 12, 3)] = true := by decide +kernel
theorem ok_Layout_x_16 : okb prog_5_method_4_code 16 [(.aload_n 0, 1), (.getfield 7, 3), (.aload_n 0, 1), (.getfield 16, 3), (.iadd, 1), (.ireturn, 1)] = true := by decide +kernel
theorem ok_Layout_x_25 : okb prog_5_method_4_code 25 [(.ireturn, 1)] = true := by decide +kernel
set_option maxRecDepth 100000 in
def f_Layout_x (G : GT) (l0 : Nat) (M : PH) : Option (Int32 × PH) :=
  if hT M l0 = 5 then bI (f_Layout_isNear G l0 M) fun v3 M2 => (if v3 = 0 then (if hT M2 l0 = 5 then some ((hI M2 1000 l0) + (hI M2 1002 l0), M2) else none) else (if hT M2 l0 = 5 then some ((hI M2 1006 l0) + (4 : Int32), M2) else none)) else none
set_option maxRecDepth 100000 in
set_option maxHeartbeats 4000000 in
theorem s_Layout_x {G : GT} (l0 : Nat) (M : PH) : VX G mi_Layout_x 1 12 0 [some (.ref l0)] [] M qI (f_Layout_x G l0 M) := by
  unfold f_Layout_x
  refine V_open ok_Layout_x_0 ?_
  refine B_aload_n rfl ?_
  refine B_chk (fun t1 => ?_)
  refine C_I (vs := [.ref l0]) (st := []) (ci_V lv_Layout_35 rfl rfl t1) rfl rfl rfl (s_Layout_isNear l0 M) (fun v3 M2 => ?_)
  refine B_eq (tgt := 16) (by decide) ?_ ?_
  · skip
    refine V_open ok_Layout_x_16 ?_
    refine B_aload_n rfl ?_
    refine B_chk (fun t4 => ?_)
    refine K_getI 5 0 1000 lf_Layout_7 rfl rfl t4 ?_
    refine B_aload_n rfl ?_
    refine K_getI 5 2 1002 lf_Layout_16 rfl rfl t4 ?_
    refine B_iadd ?_
    exact B_iret rfl
  · skip
    refine B_aload_n rfl ?_
    refine B_chk (fun t5 => ?_)
    refine K_getI 5 6 1006 lf_Layout_39 rfl rfl t5 ?_
    refine B_iconst (4 : Int32) ic_4 ?_
    refine B_iadd ?_
    refine B_goto (tgt := 25) (by decide) ?_
    refine V_open ok_Layout_x_25 ?_
    exact B_iret rfl

-- Layout_y
theorem ok_Layout_y_0 : okb prog_5_method_5_code 0 [(.aload_n 0, 1), (.invokevirtual 35, 3), (.ifCond .eq 10, 3), (.aload_n 0, 1), (.getfield 42, 3), (.goto 7, 3)] = true := by decide +kernel
theorem ok_Layout_y_14 : okb prog_5_method_5_code 14 [(.aload_n 0, 1), (.getfield 19, 3), (.ireturn, 1)] = true := by decide +kernel
theorem ok_Layout_y_18 : okb prog_5_method_5_code 18 [(.ireturn, 1)] = true := by decide +kernel
set_option maxRecDepth 100000 in
def f_Layout_y (G : GT) (l0 : Nat) (M : PH) : Option (Int32 × PH) :=
  if hT M l0 = 5 then bI (f_Layout_isNear G l0 M) fun v3 M2 => (if v3 = 0 then (if hT M2 l0 = 5 then some (hI M2 1003 l0, M2) else none) else (if hT M2 l0 = 5 then some (hI M2 1004 l0, M2) else none)) else none
set_option maxRecDepth 100000 in
set_option maxHeartbeats 4000000 in
theorem s_Layout_y {G : GT} (l0 : Nat) (M : PH) : VX G mi_Layout_y 1 12 0 [some (.ref l0)] [] M qI (f_Layout_y G l0 M) := by
  unfold f_Layout_y
  refine V_open ok_Layout_y_0 ?_
  refine B_aload_n rfl ?_
  refine B_chk (fun t1 => ?_)
  refine C_I (vs := [.ref l0]) (st := []) (ci_V lv_Layout_35 rfl rfl t1) rfl rfl rfl (s_Layout_isNear l0 M) (fun v3 M2 => ?_)
  refine B_eq (tgt := 14) (by decide) ?_ ?_
  · skip
    refine V_open ok_Layout_y_14 ?_
    refine B_aload_n rfl ?_
    refine B_chk (fun t4 => ?_)
    refine K_getI 5 3 1003 lf_Layout_19 rfl rfl t4 ?_
    exact B_iret rfl
  · skip
    refine B_aload_n rfl ?_
    refine B_chk (fun t5 => ?_)
    refine K_getI 5 4 1004 lf_Layout_42 rfl rfl t5 ?_
    refine B_goto (tgt := 18) (by decide) ?_
    refine V_open ok_Layout_y_18 ?_
    exact B_iret rfl

-- Layout_put
theorem ok_Layout_put_0 : okb prog_5_method_6_code 0 [(.aload_n 0, 1), (.invokevirtual 45, 3), (.istore 4, 2), (.aload_n 0, 1), (.invokevirtual 49, 3), (.istore 5, 2), (.aload_n 0, 1), (.aload_n 0, 1), (.invokevirtual 35, 3), (.ifCond .eq 17, 3), (.aload_n 0, 1), (.getfield 52, 3), (.iload 5, 2), (.iload_n 3, 1), (.iadd, 1), (.invokestatic 55, 3), (.goto 7, 3)] = true := by decide +kernel
theorem ok_Layout_put_34 : okb prog_5_method_6_code 34 [(.iload 5, 2), (.iload_n 3, 1), (.iadd, 1)] = true := by decide +kernel
theorem ok_Layout_put_38 : okb prog_5_method_6_code 38 [(.putfield 52, 3), (.aload_n 0, 1), (.iload 5, 2), (.putfield 42, 3), (.aload_n 0, 1), (.iload 4, 2), (.iload_n 2, 1), (.iadd, 1), (.putfield 39, 3), (.aload_n 0, 1), (.iconst 1, 1), (.putfield 28, 3), (.aload_n 0, 1), (.iconst 0, 1), (.putfield 32, 3), (.aload_n 0, 1), (.aload_n 0, 1), (.getfield 52, 3), (.iconst 4, 1), (.iadd, 1), (.putfield 19, 3), (.aload_n 0, 1), (.aload_n 0, 1), (.getfield 22, 3), (.iload 4, 2), (.iload_n 2, 1), (.iadd, 1), (.invokestatic 55, 3), (.putfield 22, 3), (.aload_n 0, 1), (.aload_n 0, 1), (.getfield 25, 3), (.iload 5, 2), (.iload_n 3, 1), (.iadd, 1), (.invokestatic 55, 3), (.putfield 25, 3), (.aload_n 1, 1), (.iload 4, 2), (.iload 5, 2), (.iload 4, 2), (.iload_n 2, 1), (.iadd, 1), (.iload 5, 2), (.iload_n 3, 1), (.iadd, 1), (.invokevirtual 61, 3), (.return_, 1)] = true := by decide +kernel
set_option maxRecDepth 100000 in
def b_Layout_put_38 (G : GT) (l0 : Nat) (l1 : Nat) (l2 : Int32) (l3 : Int32) (l4 : Int32) (l5 : Int32) (s0 : Nat) (s1 : Int32) (M : PH) : Option (PH) :=
  if hT M s0 = 5 then hb (sI M 1005 s0 s1) fun M3 => if hT M3 l0 = 5 then hb (sI M3 1004 l0 l5) fun M6 => hb (sI M6 1006 l0 (l4 + l2)) fun M9 => hb (sI M9 1009 l0 (1 : Int32)) fun M12 => hb (sI M12 1010 l0 (0 : Int32)) fun M15 => hb (sI M15 1003 l0 ((hI M15 1005 l0) + (4 : Int32))) fun M18 => hb (sI M18 1007 l0 (jmax (hI M18 1007 l0) (l4 + l2))) fun M21 => hb (sI M21 1008 l0 (jmax (hI M21 1008 l0) (l5 + l3))) fun M24 => if hT M24 l1 = 1 then bV (f_Rect_be G l1 l4 l5 (l4 + l2) (l5 + l3) M24) fun M26 => (some M26) else none else none else none
set_option maxRecDepth 100000 in
set_option maxHeartbeats 4000000 in
theorem t_Layout_put_38 {G : GT} (l0 : Nat) (l1 : Nat) (l2 : Int32) (l3 : Int32) (l4 : Int32) (l5 : Int32) (s0 : Nat) (s1 : Int32) (M : PH) : VX G mi_Layout_put 2 24 38 [some (.ref l0), some (.ref l1), some (.int l2), some (.int l3), some (.int l4), some (.int l5)] [.int s1, .ref s0] M qV (b_Layout_put_38 G l0 l1 l2 l3 l4 l5 s0 s1 M) := by
  unfold b_Layout_put_38
  refine V_open ok_Layout_put_38 ?_
  refine B_chk (fun t1 => ?_)
  refine K_putI 5 5 1005 lf_Layout_52 rfl (Or.inl rfl) rfl t1 (fun M3 e2 => ?_)
  refine B_aload_n rfl ?_
  refine B_iload rfl ?_
  refine B_chk (fun t4 => ?_)
  refine K_putI 5 4 1004 lf_Layout_42 rfl (Or.inl rfl) rfl t4 (fun M6 e5 => ?_)
  refine B_aload_n rfl ?_
  refine B_iload rfl ?_
  refine B_iload_n rfl ?_
  refine B_iadd ?_
  have h7 : hT M6 l0 = 5 := by rw [e5]; exact t4
  refine K_putI 5 6 1006 lf_Layout_39 rfl (Or.inl rfl) rfl h7 (fun M9 e8 => ?_)
  refine B_aload_n rfl ?_
  refine B_iconst (1 : Int32) ic_1 ?_
  have h10 : hT M9 l0 = 5 := by rw [e8]; exact h7
  refine K_putZ 5 9 1009 lf_Layout_28 rfl (Or.inl rfl) rfl h10 (Or.inr rfl) (fun M12 e11 => ?_)
  refine B_aload_n rfl ?_
  refine B_iconst (0 : Int32) ic_0 ?_
  have h13 : hT M12 l0 = 5 := by rw [e11]; exact h10
  refine K_putZ 5 10 1010 lf_Layout_32 rfl (Or.inl rfl) rfl h13 (Or.inl rfl) (fun M15 e14 => ?_)
  refine B_aload_n rfl ?_
  refine B_aload_n rfl ?_
  have h16 : hT M15 l0 = 5 := by rw [e14]; exact h13
  refine K_getI 5 5 1005 lf_Layout_52 rfl rfl h16 ?_
  refine B_iconst (4 : Int32) ic_4 ?_
  refine B_iadd ?_
  refine K_putI 5 3 1003 lf_Layout_19 rfl (Or.inl rfl) rfl h16 (fun M18 e17 => ?_)
  refine B_aload_n rfl ?_
  refine B_aload_n rfl ?_
  have h19 : hT M18 l0 = 5 := by rw [e17]; exact h16
  refine K_getI 5 7 1007 lf_Layout_22 rfl rfl h19 ?_
  refine B_iload rfl ?_
  refine B_iload_n rfl ?_
  refine B_iadd ?_
  refine B_max lj_Layout_55 rfl ?_
  refine K_putI 5 7 1007 lf_Layout_22 rfl (Or.inl rfl) rfl h19 (fun M21 e20 => ?_)
  refine B_aload_n rfl ?_
  refine B_aload_n rfl ?_
  have h22 : hT M21 l0 = 5 := by rw [e20]; exact h19
  refine K_getI 5 8 1008 lf_Layout_25 rfl rfl h22 ?_
  refine B_iload rfl ?_
  refine B_iload_n rfl ?_
  refine B_iadd ?_
  refine B_max lj_Layout_55 rfl ?_
  refine K_putI 5 8 1008 lf_Layout_25 rfl (Or.inl rfl) rfl h22 (fun M24 e23 => ?_)
  refine B_aload_n rfl ?_
  refine B_iload rfl ?_
  refine B_iload rfl ?_
  refine B_iload rfl ?_
  refine B_iload_n rfl ?_
  refine B_iadd ?_
  refine B_iload rfl ?_
  refine B_iload_n rfl ?_
  refine B_iadd ?_
  refine B_chk (fun t25 => ?_)
  refine C_V (vs := [.ref l1, .int l4, .int l5, .int (l4 + l2), .int (l5 + l3)]) (st := []) (ci_V lv_Layout_61 rfl rfl t25) rfl rfl rfl (s_Rect_be l1 l4 l5 (l4 + l2) (l5 + l3) M24) (fun M26 => ?_)
  exact B_vret rfl
set_option maxRecDepth 100000 in
def f_Layout_put (G : GT) (l0 : Nat) (l1 : Nat) (l2 : Int32) (l3 : Int32) (M : PH) : Option (PH) :=
  if hT M l0 = 5 then bI (f_Layout_x G l0 M) fun v3 M2 => (if hT M2 l0 = 5 then bI (f_Layout_y G l0 M2) fun v6 M5 => (if hT M5 l0 = 5 then bI (f_Layout_isNear G l0 M5) fun v9 M8 => (if v9 = 0 then (b_Layout_put_38 G l0 l1 l2 l3 v3 v6 l0 (v6 + l3) M8) else (if hT M8 l0 = 5 then b_Layout_put_38 G l0 l1 l2 l3 v3 v6 l0 (jmax (hI M8 1005 l0) (v6 + l3)) M8 else none)) else none) else none) else none
set_option maxRecDepth 100000 in
set_option maxHeartbeats 4000000 in
theorem s_Layout_put {G : GT} (l0 : Nat) (l1 : Nat) (l2 : Int32) (l3 : Int32) (M : PH) : VX G mi_Layout_put 2 24 0 [some (.ref l0), some (.ref l1), some (.int l2), some (.int l3), none, none] [] M qV (f_Layout_put G l0 l1 l2 l3 M) := by
  unfold f_Layout_put
  refine V_open ok_Layout_put_0 ?_
  refine B_aload_n rfl ?_
  refine B_chk (fun t1 => ?_)
  refine C_I (vs := [.ref l0]) (st := []) (ci_V lv_Layout_45 rfl rfl t1) rfl rfl rfl (s_Layout_x l0 M) (fun v3 M2 => ?_)
  refine S_i [some (.ref l0), some (.ref l1), some (.int l2), some (.int l3), some (.int v3), none] (by decide) rfl ?_
  refine B_aload_n rfl ?_
  refine B_chk (fun t4 => ?_)
  refine C_I (vs := [.ref l0]) (st := []) (ci_V lv_Layout_49 rfl rfl t4) rfl rfl rfl (s_Layout_y l0 M2) (fun v6 M5 => ?_)
  refine S_i [some (.ref l0), some (.ref l1), some (.int l2), some (.int l3), some (.int v3), some (.int v6)] (by decide) rfl ?_
  refine B_aload_n rfl ?_
  refine B_aload_n rfl ?_
  refine B_chk (fun t7 => ?_)
  refine C_I (vs := [.ref l0]) (st := [.ref l0]) (ci_V lv_Layout_35 rfl rfl t7) rfl rfl rfl (s_Layout_isNear l0 M5) (fun v9 M8 => ?_)
  refine B_eq (tgt := 34) (by decide) ?_ ?_
  · skip
    refine V_open ok_Layout_put_34 ?_
    refine B_iload rfl ?_
    refine B_iload_n rfl ?_
    refine B_iadd ?_
    refine V_close ?_
    exact V_weak (ls' := [some (.ref l0), some (.ref l1), some (.int l2), some (.int l3), some (.int v3), some (.int v6)]) ⟨rfl, ⟨rfl, ⟨rfl, ⟨rfl, ⟨rfl, ⟨rfl, trivial⟩⟩⟩⟩⟩⟩ (t_Layout_put_38 l0 l1 l2 l3 v3 v6 l0 (v6 + l3) M8)
  · skip
    refine B_aload_n rfl ?_
    refine B_chk (fun t10 => ?_)
    refine K_getI 5 5 1005 lf_Layout_52 rfl rfl t10 ?_
    refine B_iload rfl ?_
    refine B_iload_n rfl ?_
    refine B_iadd ?_
    refine B_max lj_Layout_55 rfl ?_
    refine B_goto (tgt := 38) (by decide) ?_
    exact V_weak (ls' := [some (.ref l0), some (.ref l1), some (.int l2), some (.int l3), some (.int v3), some (.int v6)]) ⟨rfl, ⟨rfl, ⟨rfl, ⟨rfl, ⟨rfl, ⟨rfl, trivial⟩⟩⟩⟩⟩⟩ (t_Layout_put_38 l0 l1 l2 l3 v3 v6 l0 (jmax (hI M8 1005 l0) (v6 + l3)) M8)

-- PF_close
theorem ok_PF_close_0 : okb prog_1_method_29_code 0 [(.aload_n 0, 1), (.aload_n 0, 1), (.getfield 104, 3), (.ifCond .eq 14, 3), (.aload_n 0, 1), (.getfield 114, 3), (.ifCond .le 7, 3), (.iconst 1, 1), (.goto 4, 3)] = true := by decide +kernel
theorem ok_PF_close_19 : okb prog_1_method_29_code 19 [(.iconst 0, 1)] = true := by decide +kernel
theorem ok_PF_close_20 : okb prog_1_method_29_code 20 [(.invokevirtual 130, 3), (.aload_n 0, 1), (.getfield 42, 3), (.aload_n 0, 1), (.getfield 114, 3), (.iconst 1, 1), (.isub, 1), (.aaload, 1), (.astore_n 1, 1), (.aload_n 0, 1), (.dup, 1), (.getfield 114, 3), (.iconst 1, 1), (.isub, 1), (.putfield 114, 3), (.aload_n 1, 1), (.getfield 242, 3), (.tableswitch 98 0 3 #[31, 56, 78, 95], 31)] = true := by decide +kernel
theorem ok_PF_close_80 : okb prog_1_method_29_code 80 [(.aload_n 0, 1), (.getfield 32, 3), (.aload_n 1, 1), (.getfield 239, 3), (.aaload, 1), (.getfield 291, 3), (.aload_n 1, 1), (.getfield 232, 3), (.invokevirtual 329, 3), (.putfield 332, 3), (.goto 78, 3)] = true := by decide +kernel
theorem ok_PF_close_105 : okb prog_1_method_29_code 105 [(.aload_n 0, 1), (.getfield 55, 3), (.aload_n 1, 1), (.getfield 239, 3), (.aaload, 1), (.aload_n 1, 1), (.getfield 232, 3), (.invokevirtual 329, 3), (.putfield 332, 3), (.goto 56, 3)] = true := by decide +kernel
theorem ok_PF_close_127 : okb prog_1_method_29_code 127 [(.aload_n 1, 1), (.getfield 232, 3), (.dup, 1), (.getfield 334, 3), (.bipush 10, 2), (.isub, 1), (.putfield 334, 3), (.goto 39, 3)] = true := by decide +kernel
theorem ok_PF_close_144 : okb prog_1_method_29_code 144 [(.goto 36, 3)] = true := by decide +kernel
theorem ok_PF_close_147 : okb prog_1_method_29_code 147 [(.aload_n 0, 1), (.invokevirtual 245, 3), (.aload_n 0, 1), (.getfield 72, 3), (.aload_n 1, 1), (.getfield 232, 3), (.getfield 337, 3), (.aload_n 1, 1), (.getfield 232, 3), (.getfield 340, 3), (.isub, 1), (.aload_n 1, 1), (.getfield 232, 3), (.invokevirtual 329, 3), (.invokevirtual 343, 3), (.aload_n 1, 1), (.getfield 242, 3), (.ireturn, 1)] = true := by decide +kernel
theorem ok_PF_close_180 : okb prog_1_method_29_code 180 [(.aload_n 1, 1), (.getfield 242, 3), (.ireturn, 1)] = true := by decide +kernel
set_option maxRecDepth 100000 in
def b_PF_close_20 (G : GT) (l0 : Nat) (s0 : Nat) (s1 : Int32) (M : PH) : Option (Nat × Int32 × PH) :=
  if hT M s0 = 10 then bT (f_PF_may G s0 s1 M) fun M2 => (if hT M2 l0 = 10 then (hR M2 2005 l0).bind fun a4 => if hT M2 a4 = 21 then if ib ((hI M2 2006 l0) - (1 : Int32)) (hN M2 a4) = true then (hX M2 a4 ((hI M2 2006 l0) - (1 : Int32)).toNatClampNeg).bind fun a7 => (hb (sI M2 2006 l0 ((hI M2 2006 l0) - (1 : Int32))) fun M9 => if hT M9 a7 = 8 then sw (hI M9 1600 a7) 0 [(hR M9 2003 l0).bind fun a27 => if hT M9 a27 = 20 then if ib (hI M9 1602 a7) (hN M9 a27) = true then (hX M9 a27 (hI M9 1602 a7).toNatClampNeg).bind fun a30 => (if hT M9 a30 = 7 then (hR M9 1402 a30).bind fun a32 => (hR M9 1605 a7).bind fun a34 => if hT M9 a34 = 5 then bI (f_Layout_high G a34 M9) fun v38 M37 => (if hT M37 a32 = 6 then hb (sI M37 1201 a32 v38) fun M41 => if hT M41 a7 = 8 then some (0, hI M41 1600 a7, M41) else none else none) else none else none) else none else none, (hR M9 2015 l0).bind fun a44 => if hT M9 a44 = 22 then if ib (hI M9 1602 a7) (hN M9 a44) = true then (hX M9 a44 (hI M9 1602 a7).toNatClampNeg).bind fun a47 => ((hR M9 1605 a7).bind fun a48 => if hT M9 a48 = 5 then bI (f_Layout_high G a48 M9) fun v52 M51 => (if hT M51 a47 = 6 then hb (sI M51 1201 a47 v52) fun M55 => if hT M55 a7 = 8 then some (0, hI M55 1600 a7, M55) else none else none) else none) else none else none, (hR M9 1605 a7).bind fun a57 => if hT M9 a57 = 5 then hb (sI M9 1002 a57 ((hI M9 1002 a57) - (10 : Int32))) fun M61 => some (0, hI M61 1600 a7, M61) else none, some (0, hI M9 1600 a7, M9)] (bR (f_PF_layout G l0 M9) fun a13 M12 => (if hT M12 l0 = 10 then (hR M12 2020 l0).bind fun a15 => if hT M12 a7 = 8 then (hR M12 1605 a7).bind fun a18 => if hT M12 a18 = 5 then bI (f_Layout_high G a18 M12) fun v22 M21 => (if hT M21 a13 = 5 then bV (f_Layout_put G a13 a15 ((hI M12 1007 a18) - (hI M12 1000 a18)) v22 M21) fun M24 => (if hT M24 a7 = 8 then some (0, hI M24 1600 a7, M24) else none) else none) else none else none else none)) else none) else none else none else none) else none
set_option maxRecDepth 100000 in
set_option maxHeartbeats 4000000 in
theorem t_PF_close_20 {G : GT} (l0 : Nat) (s0 : Nat) (s1 : Int32) (M : PH) : VX G mi_PF_close 7 94 20 [some (.ref l0), none] [.int s1, .ref s0] M qT (b_PF_close_20 G l0 s0 s1 M) := by
  unfold b_PF_close_20
  refine V_open ok_PF_close_20 ?_
  refine B_chk (fun t1 => ?_)
  refine C_T (vs := [.ref s0, .int s1]) (st := []) rfl (ci_V lv_PF_130 rfl rfl t1) rfl rfl rfl (s_PF_may s0 s1 M) (fun M2 => ?_)
  refine B_aload_n rfl ?_
  refine B_chk (fun t3 => ?_)
  refine K_getR 10 5 2005 lf_PF_42 rfl rfl t3 (fun a4 r5 => ?_)
  refine B_aload_n rfl ?_
  refine K_getI 10 6 2006 lf_PF_114 rfl rfl t3 ?_
  refine B_iconst (1 : Int32) ic_1 ?_
  refine B_isub ?_
  refine B_chk (fun t6 => ?_)
  refine K_aald 21 rfl t6 (fun a7 => ?_)
  refine S_an [some (.ref l0), some (.ref a7)] (by decide) rfl ?_
  refine B_aload_n rfl ?_
  refine B_dup rfl ?_
  refine K_getI 10 6 2006 lf_PF_114 rfl rfl t3 ?_
  refine B_iconst (1 : Int32) ic_1 ?_
  refine B_isub ?_
  refine K_putI 10 6 2006 lf_PF_114 rfl (Or.inl rfl) rfl t3 (fun M9 e8 => ?_)
  refine B_aload_n rfl ?_
  refine B_chk (fun t10 => ?_)
  refine K_getI 8 0 1600 lf_PF_242 rfl rfl t10 ?_
  refine B_tsw [80, 105, 127, 144] 147 (by decide) (by decide) (by decide) ?_ ⟨?_, ?_, ?_, ?_, trivial⟩
  · skip
    refine V_open ok_PF_close_147 ?_
    refine B_aload_n rfl ?_
    have h11 : hT M9 l0 = 10 := by rw [e8]; exact t3
    refine C_R (vs := [.ref l0]) (st := []) (ci_V lv_PF_245 rfl rfl h11) rfl rfl rfl (s_PF_layout l0 M9) (fun a13 M12 => ?_)
    refine B_aload_n rfl ?_
    refine B_chk (fun t14 => ?_)
    refine K_getR 10 20 2020 lf_PF_72 rfl rfl t14 (fun a15 r16 => ?_)
    refine B_aload_n rfl ?_
    refine B_chk (fun t17 => ?_)
    refine K_getR 8 5 1605 lf_PF_232 rfl rfl t17 (fun a18 r19 => ?_)
    refine B_chk (fun t20 => ?_)
    refine K_getI 5 7 1007 lf_PF_337 rfl rfl t20 ?_
    refine B_aload_n rfl ?_
    refine K_getRk 8 5 1605 lf_PF_232 rfl rfl t17 r19 ?_
    refine K_getI 5 0 1000 lf_PF_340 rfl rfl t20 ?_
    refine B_isub ?_
    refine B_aload_n rfl ?_
    refine K_getRk 8 5 1605 lf_PF_232 rfl rfl t17 r19 ?_
    refine C_I (vs := [.ref a18]) (st := [.int ((hI M12 1007 a18) - (hI M12 1000 a18)), .ref a15, .ref a13]) (ci_V lv_PF_329 rfl rfl t20) rfl rfl rfl (s_Layout_high a18 M12) (fun v22 M21 => ?_)
    refine B_chk (fun t23 => ?_)
    refine C_V (vs := [.ref a13, .ref a15, .int ((hI M12 1007 a18) - (hI M12 1000 a18)), .int v22]) (st := []) (ci_V lv_PF_343 rfl rfl t23) rfl rfl rfl (s_Layout_put a13 a15 ((hI M12 1007 a18) - (hI M12 1000 a18)) v22 M21) (fun M24 => ?_)
    refine B_aload_n rfl ?_
    refine B_chk (fun t25 => ?_)
    refine K_getI 8 0 1600 lf_PF_242 rfl rfl t25 ?_
    exact B_tret rfl
  · skip
    refine V_open ok_PF_close_80 ?_
    refine B_aload_n rfl ?_
    have h26 : hT M9 l0 = 10 := by rw [e8]; exact t3
    refine K_getR 10 3 2003 lf_PF_32 rfl rfl h26 (fun a27 r28 => ?_)
    refine B_aload_n rfl ?_
    refine K_getI 8 2 1602 lf_PF_239 rfl rfl t10 ?_
    refine B_chk (fun t29 => ?_)
    refine K_aald 20 rfl t29 (fun a30 => ?_)
    refine B_chk (fun t31 => ?_)
    refine K_getR 7 2 1402 lf_PF_291 rfl rfl t31 (fun a32 r33 => ?_)
    refine B_aload_n rfl ?_
    refine K_getR 8 5 1605 lf_PF_232 rfl rfl t10 (fun a34 r35 => ?_)
    refine B_chk (fun t36 => ?_)
    refine C_I (vs := [.ref a34]) (st := [.ref a32]) (ci_V lv_PF_329 rfl rfl t36) rfl rfl rfl (s_Layout_high a34 M9) (fun v38 M37 => ?_)
    refine B_chk (fun t39 => ?_)
    refine K_putI 6 1 1201 lf_PF_332 rfl (Or.inl rfl) rfl t39 (fun M41 e40 => ?_)
    refine B_goto (tgt := 180) (by decide) ?_
    refine V_open ok_PF_close_180 ?_
    refine B_aload_n rfl ?_
    refine B_chk (fun t42 => ?_)
    refine K_getI 8 0 1600 lf_PF_242 rfl rfl t42 ?_
    exact B_tret rfl
  · skip
    refine V_open ok_PF_close_105 ?_
    refine B_aload_n rfl ?_
    have h43 : hT M9 l0 = 10 := by rw [e8]; exact t3
    refine K_getR 10 15 2015 lf_PF_55 rfl rfl h43 (fun a44 r45 => ?_)
    refine B_aload_n rfl ?_
    refine K_getI 8 2 1602 lf_PF_239 rfl rfl t10 ?_
    refine B_chk (fun t46 => ?_)
    refine K_aald 22 rfl t46 (fun a47 => ?_)
    refine B_aload_n rfl ?_
    refine K_getR 8 5 1605 lf_PF_232 rfl rfl t10 (fun a48 r49 => ?_)
    refine B_chk (fun t50 => ?_)
    refine C_I (vs := [.ref a48]) (st := [.ref a47]) (ci_V lv_PF_329 rfl rfl t50) rfl rfl rfl (s_Layout_high a48 M9) (fun v52 M51 => ?_)
    refine B_chk (fun t53 => ?_)
    refine K_putI 6 1 1201 lf_PF_332 rfl (Or.inl rfl) rfl t53 (fun M55 e54 => ?_)
    refine B_goto (tgt := 180) (by decide) ?_
    refine V_open ok_PF_close_180 ?_
    refine B_aload_n rfl ?_
    refine B_chk (fun t56 => ?_)
    refine K_getI 8 0 1600 lf_PF_242 rfl rfl t56 ?_
    exact B_tret rfl
  · skip
    refine V_open ok_PF_close_127 ?_
    refine B_aload_n rfl ?_
    refine K_getR 8 5 1605 lf_PF_232 rfl rfl t10 (fun a57 r58 => ?_)
    refine B_dup rfl ?_
    refine B_chk (fun t59 => ?_)
    refine K_getI 5 2 1002 lf_PF_334 rfl rfl t59 ?_
    refine B_bipush (10 : Int32) bp_10 ?_
    refine B_isub ?_
    refine K_putI 5 2 1002 lf_PF_334 rfl (Or.inl rfl) rfl t59 (fun M61 e60 => ?_)
    refine B_goto (tgt := 180) (by decide) ?_
    refine V_open ok_PF_close_180 ?_
    refine B_aload_n rfl ?_
    have h62 : hT M61 a7 = 8 := by rw [e60]; exact t10
    refine K_getI 8 0 1600 lf_PF_242 rfl rfl h62 ?_
    exact B_tret rfl
  · skip
    refine V_open ok_PF_close_144 ?_
    refine B_goto (tgt := 180) (by decide) ?_
    refine V_open ok_PF_close_180 ?_
    refine B_aload_n rfl ?_
    refine K_getI 8 0 1600 lf_PF_242 rfl rfl t10 ?_
    exact B_tret rfl
set_option maxRecDepth 100000 in
def b_PF_close_19 (G : GT) (l0 : Nat) (s0 : Nat) (M : PH) : Option (Nat × Int32 × PH) :=
  b_PF_close_20 G l0 s0 (0 : Int32) M
set_option maxRecDepth 100000 in
set_option maxHeartbeats 4000000 in
theorem t_PF_close_19 {G : GT} (l0 : Nat) (s0 : Nat) (M : PH) : VX G mi_PF_close 7 94 19 [some (.ref l0), none] [.ref s0] M qT (b_PF_close_19 G l0 s0 M) := by
  unfold b_PF_close_19
  refine V_open ok_PF_close_19 ?_
  refine B_iconst (0 : Int32) ic_0 ?_
  refine V_close ?_
  exact V_weak (ls' := [some (.ref l0), none]) ⟨rfl, trivial⟩ (t_PF_close_20 l0 s0 (0 : Int32) M)
set_option maxRecDepth 100000 in
def f_PF_close (G : GT) (l0 : Nat) (M : PH) : Option (Nat × Int32 × PH) :=
  if hT M l0 = 10 then if hI M 2007 l0 = 0 then (b_PF_close_19 G l0 l0 M) else (if hI M 2006 l0 ≤ 0 then (b_PF_close_19 G l0 l0 M) else (b_PF_close_20 G l0 l0 (1 : Int32) M)) else none
set_option maxRecDepth 100000 in
set_option maxHeartbeats 4000000 in
theorem s_PF_close {G : GT} (l0 : Nat) (M : PH) : VX G mi_PF_close 7 94 0 [some (.ref l0), none] [] M qT (f_PF_close G l0 M) := by
  unfold f_PF_close
  refine V_open ok_PF_close_0 ?_
  refine B_aload_n rfl ?_
  refine B_aload_n rfl ?_
  refine B_chk (fun t1 => ?_)
  refine K_getI 10 7 2007 lf_PF_104 rfl rfl t1 ?_
  refine B_eq (tgt := 19) (by decide) ?_ ?_
  · skip
    exact V_weak (ls' := [some (.ref l0), none]) ⟨rfl, trivial⟩ (t_PF_close_19 l0 l0 M)
  · skip
    refine B_aload_n rfl ?_
    refine K_getI 10 6 2006 lf_PF_114 rfl rfl t1 ?_
    refine B_le (tgt := 19) (by decide) ?_ ?_
    · skip
      exact V_weak (ls' := [some (.ref l0), none]) ⟨rfl, trivial⟩ (t_PF_close_19 l0 l0 M)
    · skip
      refine B_iconst (1 : Int32) ic_1 ?_
      refine B_goto (tgt := 20) (by decide) ?_
      exact V_weak (ls' := [some (.ref l0), none]) ⟨rfl, trivial⟩ (t_PF_close_20 l0 l0 (1 : Int32) M)

-- Law_close
theorem ok_Law_close_0 : okb method_8_code 0 [(.aload_n 1, 1), (.iconst 0, 1), (.aload_n 0, 1), (.invokevirtual 32, 3), (.i2l, 1), (.lastore, 1), (.goto 6, 3)] = true := by decide +kernel
theorem ok_Law_close_11 : okb method_8_code 11 [(.astore_n 2, 1), (.iconst 1, 1), (.ireturn, 1)] = true := by decide +kernel
theorem ok_Law_close_14 : okb method_8_code 14 [(.iconst 0, 1), (.ireturn, 1)] = true := by decide +kernel
set_option maxRecDepth 100000 in
def f_Law_close (G : GT) (l0 : Nat) (l1 : Nat) (M : PH) : Option (Int32 × PH) :=
  if hT M l0 = 10 then bH1 (f_PF_close G l0 M) (fun v3 M2 => if hT M2 l1 = 19 then if 0 < hN M2 l1 then hb (sL M2 l1 0 v3.toInt64) fun M6 => (some ((0 : Int32), M6)) else none else none) (fun M2 => some ((1 : Int32), M2)) else none
set_option maxRecDepth 100000 in
set_option maxHeartbeats 4000000 in
theorem s_Law_close {G : GT} (l0 : Nat) (l1 : Nat) (M : PH) : VX G mi_Law_close 8 109 0 [some (.ref l0), some (.ref l1), none] [] M qI (f_Law_close G l0 l1 M) := by
  unfold f_Law_close
  refine V_open ok_Law_close_0 ?_
  refine B_aload_n rfl ?_
  refine B_iconst (0 : Int32) ic_0 ?_
  refine B_aload_n rfl ?_
  refine B_chk (fun t1 => ?_)
  refine C_H1 (vs := [.ref l0]) (st := [.int (0 : Int32), .ref l1]) 8 11 13 (by decide) rfl lh_Law_13 (ci_V lv_Law_32 rfl rfl t1) rfl rfl rfl (s_PF_close l0 M) (fun v3 M2 => ?_) (fun ah M2 => ?_)
  · skip
    refine B_i2l ?_
    refine B_chk (fun t4 => ?_)
    refine K_lastc 0 rfl t4 (fun M6 e5 => ?_)
    refine B_goto (tgt := 14) (by decide) ?_
    refine V_open ok_Law_close_14 ?_
    refine B_iconst (0 : Int32) ic_0 ?_
    exact B_iret rfl
  · skip
    refine V_open ok_Law_close_11 ?_
    refine S_an [some (.ref l0), some (.ref l1), some (.ref ah)] (by decide) rfl ?_
    refine B_iconst (1 : Int32) ic_1 ?_
    exact B_iret rfl

-- Mo_put
theorem ok_Mo_put_0 : okb prog_13_method_43_code 0 [(.aload_n 0, 1), (.getfield 150, 3), (.iconst 0, 1), (.iload_n 3, 1), (.iastore, 1), (.aload_n 0, 1), (.getfield 150, 3), (.iconst 1, 1), (.iload 4, 2), (.iastore, 1), (.aload_n 0, 1), (.getfield 150, 3), (.iconst 2, 1), (.iload_n 3, 1), (.iload 5, 2), (.iadd, 1), (.iastore, 1), (.aload_n 0, 1), (.getfield 150, 3), (.iconst 3, 1), (.iload 4, 2), (.iload 6, 2), (.iadd, 1), (.iastore, 1), (.iload_n 2, 1), (.ifCond .ne 19, 3), (.aload_n 0, 1), (.getfield 123, 3), (.iload_n 1, 1), (.iload 4, 2), (.iastore, 1), (.aload_n 0, 1), (.getfield 126, 3), (.iload_n 1, 1), (.iload 4, 2), (.iastore, 1)] = true := by decide +kernel
theorem ok_Mo_put_56 : okb prog_13_method_43_code 56 [(.aload_n 0, 1), (.getfield 126, 3), (.iload_n 1, 1), (.aload_n 0, 1), (.getfield 126, 3), (.iload_n 1, 1), (.iaload, 1), (.iload 4, 2), (.iload 6, 2), (.iadd, 1), (.invokestatic 182, 3), (.iastore, 1), (.aload_n 0, 1), (.getfield 120, 3), (.iload_n 1, 1), (.iload_n 3, 1), (.iload 5, 2), (.iadd, 1), (.iastore, 1), (.aload_n 0, 1), (.getfield 129, 3), (.iload_n 1, 1), (.aload_n 0, 1), (.getfield 129, 3), (.iload_n 1, 1), (.iaload, 1), (.iload_n 3, 1), (.iload 5, 2), (.iadd, 1), (.invokestatic 182, 3), (.iastore, 1), (.aload_n 0, 1), (.getfield 132, 3), (.iload_n 1, 1), (.aload_n 0, 1), (.getfield 132, 3), (.iload_n 1, 1), (.iaload, 1), (.iload 4, 2), (.iload 6, 2), (.iadd, 1), (.invokestatic 182, 3), (.iastore, 1), (.aload_n 0, 1), (.getfield 135, 3), (.iload_n 1, 1), (.iconst 1, 1), (.bastore, 1), (.return_, 1)] = true := by decide +kernel
set_option maxRecDepth 100000 in
def b_Mo_put_56 (G : GT) (l0 : Nat) (l1 : Int32) (l3 : Int32) (l4 : Int32) (l5 : Int32) (l6 : Int32) (M : PH) : Option (PH) :=
  if hT M l0 = 11 then (hR M 2264 l0).bind fun a2 => if hT M a2 = 16 then if ib l1 (hN M a2) = true then bI (f_Mo_max G (hA M a2 l1.toNatClampNeg) (l4 + l6) M) fun v6 M5 => (if hT M5 a2 = 16 then if ib l1 (hN M5 a2) = true then hb (sA M5 a2 l1.toNatClampNeg v6) fun M9 => (if hT M9 l0 = 11 then (hR M9 2262 l0).bind fun a11 => if hT M9 a11 = 16 then if ib l1 (hN M9 a11) = true then hb (sA M9 a11 l1.toNatClampNeg (l3 + l5)) fun M15 => ((hR M15 2265 l0).bind fun a17 => if hT M15 a17 = 16 then if ib l1 (hN M15 a17) = true then bI (f_Mo_max G (hA M15 a17 l1.toNatClampNeg) (l3 + l5) M15) fun v21 M20 => (if hT M20 a17 = 16 then if ib l1 (hN M20 a17) = true then hb (sA M20 a17 l1.toNatClampNeg v21) fun M24 => (if hT M24 l0 = 11 then (hR M24 2266 l0).bind fun a26 => if hT M24 a26 = 16 then if ib l1 (hN M24 a26) = true then bI (f_Mo_max G (hA M24 a26 l1.toNatClampNeg) (l4 + l6) M24) fun v30 M29 => (if hT M29 a26 = 16 then if ib l1 (hN M29 a26) = true then hb (sA M29 a26 l1.toNatClampNeg v30) fun M33 => (if hT M33 l0 = 11 then (hR M33 2267 l0).bind fun a35 => if hT M33 a35 = 17 then if ib l1 (hN M33 a35) = true then hb (sA M33 a35 l1.toNatClampNeg (1 : Int32)) fun M39 => (some M39) else none else none else none) else none else none) else none else none else none) else none else none) else none else none) else none else none else none) else none else none) else none else none else none
set_option maxRecDepth 100000 in
set_option maxHeartbeats 4000000 in
theorem t_Mo_put_56 {G : GT} (l0 : Nat) (l1 : Int32) (l3 : Int32) (l4 : Int32) (l5 : Int32) (l6 : Int32) (M : PH) : VX G mi_Mo_put 1 15 56 [some (.ref l0), some (.int l1), none, some (.int l3), some (.int l4), some (.int l5), some (.int l6)] [] M qV (b_Mo_put_56 G l0 l1 l3 l4 l5 l6 M) := by
  unfold b_Mo_put_56
  refine V_open ok_Mo_put_56 ?_
  refine B_aload_n rfl ?_
  refine B_chk (fun t1 => ?_)
  refine K_getR 11 64 2264 lf_Mo_126 rfl rfl t1 (fun a2 r3 => ?_)
  refine B_iload_n rfl ?_
  refine B_aload_n rfl ?_
  refine K_getRk 11 64 2264 lf_Mo_126 rfl rfl t1 r3 ?_
  refine B_iload_n rfl ?_
  refine B_chk (fun t4 => ?_)
  refine K_iald t4 ?_
  refine B_iload rfl ?_
  refine B_iload rfl ?_
  refine B_iadd ?_
  refine C_I (vs := [.int (hA M a2 l1.toNatClampNeg), .int (l4 + l6)]) (st := [.int l1, .ref a2]) (ci_S ls_Mo_182 rfl) rfl rfl rfl (s_Mo_max (hA M a2 l1.toNatClampNeg) (l4 + l6) M) (fun v6 M5 => ?_)
  refine B_chk (fun t7 => ?_)
  refine K_iast t7 (fun M9 e8 => ?_)
  refine B_aload_n rfl ?_
  refine B_chk (fun t10 => ?_)
  refine K_getR 11 62 2262 lf_Mo_120 rfl rfl t10 (fun a11 r12 => ?_)
  refine B_iload_n rfl ?_
  refine B_iload_n rfl ?_
  refine B_iload rfl ?_
  refine B_iadd ?_
  refine B_chk (fun t13 => ?_)
  refine K_iast t13 (fun M15 e14 => ?_)
  refine B_aload_n rfl ?_
  have h16 : hT M15 l0 = 11 := by rw [e14]; exact t10
  refine K_getR 11 65 2265 lf_Mo_129 rfl rfl h16 (fun a17 r18 => ?_)
  refine B_iload_n rfl ?_
  refine B_aload_n rfl ?_
  refine K_getRk 11 65 2265 lf_Mo_129 rfl rfl h16 r18 ?_
  refine B_iload_n rfl ?_
  refine B_chk (fun t19 => ?_)
  refine K_iald t19 ?_
  refine B_iload_n rfl ?_
  refine B_iload rfl ?_
  refine B_iadd ?_
  refine C_I (vs := [.int (hA M15 a17 l1.toNatClampNeg), .int (l3 + l5)]) (st := [.int l1, .ref a17]) (ci_S ls_Mo_182 rfl) rfl rfl rfl (s_Mo_max (hA M15 a17 l1.toNatClampNeg) (l3 + l5) M15) (fun v21 M20 => ?_)
  refine B_chk (fun t22 => ?_)
  refine K_iast t22 (fun M24 e23 => ?_)
  refine B_aload_n rfl ?_
  refine B_chk (fun t25 => ?_)
  refine K_getR 11 66 2266 lf_Mo_132 rfl rfl t25 (fun a26 r27 => ?_)
  refine B_iload_n rfl ?_
  refine B_aload_n rfl ?_
  refine K_getRk 11 66 2266 lf_Mo_132 rfl rfl t25 r27 ?_
  refine B_iload_n rfl ?_
  refine B_chk (fun t28 => ?_)
  refine K_iald t28 ?_
  refine B_iload rfl ?_
  refine B_iload rfl ?_
  refine B_iadd ?_
  refine C_I (vs := [.int (hA M24 a26 l1.toNatClampNeg), .int (l4 + l6)]) (st := [.int l1, .ref a26]) (ci_S ls_Mo_182 rfl) rfl rfl rfl (s_Mo_max (hA M24 a26 l1.toNatClampNeg) (l4 + l6) M24) (fun v30 M29 => ?_)
  refine B_chk (fun t31 => ?_)
  refine K_iast t31 (fun M33 e32 => ?_)
  refine B_aload_n rfl ?_
  refine B_chk (fun t34 => ?_)
  refine K_getR 11 67 2267 lf_Mo_135 rfl rfl t34 (fun a35 r36 => ?_)
  refine B_iload_n rfl ?_
  refine B_iconst (1 : Int32) ic_1 ?_
  refine B_chk (fun t37 => ?_)
  refine K_zast t37 (Or.inr rfl) (fun M39 e38 => ?_)
  exact B_vret rfl
set_option maxRecDepth 100000 in
def f_Mo_put (G : GT) (l0 : Nat) (l1 : Int32) (l2 : Int32) (l3 : Int32) (l4 : Int32) (l5 : Int32) (l6 : Int32) (M : PH) : Option (PH) :=
  if hT M l0 = 11 then (hR M 2273 l0).bind fun a2 => if hT M a2 = 16 then if 0 < hN M a2 then hb (sA M a2 0 l3) fun M6 => (if 1 < hN M6 a2 then hb (sA M6 a2 1 l4) fun M11 => (if 2 < hN M11 a2 then hb (sA M11 a2 2 (l3 + l5)) fun M16 => (if 3 < hN M16 a2 then hb (sA M16 a2 3 (l4 + l6)) fun M21 => (if ¬ l2 = 0 then (b_Mo_put_56 G l0 l1 l3 l4 l5 l6 M21) else ((hR M21 2263 l0).bind fun a23 => if hT M21 a23 = 16 then if ib l1 (hN M21 a23) = true then hb (sA M21 a23 l1.toNatClampNeg l4) fun M27 => ((hR M27 2264 l0).bind fun a29 => if hT M27 a29 = 16 then if ib l1 (hN M27 a29) = true then hb (sA M27 a29 l1.toNatClampNeg l4) fun M33 => (b_Mo_put_56 G l0 l1 l3 l4 l5 l6 M33) else none else none) else none else none)) else none) else none) else none) else none else none else none
set_option maxRecDepth 100000 in
set_option maxHeartbeats 4000000 in
theorem s_Mo_put {G : GT} (l0 : Nat) (l1 : Int32) (l2 : Int32) (l3 : Int32) (l4 : Int32) (l5 : Int32) (l6 : Int32) (M : PH) : VX G mi_Mo_put 1 15 0 [some (.ref l0), some (.int l1), some (.int l2), some (.int l3), some (.int l4), some (.int l5), some (.int l6)] [] M qV (f_Mo_put G l0 l1 l2 l3 l4 l5 l6 M) := by
  unfold f_Mo_put
  refine V_open ok_Mo_put_0 ?_
  refine B_aload_n rfl ?_
  refine B_chk (fun t1 => ?_)
  refine K_getR 11 73 2273 lf_Mo_150 rfl rfl t1 (fun a2 r3 => ?_)
  refine B_iconst (0 : Int32) ic_0 ?_
  refine B_iload_n rfl ?_
  refine B_chk (fun t4 => ?_)
  refine K_iastc 0 rfl t4 (fun M6 e5 => ?_)
  refine B_aload_n rfl ?_
  have h7 : hT M6 l0 = 11 := by rw [e5]; exact t1
  have h8 : hR M6 2273 l0 = some a2 := by rw [e5]; exact r3
  refine K_getRk 11 73 2273 lf_Mo_150 rfl rfl h7 h8 ?_
  refine B_iconst (1 : Int32) ic_1 ?_
  refine B_iload rfl ?_
  have h9 : hT M6 a2 = 16 := by rw [e5]; exact t4
  refine K_iastc 1 rfl h9 (fun M11 e10 => ?_)
  refine B_aload_n rfl ?_
  have h12 : hT M11 l0 = 11 := by rw [e10]; exact h7
  have h13 : hR M11 2273 l0 = some a2 := by rw [e10]; exact h8
  refine K_getRk 11 73 2273 lf_Mo_150 rfl rfl h12 h13 ?_
  refine B_iconst (2 : Int32) ic_2 ?_
  refine B_iload_n rfl ?_
  refine B_iload rfl ?_
  refine B_iadd ?_
  have h14 : hT M11 a2 = 16 := by rw [e10]; exact h9
  refine K_iastc 2 rfl h14 (fun M16 e15 => ?_)
  refine B_aload_n rfl ?_
  have h17 : hT M16 l0 = 11 := by rw [e15]; exact h12
  have h18 : hR M16 2273 l0 = some a2 := by rw [e15]; exact h13
  refine K_getRk 11 73 2273 lf_Mo_150 rfl rfl h17 h18 ?_
  refine B_iconst (3 : Int32) ic_3 ?_
  refine B_iload rfl ?_
  refine B_iload rfl ?_
  refine B_iadd ?_
  have h19 : hT M16 a2 = 16 := by rw [e15]; exact h14
  refine K_iastc 3 rfl h19 (fun M21 e20 => ?_)
  refine B_iload_n rfl ?_
  refine B_ne (tgt := 56) (by decide) ?_ ?_
  · skip
    exact V_weak (ls' := [some (.ref l0), some (.int l1), none, some (.int l3), some (.int l4), some (.int l5), some (.int l6)]) ⟨rfl, ⟨rfl, ⟨rfl, ⟨rfl, ⟨rfl, ⟨rfl, trivial⟩⟩⟩⟩⟩⟩ (t_Mo_put_56 l0 l1 l3 l4 l5 l6 M21)
  · skip
    refine B_aload_n rfl ?_
    have h22 : hT M21 l0 = 11 := by rw [e20]; exact h17
    refine K_getR 11 63 2263 lf_Mo_123 rfl rfl h22 (fun a23 r24 => ?_)
    refine B_iload_n rfl ?_
    refine B_iload rfl ?_
    refine B_chk (fun t25 => ?_)
    refine K_iast t25 (fun M27 e26 => ?_)
    refine B_aload_n rfl ?_
    have h28 : hT M27 l0 = 11 := by rw [e26]; exact h22
    refine K_getR 11 64 2264 lf_Mo_126 rfl rfl h28 (fun a29 r30 => ?_)
    refine B_iload_n rfl ?_
    refine B_iload rfl ?_
    refine B_chk (fun t31 => ?_)
    refine K_iast t31 (fun M33 e32 => ?_)
    refine V_close ?_
    exact V_weak (ls' := [some (.ref l0), some (.int l1), none, some (.int l3), some (.int l4), some (.int l5), some (.int l6)]) ⟨rfl, ⟨rfl, ⟨rfl, ⟨rfl, ⟨rfl, ⟨rfl, trivial⟩⟩⟩⟩⟩⟩ (t_Mo_put_56 l0 l1 l3 l4 l5 l6 M33)

-- Mo_close
theorem ok_Mo_close_0 : okb prog_13_method_40_code 0 [(.aload_n 0, 1), (.iconst 0, 1), (.putfield 175, 3), (.aload_n 0, 1), (.getfield 236, 3), (.ifCond .eq 10, 3), (.aload_n 0, 1), (.getfield 279, 3), (.ifCond .ne 8, 3)] = true := by decide +kernel
theorem ok_Mo_close_19 : okb prog_13_method_40_code 19 [(.aload_n 0, 1), (.invokevirtual 239, 3), (.ireturn, 1)] = true := by decide +kernel
theorem ok_Mo_close_24 : okb prog_13_method_40_code 24 [(.aload_n 0, 1), (.dup, 1), (.getfield 279, 3), (.iconst 1, 1), (.isub, 1), (.putfield 279, 3), (.aload_n 0, 1), (.getfield 93, 3), (.aload_n 0, 1), (.getfield 279, 3), (.iaload, 1), (.istore_n 1, 1), (.aload_n 0, 1), (.getfield 102, 3), (.aload_n 0, 1), (.getfield 279, 3), (.iaload, 1), (.istore_n 2, 1), (.aload_n 0, 1), (.aload_n 0, 1), (.getfield 96, 3), (.aload_n 0, 1), (.getfield 279, 3), (.iaload, 1), (.putfield 282, 3), (.iconst 0, 1), (.istore_n 3, 1)] = true := by decide +kernel
theorem ok_Mo_close_69 : okb prog_13_method_40_code 69 [(.iload_n 3, 1), (.iconst 4, 1), (.if_icmp .ge 28, 3), (.aload_n 0, 1), (.getfield 147, 3), (.iload_n 3, 1), (.aload_n 0, 1), (.getfield 99, 3), (.iconst 4, 1), (.aload_n 0, 1), (.getfield 279, 3), (.imul, 1), (.iload_n 3, 1), (.iadd, 1), (.iaload, 1), (.iastore, 1), (.iinc 3 1, 3), (.goto (-27), 3)] = true := by decide +kernel
theorem ok_Mo_close_99 : okb prog_13_method_40_code 99 [(.iload_n 1, 1), (.ifCond .ne 30, 3), (.aload_n 0, 1), (.getfield 51, 3), (.aload_n 0, 1), (.getfield 105, 3), (.aload_n 0, 1), (.getfield 279, 3), (.iaload, 1), (.aload_n 0, 1), (.getfield 132, 3), (.iload_n 2, 1), (.iaload, 1), (.aload_n 0, 1), (.getfield 114, 3), (.iload_n 2, 1), (.iaload, 1), (.isub, 1), (.iastore, 1)] = true := by decide +kernel
theorem ok_Mo_close_130 : okb prog_13_method_40_code 130 [(.iload_n 1, 1), (.iconst 1, 1), (.if_icmp .ne 30, 3), (.aload_n 0, 1), (.getfield 87, 3), (.aload_n 0, 1), (.getfield 105, 3), (.aload_n 0, 1), (.getfield 279, 3), (.iaload, 1), (.aload_n 0, 1), (.getfield 132, 3), (.iload_n 2, 1), (.iaload, 1), (.aload_n 0, 1), (.getfield 114, 3), (.iload_n 2, 1), (.iaload, 1), (.isub, 1), (.iastore, 1)] = true := by decide +kernel
theorem ok_Mo_close_162 : okb prog_13_method_40_code 162 [(.iload_n 1, 1), (.iconst 2, 1), (.if_icmp .ne 14, 3), (.aload_n 0, 1), (.getfield 117, 3), (.iload_n 2, 1), (.dup2, 1), (.iaload, 1), (.bipush 10, 2), (.isub, 1), (.iastore, 1)] = true := by decide +kernel
theorem ok_Mo_close_178 : okb prog_13_method_40_code 178 [(.iload_n 1, 1), (.iconst 2, 1), (.if_icmp .eq 18, 3), (.iload_n 1, 1), (.iconst 3, 1), (.if_icmp .eq 13, 3), (.aload_n 0, 1), (.dup, 1), (.getfield 285, 3), (.iconst 1, 1), (.isub, 1), (.putfield 285, 3)] = true := by decide +kernel
theorem ok_Mo_close_198 : okb prog_13_method_40_code 198 [(.iload_n 1, 1), (.ifCond .ne 8, 3), (.aload_n 0, 1), (.iconst (-1), 1), (.putfield 144, 3)] = true := by decide +kernel
theorem ok_Mo_close_207 : okb prog_13_method_40_code 207 [(.iload_n 1, 1), (.iconst 4, 1), (.if_icmp .ne 66, 3), (.aload_n 0, 1), (.getfield 285, 3), (.iconst 1, 1), (.isub, 1), (.istore_n 3, 1), (.aload_n 0, 1), (.getfield 138, 3), (.iload_n 3, 1), (.iconst 0, 1), (.bastore, 1), (.aload_n 0, 1), (.iload_n 3, 1), (.aload_n 0, 1), (.getfield 141, 3), (.iload_n 2, 1), (.baload, 1), (.aload_n 0, 1), (.getfield 111, 3), (.iload_n 2, 1), (.iaload, 1), (.aload_n 0, 1), (.getfield 114, 3), (.iload_n 2, 1), (.iaload, 1), (.aload_n 0, 1), (.getfield 129, 3), (.iload_n 2, 1), (.iaload, 1), (.aload_n 0, 1), (.getfield 111, 3), (.iload_n 2, 1), (.iaload, 1), (.isub, 1), (.aload_n 0, 1), (.getfield 132, 3), (.iload_n 2, 1), (.iaload, 1), (.aload_n 0, 1), (.getfield 114, 3), (.iload_n 2, 1), (.iaload, 1), (.isub, 1), (.invokevirtual 346, 3), (.iload_n 1, 1), (.ireturn, 1)] = true := by decide +kernel
theorem ok_Mo_close_275 : okb prog_13_method_40_code 275 [(.iload_n 1, 1), (.ireturn, 1)] = true := by decide +kernel
set_option maxRecDepth 100000 in
def b_Mo_close_19 (G : GT) (l0 : Nat) (M : PH) : Option (Int32 × PH) :=
  if hT M l0 = 11 then bI (f_Mo_breaks G l0 M) fun v3 M2 => (some (v3, M2)) else none
set_option maxRecDepth 100000 in
set_option maxHeartbeats 4000000 in
theorem t_Mo_close_19 {G : GT} (l0 : Nat) (M : PH) : VX G mi_Mo_close 2 33 19 [some (.ref l0), none, none, none] [] M qI (b_Mo_close_19 G l0 M) := by
  unfold b_Mo_close_19
  refine V_open ok_Mo_close_19 ?_
  refine B_aload_n rfl ?_
  refine B_chk (fun t1 => ?_)
  refine C_I (vs := [.ref l0]) (st := []) (ci_V lv_Mo_239 rfl rfl t1) rfl rfl rfl (s_Mo_breaks l0 M) (fun v3 M2 => ?_)
  exact B_iret rfl
set_option maxRecDepth 100000 in
def b_Mo_close_207 (G : GT) (l0 : Nat) (l1 : Int32) (l2 : Int32) (M : PH) : Option (Int32 × PH) :=
  if ¬ l1 = (4 : Int32) then (some (l1, M)) else (if hT M l0 = 11 then vb ((hI M 2270 l0) - (1 : Int32)) fun v2 => (hR M 2268 l0).bind fun a3 => if hT M a3 = 17 then if ib v2 (hN M a3) = true then hb (sA M a3 v2.toNatClampNeg (0 : Int32)) fun M7 => ((hR M7 2269 l0).bind fun a9 => if hT M7 a9 = 17 then if ib l2 (hN M7 a9) = true then (hR M7 2259 l0).bind fun a12 => if hT M7 a12 = 16 then if ib l2 (hN M7 a12) = true then (hR M7 2260 l0).bind fun a15 => if hT M7 a15 = 16 then if ib l2 (hN M7 a15) = true then (hR M7 2265 l0).bind fun a18 => if hT M7 a18 = 16 then if ib l2 (hN M7 a18) = true then if ib l2 (hN M7 a12) = true then (hR M7 2266 l0).bind fun a21 => if hT M7 a21 = 16 then if ib l2 (hN M7 a21) = true then if ib l2 (hN M7 a15) = true then bV (f_Mo_put G l0 v2 (hA M7 a9 l2.toNatClampNeg) (hA M7 a12 l2.toNatClampNeg) (hA M7 a15 l2.toNatClampNeg) ((hA M7 a18 l2.toNatClampNeg) - (hA M7 a12 l2.toNatClampNeg)) ((hA M7 a21 l2.toNatClampNeg) - (hA M7 a15 l2.toNatClampNeg)) M7) fun M24 => (some (l1, M24)) else none else none else none else none else none else none else none else none else none else none else none else none) else none else none else none)
set_option maxRecDepth 100000 in
set_option maxHeartbeats 4000000 in
theorem t_Mo_close_207 {G : GT} (l0 : Nat) (l1 : Int32) (l2 : Int32) (M : PH) : VX G mi_Mo_close 2 33 207 [some (.ref l0), some (.int l1), some (.int l2), none] [] M qI (b_Mo_close_207 G l0 l1 l2 M) := by
  unfold b_Mo_close_207
  refine V_open ok_Mo_close_207 ?_
  refine B_iload_n rfl ?_
  refine B_iconst (4 : Int32) ic_4 ?_
  refine B_ine (tgt := 275) (by decide) ?_ ?_
  · skip
    refine V_open ok_Mo_close_275 ?_
    refine B_iload_n rfl ?_
    exact B_iret rfl
  · skip
    refine B_aload_n rfl ?_
    refine B_chk (fun t1 => ?_)
    refine K_getI 11 70 2270 lf_Mo_285 rfl rfl t1 ?_
    refine B_iconst (1 : Int32) ic_1 ?_
    refine B_isub ?_
    refine B_vb (fun v2 => ?_)
    refine S_in [some (.ref l0), some (.int l1), some (.int l2), some (.int v2)] (by decide) rfl ?_
    refine B_aload_n rfl ?_
    refine K_getR 11 68 2268 lf_Mo_138 rfl rfl t1 (fun a3 r4 => ?_)
    refine B_iload_n rfl ?_
    refine B_iconst (0 : Int32) ic_0 ?_
    refine B_chk (fun t5 => ?_)
    refine K_zast t5 (Or.inl rfl) (fun M7 e6 => ?_)
    refine B_aload_n rfl ?_
    refine B_iload_n rfl ?_
    refine B_aload_n rfl ?_
    have h8 : hT M7 l0 = 11 := by rw [e6]; exact t1
    refine K_getR 11 69 2269 lf_Mo_141 rfl rfl h8 (fun a9 r10 => ?_)
    refine B_iload_n rfl ?_
    refine B_chk (fun t11 => ?_)
    refine K_zald t11 ?_
    refine B_aload_n rfl ?_
    refine K_getR 11 59 2259 lf_Mo_111 rfl rfl h8 (fun a12 r13 => ?_)
    refine B_iload_n rfl ?_
    refine B_chk (fun t14 => ?_)
    refine K_iald t14 ?_
    refine B_aload_n rfl ?_
    refine K_getR 11 60 2260 lf_Mo_114 rfl rfl h8 (fun a15 r16 => ?_)
    refine B_iload_n rfl ?_
    refine B_chk (fun t17 => ?_)
    refine K_iald t17 ?_
    refine B_aload_n rfl ?_
    refine K_getR 11 65 2265 lf_Mo_129 rfl rfl h8 (fun a18 r19 => ?_)
    refine B_iload_n rfl ?_
    refine B_chk (fun t20 => ?_)
    refine K_iald t20 ?_
    refine B_aload_n rfl ?_
    refine K_getRk 11 59 2259 lf_Mo_111 rfl rfl h8 r13 ?_
    refine B_iload_n rfl ?_
    refine K_iald t14 ?_
    refine B_isub ?_
    refine B_aload_n rfl ?_
    refine K_getR 11 66 2266 lf_Mo_132 rfl rfl h8 (fun a21 r22 => ?_)
    refine B_iload_n rfl ?_
    refine B_chk (fun t23 => ?_)
    refine K_iald t23 ?_
    refine B_aload_n rfl ?_
    refine K_getRk 11 60 2260 lf_Mo_114 rfl rfl h8 r16 ?_
    refine B_iload_n rfl ?_
    refine K_iald t17 ?_
    refine B_isub ?_
    refine C_V (vs := [.ref l0, .int v2, .int (hA M7 a9 l2.toNatClampNeg), .int (hA M7 a12 l2.toNatClampNeg), .int (hA M7 a15 l2.toNatClampNeg), .int ((hA M7 a18 l2.toNatClampNeg) - (hA M7 a12 l2.toNatClampNeg)), .int ((hA M7 a21 l2.toNatClampNeg) - (hA M7 a15 l2.toNatClampNeg))]) (st := []) (ci_V lv_Mo_346 rfl rfl h8) rfl rfl rfl (s_Mo_put l0 v2 (hA M7 a9 l2.toNatClampNeg) (hA M7 a12 l2.toNatClampNeg) (hA M7 a15 l2.toNatClampNeg) ((hA M7 a18 l2.toNatClampNeg) - (hA M7 a12 l2.toNatClampNeg)) ((hA M7 a21 l2.toNatClampNeg) - (hA M7 a15 l2.toNatClampNeg)) M7) (fun M24 => ?_)
    refine B_iload_n rfl ?_
    exact B_iret rfl
set_option maxRecDepth 100000 in
def b_Mo_close_198 (G : GT) (l0 : Nat) (l1 : Int32) (l2 : Int32) (M : PH) : Option (Int32 × PH) :=
  if ¬ l1 = 0 then (b_Mo_close_207 G l0 l1 l2 M) else (if hT M l0 = 11 then hb (sI M 2271 l0 (-1 : Int32)) fun M3 => b_Mo_close_207 G l0 l1 l2 M3 else none)
set_option maxRecDepth 100000 in
set_option maxHeartbeats 4000000 in
theorem t_Mo_close_198 {G : GT} (l0 : Nat) (l1 : Int32) (l2 : Int32) (M : PH) : VX G mi_Mo_close 2 33 198 [some (.ref l0), some (.int l1), some (.int l2), none] [] M qI (b_Mo_close_198 G l0 l1 l2 M) := by
  unfold b_Mo_close_198
  refine V_open ok_Mo_close_198 ?_
  refine B_iload_n rfl ?_
  refine B_ne (tgt := 207) (by decide) ?_ ?_
  · skip
    exact V_weak (ls' := [some (.ref l0), some (.int l1), some (.int l2), none]) ⟨rfl, ⟨rfl, ⟨rfl, trivial⟩⟩⟩ (t_Mo_close_207 l0 l1 l2 M)
  · skip
    refine B_aload_n rfl ?_
    refine B_iconst (-1 : Int32) ic_m1 ?_
    refine B_chk (fun t1 => ?_)
    refine K_putI 11 71 2271 lf_Mo_144 rfl (Or.inl rfl) rfl t1 (fun M3 e2 => ?_)
    refine V_close ?_
    exact V_weak (ls' := [some (.ref l0), some (.int l1), some (.int l2), none]) ⟨rfl, ⟨rfl, ⟨rfl, trivial⟩⟩⟩ (t_Mo_close_207 l0 l1 l2 M3)
set_option maxRecDepth 100000 in
def b_Mo_close_178 (G : GT) (l0 : Nat) (l1 : Int32) (l2 : Int32) (M : PH) : Option (Int32 × PH) :=
  if l1 = (2 : Int32) then (b_Mo_close_198 G l0 l1 l2 M) else (if l1 = (3 : Int32) then (b_Mo_close_198 G l0 l1 l2 M) else (if hT M l0 = 11 then hb (sI M 2270 l0 ((hI M 2270 l0) - (1 : Int32))) fun M3 => b_Mo_close_198 G l0 l1 l2 M3 else none))
set_option maxRecDepth 100000 in
set_option maxHeartbeats 4000000 in
theorem t_Mo_close_178 {G : GT} (l0 : Nat) (l1 : Int32) (l2 : Int32) (M : PH) : VX G mi_Mo_close 2 33 178 [some (.ref l0), some (.int l1), some (.int l2), none] [] M qI (b_Mo_close_178 G l0 l1 l2 M) := by
  unfold b_Mo_close_178
  refine V_open ok_Mo_close_178 ?_
  refine B_iload_n rfl ?_
  refine B_iconst (2 : Int32) ic_2 ?_
  refine B_ieq (tgt := 198) (by decide) ?_ ?_
  · skip
    exact V_weak (ls' := [some (.ref l0), some (.int l1), some (.int l2), none]) ⟨rfl, ⟨rfl, ⟨rfl, trivial⟩⟩⟩ (t_Mo_close_198 l0 l1 l2 M)
  · skip
    refine B_iload_n rfl ?_
    refine B_iconst (3 : Int32) ic_3 ?_
    refine B_ieq (tgt := 198) (by decide) ?_ ?_
    · skip
      exact V_weak (ls' := [some (.ref l0), some (.int l1), some (.int l2), none]) ⟨rfl, ⟨rfl, ⟨rfl, trivial⟩⟩⟩ (t_Mo_close_198 l0 l1 l2 M)
    · skip
      refine B_aload_n rfl ?_
      refine B_dup rfl ?_
      refine B_chk (fun t1 => ?_)
      refine K_getI 11 70 2270 lf_Mo_285 rfl rfl t1 ?_
      refine B_iconst (1 : Int32) ic_1 ?_
      refine B_isub ?_
      refine K_putI 11 70 2270 lf_Mo_285 rfl (Or.inl rfl) rfl t1 (fun M3 e2 => ?_)
      refine V_close ?_
      exact V_weak (ls' := [some (.ref l0), some (.int l1), some (.int l2), none]) ⟨rfl, ⟨rfl, ⟨rfl, trivial⟩⟩⟩ (t_Mo_close_198 l0 l1 l2 M3)
set_option maxRecDepth 100000 in
def b_Mo_close_162 (G : GT) (l0 : Nat) (l1 : Int32) (l2 : Int32) (M : PH) : Option (Int32 × PH) :=
  if ¬ l1 = (2 : Int32) then (b_Mo_close_178 G l0 l1 l2 M) else (if hT M l0 = 11 then (hR M 2261 l0).bind fun a2 => if hT M a2 = 16 then if ib l2 (hN M a2) = true then if ib l2 (hN M a2) = true then hb (sA M a2 l2.toNatClampNeg ((hA M a2 l2.toNatClampNeg) - (10 : Int32))) fun M6 => (b_Mo_close_178 G l0 l1 l2 M6) else none else none else none else none)
set_option maxRecDepth 100000 in
set_option maxHeartbeats 4000000 in
theorem t_Mo_close_162 {G : GT} (l0 : Nat) (l1 : Int32) (l2 : Int32) (M : PH) : VX G mi_Mo_close 2 33 162 [some (.ref l0), some (.int l1), some (.int l2), none] [] M qI (b_Mo_close_162 G l0 l1 l2 M) := by
  unfold b_Mo_close_162
  refine V_open ok_Mo_close_162 ?_
  refine B_iload_n rfl ?_
  refine B_iconst (2 : Int32) ic_2 ?_
  refine B_ine (tgt := 178) (by decide) ?_ ?_
  · skip
    exact V_weak (ls' := [some (.ref l0), some (.int l1), some (.int l2), none]) ⟨rfl, ⟨rfl, ⟨rfl, trivial⟩⟩⟩ (t_Mo_close_178 l0 l1 l2 M)
  · skip
    refine B_aload_n rfl ?_
    refine B_chk (fun t1 => ?_)
    refine K_getR 11 61 2261 lf_Mo_117 rfl rfl t1 (fun a2 r3 => ?_)
    refine B_iload_n rfl ?_
    refine B_dup2 rfl rfl ?_
    refine B_chk (fun t4 => ?_)
    refine K_iald t4 ?_
    refine B_bipush (10 : Int32) bp_10 ?_
    refine B_isub ?_
    refine K_iast t4 (fun M6 e5 => ?_)
    refine V_close ?_
    exact V_weak (ls' := [some (.ref l0), some (.int l1), some (.int l2), none]) ⟨rfl, ⟨rfl, ⟨rfl, trivial⟩⟩⟩ (t_Mo_close_178 l0 l1 l2 M6)
set_option maxRecDepth 100000 in
def b_Mo_close_130 (G : GT) (l0 : Nat) (l1 : Int32) (l2 : Int32) (M : PH) : Option (Int32 × PH) :=
  if ¬ l1 = (1 : Int32) then (b_Mo_close_162 G l0 l1 l2 M) else (if hT M l0 = 11 then (hR M 2247 l0).bind fun a2 => (hR M 2255 l0).bind fun a4 => if hT M a4 = 16 then if ib (hI M 2256 l0) (hN M a4) = true then (hR M 2266 l0).bind fun a7 => if hT M a7 = 16 then if ib l2 (hN M a7) = true then (hR M 2260 l0).bind fun a10 => if hT M a10 = 16 then if ib l2 (hN M a10) = true then if hT M a2 = 16 then if ib (hA M a4 (hI M 2256 l0).toNatClampNeg) (hN M a2) = true then hb (sA M a2 (hA M a4 (hI M 2256 l0).toNatClampNeg).toNatClampNeg ((hA M a7 l2.toNatClampNeg) - (hA M a10 l2.toNatClampNeg))) fun M15 => (b_Mo_close_162 G l0 l1 l2 M15) else none else none else none else none else none else none else none else none else none)
set_option maxRecDepth 100000 in
set_option maxHeartbeats 4000000 in
theorem t_Mo_close_130 {G : GT} (l0 : Nat) (l1 : Int32) (l2 : Int32) (M : PH) : VX G mi_Mo_close 2 33 130 [some (.ref l0), some (.int l1), some (.int l2), none] [] M qI (b_Mo_close_130 G l0 l1 l2 M) := by
  unfold b_Mo_close_130
  refine V_open ok_Mo_close_130 ?_
  refine B_iload_n rfl ?_
  refine B_iconst (1 : Int32) ic_1 ?_
  refine B_ine (tgt := 162) (by decide) ?_ ?_
  · skip
    exact V_weak (ls' := [some (.ref l0), some (.int l1), some (.int l2), none]) ⟨rfl, ⟨rfl, ⟨rfl, trivial⟩⟩⟩ (t_Mo_close_162 l0 l1 l2 M)
  · skip
    refine B_aload_n rfl ?_
    refine B_chk (fun t1 => ?_)
    refine K_getR 11 47 2247 lf_Mo_87 rfl rfl t1 (fun a2 r3 => ?_)
    refine B_aload_n rfl ?_
    refine K_getR 11 55 2255 lf_Mo_105 rfl rfl t1 (fun a4 r5 => ?_)
    refine B_aload_n rfl ?_
    refine K_getI 11 56 2256 lf_Mo_279 rfl rfl t1 ?_
    refine B_chk (fun t6 => ?_)
    refine K_iald t6 ?_
    refine B_aload_n rfl ?_
    refine K_getR 11 66 2266 lf_Mo_132 rfl rfl t1 (fun a7 r8 => ?_)
    refine B_iload_n rfl ?_
    refine B_chk (fun t9 => ?_)
    refine K_iald t9 ?_
    refine B_aload_n rfl ?_
    refine K_getR 11 60 2260 lf_Mo_114 rfl rfl t1 (fun a10 r11 => ?_)
    refine B_iload_n rfl ?_
    refine B_chk (fun t12 => ?_)
    refine K_iald t12 ?_
    refine B_isub ?_
    refine B_chk (fun t13 => ?_)
    refine K_iast t13 (fun M15 e14 => ?_)
    refine V_close ?_
    exact V_weak (ls' := [some (.ref l0), some (.int l1), some (.int l2), none]) ⟨rfl, ⟨rfl, ⟨rfl, trivial⟩⟩⟩ (t_Mo_close_162 l0 l1 l2 M15)
set_option maxRecDepth 100000 in
def b_Mo_close_69 (G : GT) (k69 : Nat → Int32 → Int32 → Int32 → PH → Option (Int32 × PH)) (l0 : Nat) (l1 : Int32) (l2 : Int32) (l3 : Int32) (M : PH) : Option (Int32 × PH) :=
  if (4 : Int32) ≤ l3 then (if ¬ l1 = 0 then (b_Mo_close_130 G l0 l1 l2 M) else (if hT M l0 = 11 then (hR M 2234 l0).bind fun a2 => (hR M 2255 l0).bind fun a4 => if hT M a4 = 16 then if ib (hI M 2256 l0) (hN M a4) = true then (hR M 2266 l0).bind fun a7 => if hT M a7 = 16 then if ib l2 (hN M a7) = true then (hR M 2260 l0).bind fun a10 => if hT M a10 = 16 then if ib l2 (hN M a10) = true then if hT M a2 = 16 then if ib (hA M a4 (hI M 2256 l0).toNatClampNeg) (hN M a2) = true then hb (sA M a2 (hA M a4 (hI M 2256 l0).toNatClampNeg).toNatClampNeg ((hA M a7 l2.toNatClampNeg) - (hA M a10 l2.toNatClampNeg))) fun M15 => (b_Mo_close_130 G l0 l1 l2 M15) else none else none else none else none else none else none else none else none else none)) else (if hT M l0 = 11 then (hR M 2272 l0).bind fun a17 => (hR M 2253 l0).bind fun a19 => if hT M a19 = 16 then if ib (((4 : Int32) * (hI M 2256 l0)) + l3) (hN M a19) = true then if hT M a17 = 16 then if ib l3 (hN M a17) = true then hb (sA M a17 l3.toNatClampNeg (hA M a19 (((4 : Int32) * (hI M 2256 l0)) + l3).toNatClampNeg)) fun M24 => (k69 l0 l1 l2 (l3 + (1 : Int32)) M24) else none else none else none else none else none)
set_option maxRecDepth 100000 in
set_option maxHeartbeats 4000000 in
theorem t_Mo_close_69 {G : GT} {k69 : Nat → Int32 → Int32 → Int32 → PH → Option (Int32 × PH)} (hk69 : ∀ (l0 : Nat) (l1 : Int32) (l2 : Int32) (l3 : Int32) (M : PH), VX G mi_Mo_close 2 33 69 [some (.ref l0), some (.int l1), some (.int l2), some (.int l3)] [] M qI (k69 l0 l1 l2 l3 M)) (l0 : Nat) (l1 : Int32) (l2 : Int32) (l3 : Int32) (M : PH) : VX G mi_Mo_close 2 33 69 [some (.ref l0), some (.int l1), some (.int l2), some (.int l3)] [] M qI (b_Mo_close_69 G k69 l0 l1 l2 l3 M) := by
  unfold b_Mo_close_69
  refine V_open ok_Mo_close_69 ?_
  refine B_iload_n rfl ?_
  refine B_iconst (4 : Int32) ic_4 ?_
  refine B_ige (tgt := 99) (by decide) ?_ ?_
  · skip
    refine V_open ok_Mo_close_99 ?_
    refine B_iload_n rfl ?_
    refine B_ne (tgt := 130) (by decide) ?_ ?_
    · skip
      exact V_weak (ls' := [some (.ref l0), some (.int l1), some (.int l2), none]) ⟨rfl, ⟨rfl, ⟨rfl, trivial⟩⟩⟩ (t_Mo_close_130 l0 l1 l2 M)
    · skip
      refine B_aload_n rfl ?_
      refine B_chk (fun t1 => ?_)
      refine K_getR 11 34 2234 lf_Mo_51 rfl rfl t1 (fun a2 r3 => ?_)
      refine B_aload_n rfl ?_
      refine K_getR 11 55 2255 lf_Mo_105 rfl rfl t1 (fun a4 r5 => ?_)
      refine B_aload_n rfl ?_
      refine K_getI 11 56 2256 lf_Mo_279 rfl rfl t1 ?_
      refine B_chk (fun t6 => ?_)
      refine K_iald t6 ?_
      refine B_aload_n rfl ?_
      refine K_getR 11 66 2266 lf_Mo_132 rfl rfl t1 (fun a7 r8 => ?_)
      refine B_iload_n rfl ?_
      refine B_chk (fun t9 => ?_)
      refine K_iald t9 ?_
      refine B_aload_n rfl ?_
      refine K_getR 11 60 2260 lf_Mo_114 rfl rfl t1 (fun a10 r11 => ?_)
      refine B_iload_n rfl ?_
      refine B_chk (fun t12 => ?_)
      refine K_iald t12 ?_
      refine B_isub ?_
      refine B_chk (fun t13 => ?_)
      refine K_iast t13 (fun M15 e14 => ?_)
      refine V_close ?_
      exact V_weak (ls' := [some (.ref l0), some (.int l1), some (.int l2), none]) ⟨rfl, ⟨rfl, ⟨rfl, trivial⟩⟩⟩ (t_Mo_close_130 l0 l1 l2 M15)
  · skip
    refine B_aload_n rfl ?_
    refine B_chk (fun t16 => ?_)
    refine K_getR 11 72 2272 lf_Mo_147 rfl rfl t16 (fun a17 r18 => ?_)
    refine B_iload_n rfl ?_
    refine B_aload_n rfl ?_
    refine K_getR 11 53 2253 lf_Mo_99 rfl rfl t16 (fun a19 r20 => ?_)
    refine B_iconst (4 : Int32) ic_4 ?_
    refine B_aload_n rfl ?_
    refine K_getI 11 56 2256 lf_Mo_279 rfl rfl t16 ?_
    refine B_imul ?_
    refine B_iload_n rfl ?_
    refine B_iadd ?_
    refine B_chk (fun t21 => ?_)
    refine K_iald t21 ?_
    refine B_chk (fun t22 => ?_)
    refine K_iast t22 (fun M24 e23 => ?_)
    refine S_inc (1 : Int32) [some (.ref l0), some (.int l1), some (.int l2), some (.int (l3 + (1 : Int32)))] ic_1 rfl (by decide) rfl ?_
    refine B_goto (tgt := 69) (by decide) ?_
    exact V_weak (ls' := [some (.ref l0), some (.int l1), some (.int l2), some (.int (l3 + (1 : Int32)))]) ⟨rfl, ⟨rfl, ⟨rfl, ⟨rfl, trivial⟩⟩⟩⟩ (hk69 l0 l1 l2 (l3 + (1 : Int32)) M24)
set_option maxRecDepth 100000 in
def w_Mo_close_69 (G : GT) : Nat → Nat → Int32 → Int32 → Int32 → PH → Option (Int32 × PH)
  | 0 => fun _ _ _ _ _ => none
  | n + 1 => b_Mo_close_69 G (w_Mo_close_69 G n)
set_option maxRecDepth 100000 in
set_option maxHeartbeats 4000000 in
theorem tw_Mo_close_69 {G : GT} : ∀ (n : Nat) (l0 : Nat) (l1 : Int32) (l2 : Int32) (l3 : Int32) (M : PH), VX G mi_Mo_close 2 33 69 [some (.ref l0), some (.int l1), some (.int l2), some (.int l3)] [] M qI (w_Mo_close_69 G n l0 l1 l2 l3 M)
  | 0, _, _, _, _, _ => X_none
  | n + 1, l0, l1, l2, l3, M => t_Mo_close_69 (tw_Mo_close_69 n) l0 l1 l2 l3 M
set_option maxRecDepth 100000 in
def f_Mo_close (G : GT) (l0 : Nat) (M : PH) : Option (Int32 × PH) :=
  if hT M l0 = 11 then hb (sI M 2200 l0 (0 : Int32)) fun M3 => if hI M3 2218 l0 = 0 then (b_Mo_close_19 G l0 M3) else (if ¬ hI M3 2256 l0 = 0 then (hb (sI M3 2256 l0 ((hI M3 2256 l0) - (1 : Int32))) fun M6 => (hR M6 2251 l0).bind fun a8 => if hT M6 a8 = 16 then if ib (hI M6 2256 l0) (hN M6 a8) = true then vb (hA M6 a8 (hI M6 2256 l0).toNatClampNeg) fun v11 => (hR M6 2254 l0).bind fun a12 => if hT M6 a12 = 16 then if ib (hI M6 2256 l0) (hN M6 a12) = true then vb (hA M6 a12 (hI M6 2256 l0).toNatClampNeg) fun v15 => (hR M6 2252 l0).bind fun a16 => if hT M6 a16 = 16 then if ib (hI M6 2256 l0) (hN M6 a16) = true then hb (sI M6 2258 l0 (hA M6 a16 (hI M6 2256 l0).toNatClampNeg)) fun M20 => w_Mo_close_69 G FU l0 v11 v15 (0 : Int32) M20 else none else none else none else none else none else none) else (b_Mo_close_19 G l0 M3)) else none
set_option maxRecDepth 100000 in
set_option maxHeartbeats 4000000 in
theorem s_Mo_close {G : GT} (l0 : Nat) (M : PH) : VX G mi_Mo_close 2 33 0 [some (.ref l0), none, none, none] [] M qI (f_Mo_close G l0 M) := by
  unfold f_Mo_close
  refine V_open ok_Mo_close_0 ?_
  refine B_aload_n rfl ?_
  refine B_iconst (0 : Int32) ic_0 ?_
  refine B_chk (fun t1 => ?_)
  refine K_putI 11 0 2200 lf_Mo_175 rfl (Or.inl rfl) rfl t1 (fun M3 e2 => ?_)
  refine B_aload_n rfl ?_
  have h4 : hT M3 l0 = 11 := by rw [e2]; exact t1
  refine K_getI 11 18 2218 lf_Mo_236 rfl rfl h4 ?_
  refine B_eq (tgt := 19) (by decide) ?_ ?_
  · skip
    exact V_weak (ls' := [some (.ref l0), none, none, none]) ⟨rfl, trivial⟩ (t_Mo_close_19 l0 M3)
  · skip
    refine B_aload_n rfl ?_
    refine K_getI 11 56 2256 lf_Mo_279 rfl rfl h4 ?_
    refine B_ne (tgt := 24) (by decide) ?_ ?_
    · skip
      refine V_open ok_Mo_close_24 ?_
      refine B_aload_n rfl ?_
      refine B_dup rfl ?_
      refine K_getI 11 56 2256 lf_Mo_279 rfl rfl h4 ?_
      refine B_iconst (1 : Int32) ic_1 ?_
      refine B_isub ?_
      refine K_putI 11 56 2256 lf_Mo_279 rfl (Or.inl rfl) rfl h4 (fun M6 e5 => ?_)
      refine B_aload_n rfl ?_
      have h7 : hT M6 l0 = 11 := by rw [e5]; exact h4
      refine K_getR 11 51 2251 lf_Mo_93 rfl rfl h7 (fun a8 r9 => ?_)
      refine B_aload_n rfl ?_
      refine K_getI 11 56 2256 lf_Mo_279 rfl rfl h7 ?_
      refine B_chk (fun t10 => ?_)
      refine K_iald t10 ?_
      refine B_vb (fun v11 => ?_)
      refine S_in [some (.ref l0), some (.int v11), none, none] (by decide) rfl ?_
      refine B_aload_n rfl ?_
      refine K_getR 11 54 2254 lf_Mo_102 rfl rfl h7 (fun a12 r13 => ?_)
      refine B_aload_n rfl ?_
      refine K_getI 11 56 2256 lf_Mo_279 rfl rfl h7 ?_
      refine B_chk (fun t14 => ?_)
      refine K_iald t14 ?_
      refine B_vb (fun v15 => ?_)
      refine S_in [some (.ref l0), some (.int v11), some (.int v15), none] (by decide) rfl ?_
      refine B_aload_n rfl ?_
      refine B_aload_n rfl ?_
      refine K_getR 11 52 2252 lf_Mo_96 rfl rfl h7 (fun a16 r17 => ?_)
      refine B_aload_n rfl ?_
      refine K_getI 11 56 2256 lf_Mo_279 rfl rfl h7 ?_
      refine B_chk (fun t18 => ?_)
      refine K_iald t18 ?_
      refine K_putI 11 58 2258 lf_Mo_282 rfl (Or.inl rfl) rfl h7 (fun M20 e19 => ?_)
      refine B_iconst (0 : Int32) ic_0 ?_
      refine S_in [some (.ref l0), some (.int v11), some (.int v15), some (.int (0 : Int32))] (by decide) rfl ?_
      refine V_close ?_
      exact V_weak (ls' := [some (.ref l0), some (.int v11), some (.int v15), some (.int (0 : Int32))]) ⟨rfl, ⟨rfl, ⟨rfl, ⟨rfl, trivial⟩⟩⟩⟩ (tw_Mo_close_69 FU l0 v11 v15 (0 : Int32) M20)
    · skip
      refine V_close ?_
      exact V_weak (ls' := [some (.ref l0), none, none, none]) ⟨rfl, trivial⟩ (t_Mo_close_19 l0 M3)

-- PF_wantItem
theorem ok_PF_wantItem_0 : okb prog_1_method_30_code 0 [(.iload_n 1, 1), (.invokestatic 319, 3), (.ifCond .eq 19, 3), (.iload_n 2, 1), (.iload_n 3, 1), (.if_icmp .lt 14, 3), (.iload_n 2, 1), (.sipush 200, 3), (.if_icmp .gt 7, 3), (.iconst 1, 1), (.goto 4, 3)] = true := by decide +kernel
theorem ok_PF_wantItem_23 : okb prog_1_method_30_code 23 [(.iconst 0, 1)] = true := by decide +kernel
theorem ok_PF_wantItem_24 : okb prog_1_method_30_code 24 [(.invokestatic 260, 3), (.aload_n 0, 1), (.aload_n 0, 1), (.getfield 104, 3), (.ifCond .eq 14, 3), (.aload_n 0, 1), (.getfield 114, 3), (.ifCond .le 7, 3), (.iconst 1, 1), (.goto 4, 3)] = true := by decide +kernel
theorem ok_PF_wantItem_46 : okb prog_1_method_30_code 46 [(.iconst 0, 1)] = true := by decide +kernel
theorem ok_PF_wantItem_47 : okb prog_1_method_30_code 47 [(.invokevirtual 130, 3), (.return_, 1)] = true := by decide +kernel
set_option maxRecDepth 100000 in
def b_PF_wantItem_47 (G : GT) (s0 : Nat) (s1 : Int32) (M : PH) : Option (Nat × PH) :=
  if hT M s0 = 10 then bU (f_PF_may G s0 s1 M) fun M2 => (some (0, M2)) else none
set_option maxRecDepth 100000 in
set_option maxHeartbeats 4000000 in
theorem t_PF_wantItem_47 {G : GT} (s0 : Nat) (s1 : Int32) (M : PH) : VX G mi_PF_wantItem 7 94 47 [none, none, none, none] [.int s1, .ref s0] M qU (b_PF_wantItem_47 G s0 s1 M) := by
  unfold b_PF_wantItem_47
  refine V_open ok_PF_wantItem_47 ?_
  refine B_chk (fun t1 => ?_)
  refine C_U (vs := [.ref s0, .int s1]) (st := []) rfl (ci_V lv_PF_130 rfl rfl t1) rfl rfl rfl (s_PF_may s0 s1 M) (fun M2 => ?_)
  exact B_uret rfl
set_option maxRecDepth 100000 in
def b_PF_wantItem_46 (G : GT) (s0 : Nat) (M : PH) : Option (Nat × PH) :=
  b_PF_wantItem_47 G s0 (0 : Int32) M
set_option maxRecDepth 100000 in
set_option maxHeartbeats 4000000 in
theorem t_PF_wantItem_46 {G : GT} (s0 : Nat) (M : PH) : VX G mi_PF_wantItem 7 94 46 [none, none, none, none] [.ref s0] M qU (b_PF_wantItem_46 G s0 M) := by
  unfold b_PF_wantItem_46
  refine V_open ok_PF_wantItem_46 ?_
  refine B_iconst (0 : Int32) ic_0 ?_
  refine V_close ?_
  exact V_weak (ls' := [none, none, none, none]) trivial (t_PF_wantItem_47 s0 (0 : Int32) M)
set_option maxRecDepth 100000 in
def b_PF_wantItem_24 (G : GT) (l0 : Nat) (s0 : Int32) (M : PH) : Option (Nat × PH) :=
  bU (f_PF_want G s0 M) fun M1 => (if hT M1 l0 = 10 then if hI M1 2007 l0 = 0 then (b_PF_wantItem_46 G l0 M1) else (if hI M1 2006 l0 ≤ 0 then (b_PF_wantItem_46 G l0 M1) else (b_PF_wantItem_47 G l0 (1 : Int32) M1)) else none)
set_option maxRecDepth 100000 in
set_option maxHeartbeats 4000000 in
theorem t_PF_wantItem_24 {G : GT} (l0 : Nat) (s0 : Int32) (M : PH) : VX G mi_PF_wantItem 7 94 24 [some (.ref l0), none, none, none] [.int s0] M qU (b_PF_wantItem_24 G l0 s0 M) := by
  unfold b_PF_wantItem_24
  refine V_open ok_PF_wantItem_24 ?_
  refine C_U (vs := [.int s0]) (st := []) rfl (ci_S ls_PF_260 rfl) rfl rfl rfl (s_PF_want s0 M) (fun M1 => ?_)
  refine B_aload_n rfl ?_
  refine B_aload_n rfl ?_
  refine B_chk (fun t2 => ?_)
  refine K_getI 10 7 2007 lf_PF_104 rfl rfl t2 ?_
  refine B_eq (tgt := 46) (by decide) ?_ ?_
  · skip
    exact V_weak (ls' := [none, none, none, none]) trivial (t_PF_wantItem_46 l0 M1)
  · skip
    refine B_aload_n rfl ?_
    refine K_getI 10 6 2006 lf_PF_114 rfl rfl t2 ?_
    refine B_le (tgt := 46) (by decide) ?_ ?_
    · skip
      exact V_weak (ls' := [none, none, none, none]) trivial (t_PF_wantItem_46 l0 M1)
    · skip
      refine B_iconst (1 : Int32) ic_1 ?_
      refine B_goto (tgt := 47) (by decide) ?_
      exact V_weak (ls' := [none, none, none, none]) trivial (t_PF_wantItem_47 l0 (1 : Int32) M1)
set_option maxRecDepth 100000 in
def b_PF_wantItem_23 (G : GT) (l0 : Nat) (M : PH) : Option (Nat × PH) :=
  b_PF_wantItem_24 G l0 (0 : Int32) M
set_option maxRecDepth 100000 in
set_option maxHeartbeats 4000000 in
theorem t_PF_wantItem_23 {G : GT} (l0 : Nat) (M : PH) : VX G mi_PF_wantItem 7 94 23 [some (.ref l0), none, none, none] [] M qU (b_PF_wantItem_23 G l0 M) := by
  unfold b_PF_wantItem_23
  refine V_open ok_PF_wantItem_23 ?_
  refine B_iconst (0 : Int32) ic_0 ?_
  refine V_close ?_
  exact V_weak (ls' := [some (.ref l0), none, none, none]) ⟨rfl, trivial⟩ (t_PF_wantItem_24 l0 (0 : Int32) M)
set_option maxRecDepth 100000 in
def f_PF_wantItem (G : GT) (l0 : Nat) (l1 : Int32) (l2 : Int32) (l3 : Int32) (M : PH) : Option (Nat × PH) :=
  bI (f_PF_isLabel G l1 M) fun v2 M1 => (if v2 = 0 then (b_PF_wantItem_23 G l0 M1) else (if l2 < l3 then (b_PF_wantItem_23 G l0 M1) else (if (200 : Int32) < l2 then (b_PF_wantItem_23 G l0 M1) else (b_PF_wantItem_24 G l0 (1 : Int32) M1))))
set_option maxRecDepth 100000 in
set_option maxHeartbeats 4000000 in
theorem s_PF_wantItem {G : GT} (l0 : Nat) (l1 : Int32) (l2 : Int32) (l3 : Int32) (M : PH) : VX G mi_PF_wantItem 7 94 0 [some (.ref l0), some (.int l1), some (.int l2), some (.int l3)] [] M qU (f_PF_wantItem G l0 l1 l2 l3 M) := by
  unfold f_PF_wantItem
  refine V_open ok_PF_wantItem_0 ?_
  refine B_iload_n rfl ?_
  refine C_I (vs := [.int l1]) (st := []) (ci_S ls_PF_319 rfl) rfl rfl rfl (s_PF_isLabel l1 M) (fun v2 M1 => ?_)
  refine B_eq (tgt := 23) (by decide) ?_ ?_
  · skip
    exact V_weak (ls' := [some (.ref l0), none, none, none]) ⟨rfl, trivial⟩ (t_PF_wantItem_23 l0 M1)
  · skip
    refine B_iload_n rfl ?_
    refine B_iload_n rfl ?_
    refine B_ilt (tgt := 23) (by decide) ?_ ?_
    · skip
      exact V_weak (ls' := [some (.ref l0), none, none, none]) ⟨rfl, trivial⟩ (t_PF_wantItem_23 l0 M1)
    · skip
      refine B_iload_n rfl ?_
      refine B_sipush (200 : Int32) sp_200 ?_
      refine B_igt (tgt := 23) (by decide) ?_ ?_
      · skip
        exact V_weak (ls' := [some (.ref l0), none, none, none]) ⟨rfl, trivial⟩ (t_PF_wantItem_23 l0 M1)
      · skip
        refine B_iconst (1 : Int32) ic_1 ?_
        refine B_goto (tgt := 24) (by decide) ?_
        exact V_weak (ls' := [some (.ref l0), none, none, none]) ⟨rfl, trivial⟩ (t_PF_wantItem_24 l0 (1 : Int32) M1)

-- PF_under
theorem ok_PF_under_0 : okb prog_1_method_15_code 0 [(.bipush 31, 2), (.iload_n 0, 1), (.imul, 1), (.iconst 1, 1), (.iadd, 1), (.iload_n 1, 1), (.iadd, 1), (.istore_n 2, 1), (.iload_n 2, 1), (.ifCond .ne 7, 3), (.iconst 1, 1), (.goto 4, 3)] = true := by decide +kernel
theorem ok_PF_under_17 : okb prog_1_method_15_code 17 [(.iload_n 2, 1), (.ireturn, 1)] = true := by decide +kernel
theorem ok_PF_under_18 : okb prog_1_method_15_code 18 [(.ireturn, 1)] = true := by decide +kernel
set_option maxRecDepth 100000 in
def f_PF_under (G : GT) (l0 : Int32) (l1 : Int32) (M : PH) : Option (Int32 × PH) :=
  vb ((((31 : Int32) * l0) + (1 : Int32)) + l1) fun v1 => if ¬ v1 = 0 then (some (v1, M)) else (some ((1 : Int32), M))
set_option maxRecDepth 100000 in
set_option maxHeartbeats 4000000 in
theorem s_PF_under {G : GT} (l0 : Int32) (l1 : Int32) (M : PH) : VX G mi_PF_under 0 0 0 [some (.int l0), some (.int l1), none] [] M qI (f_PF_under G l0 l1 M) := by
  unfold f_PF_under
  refine V_open ok_PF_under_0 ?_
  refine B_bipush (31 : Int32) bp_31 ?_
  refine B_iload_n rfl ?_
  refine B_imul ?_
  refine B_iconst (1 : Int32) ic_1 ?_
  refine B_iadd ?_
  refine B_iload_n rfl ?_
  refine B_iadd ?_
  refine B_vb (fun v1 => ?_)
  refine S_in [some (.int l0), some (.int l1), some (.int v1)] (by decide) rfl ?_
  refine B_iload_n rfl ?_
  refine B_ne (tgt := 17) (by decide) ?_ ?_
  · skip
    refine V_open ok_PF_under_17 ?_
    refine B_iload_n rfl ?_
    exact B_iret rfl
  · skip
    refine B_iconst (1 : Int32) ic_1 ?_
    refine B_goto (tgt := 18) (by decide) ?_
    refine V_open ok_PF_under_18 ?_
    exact B_iret rfl

-- PF_idOf
theorem ok_PF_idOf_0 : okb prog_1_method_17_code 0 [(.aload_n 0, 1), (.getfield 42, 3), (.aload_n 0, 1), (.getfield 114, 3), (.iconst 1, 1), (.isub, 1), (.aaload, 1), (.getfield 225, 3), (.iload_n 1, 1), (.invokestatic 228, 3), (.ireturn, 1)] = true := by decide +kernel
set_option maxRecDepth 100000 in
def f_PF_idOf (G : GT) (l0 : Nat) (l1 : Int32) (M : PH) : Option (Int32 × PH) :=
  if hT M l0 = 10 then (hR M 2005 l0).bind fun a2 => if hT M a2 = 21 then if ib ((hI M 2006 l0) - (1 : Int32)) (hN M a2) = true then (hX M a2 ((hI M 2006 l0) - (1 : Int32)).toNatClampNeg).bind fun a5 => (if hT M a5 = 8 then bI (f_PF_under G (hI M 1601 a5) l1 M) fun v8 M7 => (some (v8, M7)) else none) else none else none else none
set_option maxRecDepth 100000 in
set_option maxHeartbeats 4000000 in
theorem s_PF_idOf {G : GT} (l0 : Nat) (l1 : Int32) (M : PH) : VX G mi_PF_idOf 1 14 0 [some (.ref l0), some (.int l1)] [] M qI (f_PF_idOf G l0 l1 M) := by
  unfold f_PF_idOf
  refine V_open ok_PF_idOf_0 ?_
  refine B_aload_n rfl ?_
  refine B_chk (fun t1 => ?_)
  refine K_getR 10 5 2005 lf_PF_42 rfl rfl t1 (fun a2 r3 => ?_)
  refine B_aload_n rfl ?_
  refine K_getI 10 6 2006 lf_PF_114 rfl rfl t1 ?_
  refine B_iconst (1 : Int32) ic_1 ?_
  refine B_isub ?_
  refine B_chk (fun t4 => ?_)
  refine K_aald 21 rfl t4 (fun a5 => ?_)
  refine B_chk (fun t6 => ?_)
  refine K_getI 8 1 1601 lf_PF_225 rfl rfl t6 ?_
  refine B_iload_n rfl ?_
  refine C_I (vs := [.int (hI M 1601 a5), .int l1]) (st := []) (ci_S ls_PF_228 rfl) rfl rfl rfl (s_PF_under (hI M 1601 a5) l1 M) (fun v8 M7 => ?_)
  exact B_iret rfl

-- Att_tellItem
theorem ok_Att_tellItem_0 : okb prog_2_method_7_code 0 [(.aload_n 0, 1), (.iload_n 1, 1), (.invokevirtual 41, 3), (.aload_n 0, 1), (.getfield 20, 3), (.ifCond .ne 8, 3), (.aload_n 0, 1), (.iload_n 1, 1), (.putfield 20, 3)] = true := by decide +kernel
theorem ok_Att_tellItem_17 : okb prog_2_method_7_code 17 [(.aload_n 0, 1), (.getfield 23, 3), (.ifCond .ne 4, 3), (.return_, 1)] = true := by decide +kernel
theorem ok_Att_tellItem_25 : okb prog_2_method_7_code 25 [(.iload_n 1, 1), (.aload_n 0, 1), (.getfield 36, 3), (.if_icmp .ne 11, 3), (.aload_n 0, 1), (.iconst 1, 1), (.putfield 27, 3), (.goto 20, 3)] = true := by decide +kernel
theorem ok_Att_tellItem_41 : okb prog_2_method_7_code 41 [(.aload_n 0, 1), (.getfield 27, 3), (.ifCond .eq 13, 3), (.aload_n 0, 1), (.iload_n 1, 1), (.invokevirtual 16, 3), (.aload_n 0, 1), (.iconst 0, 1), (.putfield 23, 3), (.return_, 1)] = true := by decide +kernel
theorem ok_Att_tellItem_58 : okb prog_2_method_7_code 58 [(.return_, 1)] = true := by decide +kernel
set_option maxRecDepth 100000 in
def b_Att_tellItem_17 (G : GT) (l0 : Nat) (l1 : Int32) (M : PH) : Option (PH) :=
  if hT M l0 = 9 then if ¬ hI M 1805 l0 = 0 then (if ¬ l1 = hI M 1802 l0 then (if hI M 1806 l0 = 0 then (some M) else (bV (f_Att_focus G l0 l1 M) fun M2 => (if hT M2 l0 = 9 then hb (sI M2 1805 l0 (0 : Int32)) fun M5 => some M5 else none))) else (hb (sI M 1806 l0 (1 : Int32)) fun M7 => some M7)) else (some M) else none
set_option maxRecDepth 100000 in
set_option maxHeartbeats 4000000 in
theorem t_Att_tellItem_17 {G : GT} (l0 : Nat) (l1 : Int32) (M : PH) : VX G mi_Att_tellItem 1 13 17 [some (.ref l0), some (.int l1)] [] M qV (b_Att_tellItem_17 G l0 l1 M) := by
  unfold b_Att_tellItem_17
  refine V_open ok_Att_tellItem_17 ?_
  refine B_aload_n rfl ?_
  refine B_chk (fun t1 => ?_)
  refine K_getI 9 5 1805 lf_Att_23 rfl rfl t1 ?_
  refine B_ne (tgt := 25) (by decide) ?_ ?_
  · skip
    refine V_open ok_Att_tellItem_25 ?_
    refine B_iload_n rfl ?_
    refine B_aload_n rfl ?_
    refine K_getI 9 2 1802 lf_Att_36 rfl rfl t1 ?_
    refine B_ine (tgt := 41) (by decide) ?_ ?_
    · skip
      refine V_open ok_Att_tellItem_41 ?_
      refine B_aload_n rfl ?_
      refine K_getI 9 6 1806 lf_Att_27 rfl rfl t1 ?_
      refine B_eq (tgt := 58) (by decide) ?_ ?_
      · skip
        refine V_open ok_Att_tellItem_58 ?_
        exact B_vret rfl
      · skip
        refine B_aload_n rfl ?_
        refine B_iload_n rfl ?_
        refine C_V (vs := [.ref l0, .int l1]) (st := []) (ci_V lv_Att_16 rfl rfl t1) rfl rfl rfl (s_Att_focus l0 l1 M) (fun M2 => ?_)
        refine B_aload_n rfl ?_
        refine B_iconst (0 : Int32) ic_0 ?_
        refine B_chk (fun t3 => ?_)
        refine K_putZ 9 5 1805 lf_Att_23 rfl (Or.inl rfl) rfl t3 (Or.inl rfl) (fun M5 e4 => ?_)
        exact B_vret rfl
    · skip
      refine B_aload_n rfl ?_
      refine B_iconst (1 : Int32) ic_1 ?_
      refine K_putZ 9 6 1806 lf_Att_27 rfl (Or.inl rfl) rfl t1 (Or.inr rfl) (fun M7 e6 => ?_)
      refine B_goto (tgt := 58) (by decide) ?_
      refine V_open ok_Att_tellItem_58 ?_
      exact B_vret rfl
  · skip
    exact B_vret rfl
set_option maxRecDepth 100000 in
def f_Att_tellItem (G : GT) (l0 : Nat) (l1 : Int32) (M : PH) : Option (PH) :=
  if hT M l0 = 9 then bV (f_Att_tell G l0 l1 M) fun M2 => (if hT M2 l0 = 9 then if ¬ hI M2 1804 l0 = 0 then (b_Att_tellItem_17 G l0 l1 M2) else (hb (sI M2 1804 l0 l1) fun M5 => b_Att_tellItem_17 G l0 l1 M5) else none) else none
set_option maxRecDepth 100000 in
set_option maxHeartbeats 4000000 in
theorem s_Att_tellItem {G : GT} (l0 : Nat) (l1 : Int32) (M : PH) : VX G mi_Att_tellItem 1 13 0 [some (.ref l0), some (.int l1)] [] M qV (f_Att_tellItem G l0 l1 M) := by
  unfold f_Att_tellItem
  refine V_open ok_Att_tellItem_0 ?_
  refine B_aload_n rfl ?_
  refine B_iload_n rfl ?_
  refine B_chk (fun t1 => ?_)
  refine C_V (vs := [.ref l0, .int l1]) (st := []) (ci_V lv_Att_41 rfl rfl t1) rfl rfl rfl (s_Att_tell l0 l1 M) (fun M2 => ?_)
  refine B_aload_n rfl ?_
  refine B_chk (fun t3 => ?_)
  refine K_getI 9 4 1804 lf_Att_20 rfl rfl t3 ?_
  refine B_ne (tgt := 17) (by decide) ?_ ?_
  · skip
    exact V_weak (ls' := [some (.ref l0), some (.int l1)]) ⟨rfl, ⟨rfl, trivial⟩⟩ (t_Att_tellItem_17 l0 l1 M2)
  · skip
    refine B_aload_n rfl ?_
    refine B_iload_n rfl ?_
    refine K_putI 9 4 1804 lf_Att_20 rfl (Or.inl rfl) rfl t3 (fun M5 e4 => ?_)
    refine V_close ?_
    exact V_weak (ls' := [some (.ref l0), some (.int l1)]) ⟨rfl, ⟨rfl, trivial⟩⟩ (t_Att_tellItem_17 l0 l1 M5)

-- PF_panel
theorem ok_PF_panel_0 : okb prog_1_method_20_code 0 [(.aload_n 0, 1), (.getfield 32, 3), (.aload_n 0, 1), (.getfield 42, 3), (.iconst 0, 1), (.aaload, 1), (.getfield 239, 3), (.aaload, 1), (.areturn, 1)] = true := by decide +kernel
set_option maxRecDepth 100000 in
def f_PF_panel (G : GT) (l0 : Nat) (M : PH) : Option (Nat × PH) :=
  if hT M l0 = 10 then (hR M 2003 l0).bind fun a2 => (hR M 2005 l0).bind fun a4 => if hT M a4 = 21 then if 0 < hN M a4 then (hX M a4 0).bind fun a7 => (if hT M a7 = 8 then if hT M a2 = 20 then if ib (hI M 1602 a7) (hN M a2) = true then (hX M a2 (hI M 1602 a7).toNatClampNeg).bind fun a10 => (some (a10, M)) else none else none else none) else none else none else none
set_option maxRecDepth 100000 in
set_option maxHeartbeats 4000000 in
theorem s_PF_panel {G : GT} (l0 : Nat) (M : PH) : VX G mi_PF_panel 0 0 0 [some (.ref l0)] [] M qR (f_PF_panel G l0 M) := by
  unfold f_PF_panel
  refine V_open ok_PF_panel_0 ?_
  refine B_aload_n rfl ?_
  refine B_chk (fun t1 => ?_)
  refine K_getR 10 3 2003 lf_PF_32 rfl rfl t1 (fun a2 r3 => ?_)
  refine B_aload_n rfl ?_
  refine K_getR 10 5 2005 lf_PF_42 rfl rfl t1 (fun a4 r5 => ?_)
  refine B_iconst (0 : Int32) ic_0 ?_
  refine B_chk (fun t6 => ?_)
  refine K_aaldc 21 0 rfl rfl t6 (fun a7 => ?_)
  refine B_chk (fun t8 => ?_)
  refine K_getI 8 2 1602 lf_PF_239 rfl rfl t8 ?_
  refine B_chk (fun t9 => ?_)
  refine K_aald 20 rfl t9 (fun a10 => ?_)
  exact B_aret rfl (Or.inl ⟨_, rfl⟩)
