-- Att_focus
theorem ok_Att_focus_0 : okb prog_2_method_4_code 0 [(.iload_n 1, 1), (.aload_n 0, 1), (.getfield 36, 3), (.if_icmp .eq 8, 3), (.aload_n 0, 1), (.iconst 0, 1), (.putfield 38, 3)] = true := by decide +kernel
theorem ok_Att_focus_13 : okb prog_2_method_4_code 13 [(.aload_n 0, 1), (.iload_n 1, 1), (.putfield 36, 3), (.aload_n 0, 1), (.iconst 1, 1), (.putfield 33, 3), (.return_, 1)] = true := by decide +kernel
set_option maxRecDepth 100000 in
def b_Att_focus_13 (G : GT) (l0 : Nat) (l1 : Int32) (M : PH) : Option (PH) :=
  if hT M l0 = 9 then hb (sI M 1802 l0 l1) fun M3 => hb (sI M3 1808 l0 (1 : Int32)) fun M6 => some M6 else none
set_option maxRecDepth 100000 in
set_option maxHeartbeats 4000000 in
theorem t_Att_focus_13 {G : GT} (l0 : Nat) (l1 : Int32) (M : PH) : VX G mi_Att_focus 0 0 13 [some (.ref l0), some (.int l1)] [] M qV (b_Att_focus_13 G l0 l1 M) := by
  unfold b_Att_focus_13
  refine V_open ok_Att_focus_13 ?_
  refine B_aload_n rfl ?_
  refine B_iload_n rfl ?_
  refine B_chk (fun t1 => ?_)
  refine K_putI 9 2 1802 lf_Att_36 rfl (Or.inl rfl) rfl t1 (fun M3 e2 => ?_)
  refine B_aload_n rfl ?_
  refine B_iconst (1 : Int32) ic_1 ?_
  have h4 : hT M3 l0 = 9 := by rw [e2]; exact t1
  refine K_putZ 9 8 1808 lf_Att_33 rfl (Or.inl rfl) rfl h4 (Or.inr rfl) (fun M6 e5 => ?_)
  exact B_vret rfl
set_option maxRecDepth 100000 in
def f_Att_focus (G : GT) (l0 : Nat) (l1 : Int32) (M : PH) : Option (PH) :=
  if hT M l0 = 9 then if l1 = hI M 1802 l0 then (b_Att_focus_13 G l0 l1 M) else (hb (sI M 1803 l0 (0 : Int32)) fun M3 => b_Att_focus_13 G l0 l1 M3) else none
set_option maxRecDepth 100000 in
set_option maxHeartbeats 4000000 in
theorem s_Att_focus {G : GT} (l0 : Nat) (l1 : Int32) (M : PH) : VX G mi_Att_focus 0 0 0 [some (.ref l0), some (.int l1)] [] M qV (f_Att_focus G l0 l1 M) := by
  unfold f_Att_focus
  refine V_open ok_Att_focus_0 ?_
  refine B_iload_n rfl ?_
  refine B_aload_n rfl ?_
  refine B_chk (fun t1 => ?_)
  refine K_getI 9 2 1802 lf_Att_36 rfl rfl t1 ?_
  refine B_ieq (tgt := 13) (by decide) ?_ ?_
  · skip
    exact V_weak (ls' := [some (.ref l0), some (.int l1)]) ⟨rfl, ⟨rfl, trivial⟩⟩ (t_Att_focus_13 l0 l1 M)
  · skip
    refine B_aload_n rfl ?_
    refine B_iconst (0 : Int32) ic_0 ?_
    refine K_putI 9 3 1803 lf_Att_38 rfl (Or.inl rfl) rfl t1 (fun M3 e2 => ?_)
    refine V_close ?_
    exact V_weak (ls' := [some (.ref l0), some (.int l1)]) ⟨rfl, ⟨rfl, trivial⟩⟩ (t_Att_focus_13 l0 l1 M3)

-- Att_none
theorem ok_Att_none_0 : okb prog_2_method_2_code 0 [(.aload_n 0, 1), (.iconst 0, 1), (.putfield 7, 3), (.aload_n 0, 1), (.iconst 0, 1), (.putfield 13, 3), (.aload_n 0, 1), (.iconst 0, 1), (.invokevirtual 16, 3), (.return_, 1)] = true := by decide +kernel
set_option maxRecDepth 100000 in
def f_Att_none (G : GT) (l0 : Nat) (M : PH) : Option (PH) :=
  if hT M l0 = 9 then hb (sI M 1800 l0 (0 : Int32)) fun M3 => hb (sI M3 1801 l0 (0 : Int32)) fun M6 => bV (f_Att_focus G l0 (0 : Int32) M6) fun M8 => (some M8) else none
set_option maxRecDepth 100000 in
set_option maxHeartbeats 4000000 in
theorem s_Att_none {G : GT} (l0 : Nat) (M : PH) : VX G mi_Att_none 1 13 0 [some (.ref l0)] [] M qV (f_Att_none G l0 M) := by
  unfold f_Att_none
  refine V_open ok_Att_none_0 ?_
  refine B_aload_n rfl ?_
  refine B_iconst (0 : Int32) ic_0 ?_
  refine B_chk (fun t1 => ?_)
  refine K_putI 9 0 1800 lf_Att_7 rfl (Or.inl rfl) rfl t1 (fun M3 e2 => ?_)
  refine B_aload_n rfl ?_
  refine B_iconst (0 : Int32) ic_0 ?_
  have h4 : hT M3 l0 = 9 := by rw [e2]; exact t1
  refine K_putI 9 1 1801 lf_Att_13 rfl (Or.inl rfl) rfl h4 (fun M6 e5 => ?_)
  refine B_aload_n rfl ?_
  refine B_iconst (0 : Int32) ic_0 ?_
  have h7 : hT M6 l0 = 9 := by rw [e5]; exact h4
  refine C_V (vs := [.ref l0, .int (0 : Int32)]) (st := []) (ci_V lv_Att_16 rfl rfl h7) rfl rfl rfl (s_Att_focus l0 (0 : Int32) M6) (fun M8 => ?_)
  exact B_vret rfl

-- PF_breakFrame
theorem ok_PF_breakFrame_0 : okb prog_1_method_4_code 0 [(.aload_n 0, 1), (.iconst 0, 1), (.putfield 104, 3), (.aload_n 0, 1), (.iconst 0, 1), (.putfield 114, 3), (.aload_n 0, 1), (.getfield 26, 3), (.invokevirtual 117, 3), (.aload_n 0, 1), (.iconst (-1), 1), (.putfield 50, 3), (.aload_n 0, 1), (.iconst (-1), 1), (.putfield 46, 3), (.aload_n 0, 1), (.iconst 0, 1), (.putfield 120, 3), (.iconst 0, 1), (.istore_n 1, 1)] = true := by decide +kernel
theorem ok_PF_breakFrame_34 : okb prog_1_method_4_code 34 [(.iload_n 1, 1), (.bipush 8, 2), (.if_icmp .gt 19, 3), (.aload_n 0, 1), (.getfield 32, 3), (.iload_n 1, 1), (.aaload, 1), (.iconst 0, 1), (.putfield 123, 3), (.iinc 1 1, 3), (.goto (-19), 3)] = true := by decide +kernel
theorem ok_PF_breakFrame_56 : okb prog_1_method_4_code 56 [(.return_, 1)] = true := by decide +kernel
set_option maxRecDepth 100000 in
def b_PF_breakFrame_34 (G : GT) (k34 : Nat → Int32 → PH → Option (PH)) (l0 : Nat) (l1 : Int32) (M : PH) : Option (PH) :=
  if (8 : Int32) < l1 then (some M) else (if hT M l0 = 10 then (hR M 2003 l0).bind fun a2 => if hT M a2 = 20 then if ib l1 (hN M a2) = true then (hX M a2 l1.toNatClampNeg).bind fun a5 => (if hT M a5 = 7 then hb (sI M 1409 a5 (0 : Int32)) fun M8 => k34 l0 (l1 + (1 : Int32)) M8 else none) else none else none else none)
set_option maxRecDepth 100000 in
set_option maxHeartbeats 4000000 in
theorem t_PF_breakFrame_34 {G : GT} {k34 : Nat → Int32 → PH → Option (PH)} (hk34 : ∀ (l0 : Nat) (l1 : Int32) (M : PH), VX G mi_PF_breakFrame 2 25 34 [some (.ref l0), some (.int l1)] [] M qV (k34 l0 l1 M)) (l0 : Nat) (l1 : Int32) (M : PH) : VX G mi_PF_breakFrame 2 25 34 [some (.ref l0), some (.int l1)] [] M qV (b_PF_breakFrame_34 G k34 l0 l1 M) := by
  unfold b_PF_breakFrame_34
  refine V_open ok_PF_breakFrame_34 ?_
  refine B_iload_n rfl ?_
  refine B_bipush (8 : Int32) bp_8 ?_
  refine B_igt (tgt := 56) (by decide) ?_ ?_
  · skip
    refine V_open ok_PF_breakFrame_56 ?_
    exact B_vret rfl
  · skip
    refine B_aload_n rfl ?_
    refine B_chk (fun t1 => ?_)
    refine K_getR 10 3 2003 lf_PF_32 rfl rfl t1 (fun a2 r3 => ?_)
    refine B_iload_n rfl ?_
    refine B_chk (fun t4 => ?_)
    refine K_aald 20 rfl t4 (fun a5 => ?_)
    refine B_iconst (0 : Int32) ic_0 ?_
    refine B_chk (fun t6 => ?_)
    refine K_putZ 7 9 1409 lf_PF_123 rfl (Or.inl rfl) rfl t6 (Or.inl rfl) (fun M8 e7 => ?_)
    refine S_inc (1 : Int32) [some (.ref l0), some (.int (l1 + (1 : Int32)))] ic_1 rfl (by decide) rfl ?_
    refine B_goto (tgt := 34) (by decide) ?_
    exact V_weak (ls' := [some (.ref l0), some (.int (l1 + (1 : Int32)))]) ⟨rfl, ⟨rfl, trivial⟩⟩ (hk34 l0 (l1 + (1 : Int32)) M8)
set_option maxRecDepth 100000 in
def w_PF_breakFrame_34 (G : GT) : Nat → Nat → Int32 → PH → Option (PH)
  | 0 => fun _ _ _ => none
  | n + 1 => b_PF_breakFrame_34 G (w_PF_breakFrame_34 G n)
set_option maxRecDepth 100000 in
set_option maxHeartbeats 4000000 in
theorem tw_PF_breakFrame_34 {G : GT} : ∀ (n : Nat) (l0 : Nat) (l1 : Int32) (M : PH), VX G mi_PF_breakFrame 2 25 34 [some (.ref l0), some (.int l1)] [] M qV (w_PF_breakFrame_34 G n l0 l1 M)
  | 0, _, _, _ => X_none
  | n + 1, l0, l1, M => t_PF_breakFrame_34 (tw_PF_breakFrame_34 n) l0 l1 M
set_option maxRecDepth 100000 in
def f_PF_breakFrame (G : GT) (l0 : Nat) (M : PH) : Option (PH) :=
  if hT M l0 = 10 then hb (sI M 2007 l0 (0 : Int32)) fun M3 => hb (sI M3 2006 l0 (0 : Int32)) fun M6 => (hR M6 2002 l0).bind fun a8 => if hT M6 a8 = 9 then bV (f_Att_none G a8 M6) fun M11 => (if hT M11 l0 = 10 then hb (sI M11 2013 l0 (-1 : Int32)) fun M14 => hb (sI M14 2008 l0 (-1 : Int32)) fun M17 => hb (sI M17 2018 l0 (0 : Int32)) fun M20 => w_PF_breakFrame_34 G FU l0 (0 : Int32) M20 else none) else none else none
set_option maxRecDepth 100000 in
set_option maxHeartbeats 4000000 in
theorem s_PF_breakFrame {G : GT} (l0 : Nat) (M : PH) : VX G mi_PF_breakFrame 2 25 0 [some (.ref l0), none] [] M qV (f_PF_breakFrame G l0 M) := by
  unfold f_PF_breakFrame
  refine V_open ok_PF_breakFrame_0 ?_
  refine B_aload_n rfl ?_
  refine B_iconst (0 : Int32) ic_0 ?_
  refine B_chk (fun t1 => ?_)
  refine K_putZ 10 7 2007 lf_PF_104 rfl (Or.inl rfl) rfl t1 (Or.inl rfl) (fun M3 e2 => ?_)
  refine B_aload_n rfl ?_
  refine B_iconst (0 : Int32) ic_0 ?_
  have h4 : hT M3 l0 = 10 := by rw [e2]; exact t1
  refine K_putI 10 6 2006 lf_PF_114 rfl (Or.inl rfl) rfl h4 (fun M6 e5 => ?_)
  refine B_aload_n rfl ?_
  have h7 : hT M6 l0 = 10 := by rw [e5]; exact h4
  refine K_getR 10 2 2002 lf_PF_26 rfl rfl h7 (fun a8 r9 => ?_)
  refine B_chk (fun t10 => ?_)
  refine C_V (vs := [.ref a8]) (st := []) (ci_V lv_PF_117 rfl rfl t10) rfl rfl rfl (s_Att_none a8 M6) (fun M11 => ?_)
  refine B_aload_n rfl ?_
  refine B_iconst (-1 : Int32) ic_m1 ?_
  refine B_chk (fun t12 => ?_)
  refine K_putI 10 13 2013 lf_PF_50 rfl (Or.inl rfl) rfl t12 (fun M14 e13 => ?_)
  refine B_aload_n rfl ?_
  refine B_iconst (-1 : Int32) ic_m1 ?_
  have h15 : hT M14 l0 = 10 := by rw [e13]; exact t12
  refine K_putI 10 8 2008 lf_PF_46 rfl (Or.inl rfl) rfl h15 (fun M17 e16 => ?_)
  refine B_aload_n rfl ?_
  refine B_iconst (0 : Int32) ic_0 ?_
  have h18 : hT M17 l0 = 10 := by rw [e16]; exact h15
  refine K_putI 10 18 2018 lf_PF_120 rfl (Or.inl rfl) rfl h18 (fun M20 e19 => ?_)
  refine B_iconst (0 : Int32) ic_0 ?_
  refine S_in [some (.ref l0), some (.int (0 : Int32))] (by decide) rfl ?_
  refine V_close ?_
  exact V_weak (ls' := [some (.ref l0), some (.int (0 : Int32))]) ⟨rfl, ⟨rfl, trivial⟩⟩ (tw_PF_breakFrame_34 FU l0 (0 : Int32) M20)

-- PF_may
theorem ok_PF_may_0 : okb prog_1_method_3_code 0 [(.iload_n 1, 1), (.ifCond .eq 4, 3), (.return_, 1)] = true := by decide +kernel
theorem ok_PF_may_5 : okb prog_1_method_3_code 5 [(.aload_n 0, 1), (.getfield 104, 3), (.ifCond .eq 7, 3), (.aload_n 0, 1), (.invokevirtual 108, 3)] = true := by decide +kernel
theorem ok_PF_may_16 : okb prog_1_method_3_code 16 [(.new 111, 3), (.dup, 1), (.invokespecial 113, 3), (.athrow, 1)] = true := by decide +kernel
set_option maxRecDepth 100000 in
def b_PF_may_16 (G : GT)  (M : PH) : Option (Nat × PH) :=
  if hZ M < gC G ∧ hU M + 6 ≤ gS G then some (2, nO M 33 6) else none
set_option maxRecDepth 100000 in
set_option maxHeartbeats 4000000 in
theorem t_PF_may_16 {G : GT}  (M : PH) : VX G mi_PF_may 6 81 16 [none, none] [] M qU (b_PF_may_16 G  M) := by
  unfold b_PF_may_16
  refine V_open ok_PF_may_16 ?_
  exact B_throw 33 rfl lx_PF_111 rfl (by decide) (by decide) ⟨rfl, Or.inr ⟨Or.inr rfl, _, rfl, nO_T⟩⟩
set_option maxRecDepth 100000 in
def f_PF_may (G : GT) (l0 : Nat) (l1 : Int32) (M : PH) : Option (Nat × PH) :=
  if l1 = 0 then (if hT M l0 = 10 then if hI M 2007 l0 = 0 then (b_PF_may_16 G M) else (bV (f_PF_breakFrame G l0 M) fun M2 => (b_PF_may_16 G M2)) else none) else (some (0, M))
set_option maxRecDepth 100000 in
set_option maxHeartbeats 4000000 in
theorem s_PF_may {G : GT} (l0 : Nat) (l1 : Int32) (M : PH) : VX G mi_PF_may 6 81 0 [some (.ref l0), some (.int l1)] [] M qU (f_PF_may G l0 l1 M) := by
  unfold f_PF_may
  refine V_open ok_PF_may_0 ?_
  refine B_iload_n rfl ?_
  refine B_eq (tgt := 5) (by decide) ?_ ?_
  · skip
    refine V_open ok_PF_may_5 ?_
    refine B_aload_n rfl ?_
    refine B_chk (fun t1 => ?_)
    refine K_getI 10 7 2007 lf_PF_104 rfl rfl t1 ?_
    refine B_eq (tgt := 16) (by decide) ?_ ?_
    · skip
      exact V_weak (ls' := [none, none]) trivial (t_PF_may_16 M)
    · skip
      refine B_aload_n rfl ?_
      refine C_V (vs := [.ref l0]) (st := []) (ci_V lv_PF_108 rfl rfl t1) rfl rfl rfl (s_PF_breakFrame l0 M) (fun M2 => ?_)
      refine V_close ?_
      exact V_weak (ls' := [none, none]) trivial (t_PF_may_16 M2)
  · skip
    exact B_uret rfl

-- Input_clear
theorem ok_Input_clear_0 : okb prog_4_method_3_code 0 [(.aload_n 0, 1), (.iconst 0, 1), (.putfield 41, 3), (.aload_n 0, 1), (.iconst 0, 1), (.putfield 44, 3), (.aload_n 0, 1), (.iconst 0, 1), (.putfield 47, 3), (.aload_n 0, 1), (.iconst 0, 1), (.putfield 51, 3), (.iconst 0, 1), (.istore_n 1, 1)] = true := by decide +kernel
theorem ok_Input_clear_22 : okb prog_4_method_3_code 22 [(.iload_n 1, 1), (.bipush 6, 2), (.if_icmp .ge 23, 3), (.aload_n 0, 1), (.getfield 25, 3), (.iload_n 1, 1), (.iconst 0, 1), (.bastore, 1), (.aload_n 0, 1), (.getfield 28, 3), (.iload_n 1, 1), (.iconst 0, 1), (.bastore, 1), (.iinc 1 1, 3), (.goto (-23), 3)] = true := by decide +kernel
theorem ok_Input_clear_48 : okb prog_4_method_3_code 48 [(.return_, 1)] = true := by decide +kernel
set_option maxRecDepth 100000 in
def b_Input_clear_22 (G : GT) (k22 : Nat → Int32 → PH → Option (PH)) (l0 : Nat) (l1 : Int32) (M : PH) : Option (PH) :=
  if (6 : Int32) ≤ l1 then (some M) else (if hT M l0 = 2 then (hR M 413 l0).bind fun a2 => if hT M a2 = 17 then if ib l1 (hN M a2) = true then hb (sA M a2 l1.toNatClampNeg (0 : Int32)) fun M6 => ((hR M6 414 l0).bind fun a8 => if hT M6 a8 = 17 then if ib l1 (hN M6 a8) = true then hb (sA M6 a8 l1.toNatClampNeg (0 : Int32)) fun M12 => (k22 l0 (l1 + (1 : Int32)) M12) else none else none) else none else none else none)
set_option maxRecDepth 100000 in
set_option maxHeartbeats 4000000 in
theorem t_Input_clear_22 {G : GT} {k22 : Nat → Int32 → PH → Option (PH)} (hk22 : ∀ (l0 : Nat) (l1 : Int32) (M : PH), VX G mi_Input_clear 0 0 22 [some (.ref l0), some (.int l1)] [] M qV (k22 l0 l1 M)) (l0 : Nat) (l1 : Int32) (M : PH) : VX G mi_Input_clear 0 0 22 [some (.ref l0), some (.int l1)] [] M qV (b_Input_clear_22 G k22 l0 l1 M) := by
  unfold b_Input_clear_22
  refine V_open ok_Input_clear_22 ?_
  refine B_iload_n rfl ?_
  refine B_bipush (6 : Int32) bp_6 ?_
  refine B_ige (tgt := 48) (by decide) ?_ ?_
  · skip
    refine V_open ok_Input_clear_48 ?_
    exact B_vret rfl
  · skip
    refine B_aload_n rfl ?_
    refine B_chk (fun t1 => ?_)
    refine K_getR 2 13 413 lf_Input_25 rfl rfl t1 (fun a2 r3 => ?_)
    refine B_iload_n rfl ?_
    refine B_iconst (0 : Int32) ic_0 ?_
    refine B_chk (fun t4 => ?_)
    refine K_zast t4 (Or.inl rfl) (fun M6 e5 => ?_)
    refine B_aload_n rfl ?_
    have h7 : hT M6 l0 = 2 := by rw [e5]; exact t1
    refine K_getR 2 14 414 lf_Input_28 rfl rfl h7 (fun a8 r9 => ?_)
    refine B_iload_n rfl ?_
    refine B_iconst (0 : Int32) ic_0 ?_
    refine B_chk (fun t10 => ?_)
    refine K_zast t10 (Or.inl rfl) (fun M12 e11 => ?_)
    refine S_inc (1 : Int32) [some (.ref l0), some (.int (l1 + (1 : Int32)))] ic_1 rfl (by decide) rfl ?_
    refine B_goto (tgt := 22) (by decide) ?_
    exact V_weak (ls' := [some (.ref l0), some (.int (l1 + (1 : Int32)))]) ⟨rfl, ⟨rfl, trivial⟩⟩ (hk22 l0 (l1 + (1 : Int32)) M12)
set_option maxRecDepth 100000 in
def w_Input_clear_22 (G : GT) : Nat → Nat → Int32 → PH → Option (PH)
  | 0 => fun _ _ _ => none
  | n + 1 => b_Input_clear_22 G (w_Input_clear_22 G n)
set_option maxRecDepth 100000 in
set_option maxHeartbeats 4000000 in
theorem tw_Input_clear_22 {G : GT} : ∀ (n : Nat) (l0 : Nat) (l1 : Int32) (M : PH), VX G mi_Input_clear 0 0 22 [some (.ref l0), some (.int l1)] [] M qV (w_Input_clear_22 G n l0 l1 M)
  | 0, _, _, _ => X_none
  | n + 1, l0, l1, M => t_Input_clear_22 (tw_Input_clear_22 n) l0 l1 M
set_option maxRecDepth 100000 in
def f_Input_clear (G : GT) (l0 : Nat) (M : PH) : Option (PH) :=
  if hT M l0 = 2 then hb (sI M 407 l0 (0 : Int32)) fun M3 => hb (sI M3 408 l0 (0 : Int32)) fun M6 => hb (sI M6 410 l0 (0 : Int32)) fun M9 => hb (sI M9 411 l0 (0 : Int32)) fun M12 => w_Input_clear_22 G FU l0 (0 : Int32) M12 else none
set_option maxRecDepth 100000 in
set_option maxHeartbeats 4000000 in
theorem s_Input_clear {G : GT} (l0 : Nat) (M : PH) : VX G mi_Input_clear 0 0 0 [some (.ref l0), none] [] M qV (f_Input_clear G l0 M) := by
  unfold f_Input_clear
  refine V_open ok_Input_clear_0 ?_
  refine B_aload_n rfl ?_
  refine B_iconst (0 : Int32) ic_0 ?_
  refine B_chk (fun t1 => ?_)
  refine K_putI 2 7 407 lf_Input_41 rfl (Or.inl rfl) rfl t1 (fun M3 e2 => ?_)
  refine B_aload_n rfl ?_
  refine B_iconst (0 : Int32) ic_0 ?_
  have h4 : hT M3 l0 = 2 := by rw [e2]; exact t1
  refine K_putI 2 8 408 lf_Input_44 rfl (Or.inl rfl) rfl h4 (fun M6 e5 => ?_)
  refine B_aload_n rfl ?_
  refine B_iconst (0 : Int32) ic_0 ?_
  have h7 : hT M6 l0 = 2 := by rw [e5]; exact h4
  refine K_putZ 2 10 410 lf_Input_47 rfl (Or.inl rfl) rfl h7 (Or.inl rfl) (fun M9 e8 => ?_)
  refine B_aload_n rfl ?_
  refine B_iconst (0 : Int32) ic_0 ?_
  have h10 : hT M9 l0 = 2 := by rw [e8]; exact h7
  refine K_putZ 2 11 411 lf_Input_51 rfl (Or.inl rfl) rfl h10 (Or.inl rfl) (fun M12 e11 => ?_)
  refine B_iconst (0 : Int32) ic_0 ?_
  refine S_in [some (.ref l0), some (.int (0 : Int32))] (by decide) rfl ?_
  refine V_close ?_
  exact V_weak (ls' := [some (.ref l0), some (.int (0 : Int32))]) ⟨rfl, ⟨rfl, trivial⟩⟩ (tw_Input_clear_22 FU l0 (0 : Int32) M12)

-- Input_take2
theorem ok_Input_take2_0 : okb prog_4_method_5_code 0 [(.iload_n 1, 1), (.tableswitch 215 0 3 #[31, 44, 116, 129], 31)] = true := by decide +kernel
theorem ok_Input_take2_32 : okb prog_4_method_5_code 32 [(.aload_n 0, 1), (.iload_n 2, 1), (.putfield 61, 3), (.aload_n 0, 1), (.iload_n 3, 1), (.putfield 64, 3), (.goto 204, 3)] = true := by decide +kernel
theorem ok_Input_take2_45 : okb prog_4_method_5_code 45 [(.aload_n 0, 1), (.aload_n 0, 1), (.getfield 47, 3), (.ifCond .ne 15, 3), (.iload_n 2, 1), (.iconst 1, 1), (.if_icmp .ne 14, 3), (.aload_n 0, 1), (.getfield 67, 3), (.ifCond .ne 7, 3)] = true := by decide +kernel
theorem ok_Input_take2_65 : okb prog_4_method_5_code 65 [(.iconst 1, 1), (.goto 4, 3)] = true := by decide +kernel
theorem ok_Input_take2_69 : okb prog_4_method_5_code 69 [(.iconst 0, 1)] = true := by decide +kernel
theorem ok_Input_take2_70 : okb prog_4_method_5_code 70 [(.putfield 47, 3), (.aload_n 0, 1), (.aload_n 0, 1), (.getfield 51, 3), (.ifCond .ne 14, 3), (.iload_n 2, 1), (.ifCond .ne 14, 3), (.aload_n 0, 1), (.getfield 67, 3), (.ifCond .eq 7, 3)] = true := by decide +kernel
theorem ok_Input_take2_92 : okb prog_4_method_5_code 92 [(.iconst 1, 1), (.goto 4, 3)] = true := by decide +kernel
theorem ok_Input_take2_96 : okb prog_4_method_5_code 96 [(.iconst 0, 1)] = true := by decide +kernel
theorem ok_Input_take2_97 : okb prog_4_method_5_code 97 [(.putfield 51, 3), (.aload_n 0, 1), (.iload_n 2, 1), (.iconst 1, 1), (.if_icmp .ne 7, 3), (.iconst 1, 1), (.goto 4, 3)] = true := by decide +kernel
theorem ok_Input_take2_110 : okb prog_4_method_5_code 110 [(.iconst 0, 1)] = true := by decide +kernel
theorem ok_Input_take2_111 : okb prog_4_method_5_code 111 [(.putfield 67, 3), (.goto 132, 3)] = true := by decide +kernel
theorem ok_Input_take2_117 : okb prog_4_method_5_code 117 [(.aload_n 0, 1), (.dup, 1), (.getfield 41, 3), (.iload_n 2, 1), (.iadd, 1), (.putfield 41, 3), (.goto 119, 3)] = true := by decide +kernel
theorem ok_Input_take2_130 : okb prog_4_method_5_code 130 [(.aload_n 0, 1), (.getfield 25, 3), (.iload_n 2, 1), (.aload_n 0, 1), (.getfield 25, 3), (.iload_n 2, 1), (.baload, 1), (.ifCond .ne 17, 3), (.iload_n 3, 1), (.iconst 1, 1), (.if_icmp .ne 16, 3), (.aload_n 0, 1), (.getfield 21, 3), (.iload_n 2, 1), (.baload, 1), (.ifCond .ne 7, 3)] = true := by decide +kernel
theorem ok_Input_take2_158 : okb prog_4_method_5_code 158 [(.iconst 1, 1), (.goto 4, 3)] = true := by decide +kernel
theorem ok_Input_take2_162 : okb prog_4_method_5_code 162 [(.iconst 0, 1)] = true := by decide +kernel
theorem ok_Input_take2_163 : okb prog_4_method_5_code 163 [(.bastore, 1), (.aload_n 0, 1), (.getfield 28, 3), (.iload_n 2, 1), (.aload_n 0, 1), (.getfield 28, 3), (.iload_n 2, 1), (.baload, 1), (.ifCond .ne 16, 3), (.iload_n 3, 1), (.ifCond .ne 16, 3), (.aload_n 0, 1), (.getfield 21, 3), (.iload_n 2, 1), (.baload, 1), (.ifCond .eq 7, 3)] = true := by decide +kernel
theorem ok_Input_take2_191 : okb prog_4_method_5_code 191 [(.iconst 1, 1), (.goto 4, 3)] = true := by decide +kernel
theorem ok_Input_take2_195 : okb prog_4_method_5_code 195 [(.iconst 0, 1)] = true := by decide +kernel
theorem ok_Input_take2_196 : okb prog_4_method_5_code 196 [(.bastore, 1), (.aload_n 0, 1), (.getfield 21, 3), (.iload_n 2, 1), (.iload_n 3, 1), (.iconst 1, 1), (.if_icmp .ne 7, 3), (.iconst 1, 1), (.goto 4, 3)] = true := by decide +kernel
theorem ok_Input_take2_211 : okb prog_4_method_5_code 211 [(.iconst 0, 1)] = true := by decide +kernel
theorem ok_Input_take2_212 : okb prog_4_method_5_code 212 [(.bastore, 1), (.goto 33, 3)] = true := by decide +kernel
theorem ok_Input_take2_216 : okb prog_4_method_5_code 216 [(.aload_n 0, 1), (.getfield 44, 3), (.bipush 16, 2), (.if_icmp .ne 4, 3), (.return_, 1)] = true := by decide +kernel
theorem ok_Input_take2_226 : okb prog_4_method_5_code 226 [(.aload_n 0, 1), (.getfield 31, 3), (.aload_n 0, 1), (.getfield 44, 3), (.iload_n 2, 1), (.iastore, 1), (.aload_n 0, 1), (.dup, 1), (.getfield 44, 3), (.iconst 1, 1), (.iadd, 1), (.putfield 44, 3), (.return_, 1)] = true := by decide +kernel
theorem ok_Input_take2_246 : okb prog_4_method_5_code 246 [(.return_, 1)] = true := by decide +kernel
set_option maxRecDepth 100000 in
def b_Input_take2_111 (G : GT) (s0 : Nat) (s1 : Int32) (M : PH) : Option (PH) :=
  if hT M s0 = 2 then if s1 = 0 ∨ s1 = 1 then hb (sI M 409 s0 s1) fun M4 => some M4 else none else none
set_option maxRecDepth 100000 in
set_option maxHeartbeats 4000000 in
theorem t_Input_take2_111 {G : GT} (s0 : Nat) (s1 : Int32) (M : PH) : VX G mi_Input_take2 0 0 111 [none, none, none, none] [.int s1, .ref s0] M qV (b_Input_take2_111 G s0 s1 M) := by
  unfold b_Input_take2_111
  refine V_open ok_Input_take2_111 ?_
  refine B_chk (fun t1 => ?_)
  refine B_chk (fun z3 => ?_)
  refine K_putZ 2 9 409 lf_Input_67 rfl (Or.inl rfl) rfl t1 z3 (fun M4 e2 => ?_)
  refine B_goto (tgt := 246) (by decide) ?_
  refine V_open ok_Input_take2_246 ?_
  exact B_vret rfl
set_option maxRecDepth 100000 in
def b_Input_take2_97 (G : GT) (l0 : Nat) (l2 : Int32) (s0 : Nat) (s1 : Int32) (M : PH) : Option (PH) :=
  if hT M s0 = 2 then if s1 = 0 ∨ s1 = 1 then hb (sI M 411 s0 s1) fun M4 => if ¬ l2 = (1 : Int32) then (b_Input_take2_111 G l0 (0 : Int32) M4) else (b_Input_take2_111 G l0 (1 : Int32) M4) else none else none
set_option maxRecDepth 100000 in
set_option maxHeartbeats 4000000 in
theorem t_Input_take2_97 {G : GT} (l0 : Nat) (l2 : Int32) (s0 : Nat) (s1 : Int32) (M : PH) : VX G mi_Input_take2 0 0 97 [some (.ref l0), none, some (.int l2), none] [.int s1, .ref s0] M qV (b_Input_take2_97 G l0 l2 s0 s1 M) := by
  unfold b_Input_take2_97
  refine V_open ok_Input_take2_97 ?_
  refine B_chk (fun t1 => ?_)
  refine B_chk (fun z3 => ?_)
  refine K_putZ 2 11 411 lf_Input_51 rfl (Or.inl rfl) rfl t1 z3 (fun M4 e2 => ?_)
  refine B_aload_n rfl ?_
  refine B_iload_n rfl ?_
  refine B_iconst (1 : Int32) ic_1 ?_
  refine B_ine (tgt := 110) (by decide) ?_ ?_
  · skip
    refine V_open ok_Input_take2_110 ?_
    refine B_iconst (0 : Int32) ic_0 ?_
    refine V_close ?_
    exact V_weak (ls' := [none, none, none, none]) trivial (t_Input_take2_111 l0 (0 : Int32) M4)
  · skip
    refine B_iconst (1 : Int32) ic_1 ?_
    refine B_goto (tgt := 111) (by decide) ?_
    exact V_weak (ls' := [none, none, none, none]) trivial (t_Input_take2_111 l0 (1 : Int32) M4)
set_option maxRecDepth 100000 in
def b_Input_take2_92 (G : GT) (l0 : Nat) (l2 : Int32) (s0 : Nat) (M : PH) : Option (PH) :=
  b_Input_take2_97 G l0 l2 s0 (1 : Int32) M
set_option maxRecDepth 100000 in
set_option maxHeartbeats 4000000 in
theorem t_Input_take2_92 {G : GT} (l0 : Nat) (l2 : Int32) (s0 : Nat) (M : PH) : VX G mi_Input_take2 0 0 92 [some (.ref l0), none, some (.int l2), none] [.ref s0] M qV (b_Input_take2_92 G l0 l2 s0 M) := by
  unfold b_Input_take2_92
  refine V_open ok_Input_take2_92 ?_
  refine B_iconst (1 : Int32) ic_1 ?_
  refine B_goto (tgt := 97) (by decide) ?_
  exact V_weak (ls' := [some (.ref l0), none, some (.int l2), none]) ⟨rfl, ⟨rfl, trivial⟩⟩ (t_Input_take2_97 l0 l2 s0 (1 : Int32) M)
set_option maxRecDepth 100000 in
def b_Input_take2_96 (G : GT) (l0 : Nat) (l2 : Int32) (s0 : Nat) (M : PH) : Option (PH) :=
  b_Input_take2_97 G l0 l2 s0 (0 : Int32) M
set_option maxRecDepth 100000 in
set_option maxHeartbeats 4000000 in
theorem t_Input_take2_96 {G : GT} (l0 : Nat) (l2 : Int32) (s0 : Nat) (M : PH) : VX G mi_Input_take2 0 0 96 [some (.ref l0), none, some (.int l2), none] [.ref s0] M qV (b_Input_take2_96 G l0 l2 s0 M) := by
  unfold b_Input_take2_96
  refine V_open ok_Input_take2_96 ?_
  refine B_iconst (0 : Int32) ic_0 ?_
  refine V_close ?_
  exact V_weak (ls' := [some (.ref l0), none, some (.int l2), none]) ⟨rfl, ⟨rfl, trivial⟩⟩ (t_Input_take2_97 l0 l2 s0 (0 : Int32) M)
set_option maxRecDepth 100000 in
def b_Input_take2_70 (G : GT) (l0 : Nat) (l2 : Int32) (s0 : Nat) (s1 : Int32) (M : PH) : Option (PH) :=
  if hT M s0 = 2 then if s1 = 0 ∨ s1 = 1 then hb (sI M 410 s0 s1) fun M4 => if hT M4 l0 = 2 then if ¬ hI M4 411 l0 = 0 then (b_Input_take2_92 G l0 l2 l0 M4) else (if ¬ l2 = 0 then (b_Input_take2_96 G l0 l2 l0 M4) else (if hI M4 409 l0 = 0 then (b_Input_take2_96 G l0 l2 l0 M4) else (b_Input_take2_92 G l0 l2 l0 M4))) else none else none else none
set_option maxRecDepth 100000 in
set_option maxHeartbeats 4000000 in
theorem t_Input_take2_70 {G : GT} (l0 : Nat) (l2 : Int32) (s0 : Nat) (s1 : Int32) (M : PH) : VX G mi_Input_take2 0 0 70 [some (.ref l0), none, some (.int l2), none] [.int s1, .ref s0] M qV (b_Input_take2_70 G l0 l2 s0 s1 M) := by
  unfold b_Input_take2_70
  refine V_open ok_Input_take2_70 ?_
  refine B_chk (fun t1 => ?_)
  refine B_chk (fun z3 => ?_)
  refine K_putZ 2 10 410 lf_Input_47 rfl (Or.inl rfl) rfl t1 z3 (fun M4 e2 => ?_)
  refine B_aload_n rfl ?_
  refine B_aload_n rfl ?_
  refine B_chk (fun t5 => ?_)
  refine K_getI 2 11 411 lf_Input_51 rfl rfl t5 ?_
  refine B_ne (tgt := 92) (by decide) ?_ ?_
  · skip
    exact V_weak (ls' := [some (.ref l0), none, some (.int l2), none]) ⟨rfl, ⟨rfl, trivial⟩⟩ (t_Input_take2_92 l0 l2 l0 M4)
  · skip
    refine B_iload_n rfl ?_
    refine B_ne (tgt := 96) (by decide) ?_ ?_
    · skip
      exact V_weak (ls' := [some (.ref l0), none, some (.int l2), none]) ⟨rfl, ⟨rfl, trivial⟩⟩ (t_Input_take2_96 l0 l2 l0 M4)
    · skip
      refine B_aload_n rfl ?_
      refine K_getI 2 9 409 lf_Input_67 rfl rfl t5 ?_
      refine B_eq (tgt := 96) (by decide) ?_ ?_
      · skip
        exact V_weak (ls' := [some (.ref l0), none, some (.int l2), none]) ⟨rfl, ⟨rfl, trivial⟩⟩ (t_Input_take2_96 l0 l2 l0 M4)
      · skip
        refine V_close ?_
        exact V_weak (ls' := [some (.ref l0), none, some (.int l2), none]) ⟨rfl, ⟨rfl, trivial⟩⟩ (t_Input_take2_92 l0 l2 l0 M4)
set_option maxRecDepth 100000 in
def b_Input_take2_65 (G : GT) (l0 : Nat) (l2 : Int32) (s0 : Nat) (M : PH) : Option (PH) :=
  b_Input_take2_70 G l0 l2 s0 (1 : Int32) M
set_option maxRecDepth 100000 in
set_option maxHeartbeats 4000000 in
theorem t_Input_take2_65 {G : GT} (l0 : Nat) (l2 : Int32) (s0 : Nat) (M : PH) : VX G mi_Input_take2 0 0 65 [some (.ref l0), none, some (.int l2), none] [.ref s0] M qV (b_Input_take2_65 G l0 l2 s0 M) := by
  unfold b_Input_take2_65
  refine V_open ok_Input_take2_65 ?_
  refine B_iconst (1 : Int32) ic_1 ?_
  refine B_goto (tgt := 70) (by decide) ?_
  exact V_weak (ls' := [some (.ref l0), none, some (.int l2), none]) ⟨rfl, ⟨rfl, trivial⟩⟩ (t_Input_take2_70 l0 l2 s0 (1 : Int32) M)
set_option maxRecDepth 100000 in
def b_Input_take2_69 (G : GT) (l0 : Nat) (l2 : Int32) (s0 : Nat) (M : PH) : Option (PH) :=
  b_Input_take2_70 G l0 l2 s0 (0 : Int32) M
set_option maxRecDepth 100000 in
set_option maxHeartbeats 4000000 in
theorem t_Input_take2_69 {G : GT} (l0 : Nat) (l2 : Int32) (s0 : Nat) (M : PH) : VX G mi_Input_take2 0 0 69 [some (.ref l0), none, some (.int l2), none] [.ref s0] M qV (b_Input_take2_69 G l0 l2 s0 M) := by
  unfold b_Input_take2_69
  refine V_open ok_Input_take2_69 ?_
  refine B_iconst (0 : Int32) ic_0 ?_
  refine V_close ?_
  exact V_weak (ls' := [some (.ref l0), none, some (.int l2), none]) ⟨rfl, ⟨rfl, trivial⟩⟩ (t_Input_take2_70 l0 l2 s0 (0 : Int32) M)
set_option maxRecDepth 100000 in
def b_Input_take2_212 (G : GT) (s0 : Nat) (s1 : Int32) (s2 : Int32) (M : PH) : Option (PH) :=
  if hT M s0 = 17 then if s2 = 0 ∨ s2 = 1 then if ib s1 (hN M s0) = true then hb (sA M s0 s1.toNatClampNeg s2) fun M4 => (some M4) else none else none else none
set_option maxRecDepth 100000 in
set_option maxHeartbeats 4000000 in
theorem t_Input_take2_212 {G : GT} (s0 : Nat) (s1 : Int32) (s2 : Int32) (M : PH) : VX G mi_Input_take2 0 0 212 [none, none, none, none] [.int s2, .int s1, .ref s0] M qV (b_Input_take2_212 G s0 s1 s2 M) := by
  unfold b_Input_take2_212
  refine V_open ok_Input_take2_212 ?_
  refine B_chk (fun t1 => ?_)
  refine B_chk (fun z2 => ?_)
  refine K_zast t1 z2 (fun M4 e3 => ?_)
  refine B_goto (tgt := 246) (by decide) ?_
  refine V_open ok_Input_take2_246 ?_
  exact B_vret rfl
set_option maxRecDepth 100000 in
def b_Input_take2_196 (G : GT) (l0 : Nat) (l2 : Int32) (l3 : Int32) (s0 : Nat) (s1 : Int32) (s2 : Int32) (M : PH) : Option (PH) :=
  if hT M s0 = 17 then if s2 = 0 ∨ s2 = 1 then if ib s1 (hN M s0) = true then hb (sA M s0 s1.toNatClampNeg s2) fun M4 => (if hT M4 l0 = 2 then (hR M4 412 l0).bind fun a6 => if ¬ l3 = (1 : Int32) then (b_Input_take2_212 G a6 l2 (0 : Int32) M4) else (b_Input_take2_212 G a6 l2 (1 : Int32) M4) else none) else none else none else none
set_option maxRecDepth 100000 in
set_option maxHeartbeats 4000000 in
theorem t_Input_take2_196 {G : GT} (l0 : Nat) (l2 : Int32) (l3 : Int32) (s0 : Nat) (s1 : Int32) (s2 : Int32) (M : PH) : VX G mi_Input_take2 0 0 196 [some (.ref l0), none, some (.int l2), some (.int l3)] [.int s2, .int s1, .ref s0] M qV (b_Input_take2_196 G l0 l2 l3 s0 s1 s2 M) := by
  unfold b_Input_take2_196
  refine V_open ok_Input_take2_196 ?_
  refine B_chk (fun t1 => ?_)
  refine B_chk (fun z2 => ?_)
  refine K_zast t1 z2 (fun M4 e3 => ?_)
  refine B_aload_n rfl ?_
  refine B_chk (fun t5 => ?_)
  refine K_getR 2 12 412 lf_Input_21 rfl rfl t5 (fun a6 r7 => ?_)
  refine B_iload_n rfl ?_
  refine B_iload_n rfl ?_
  refine B_iconst (1 : Int32) ic_1 ?_
  refine B_ine (tgt := 211) (by decide) ?_ ?_
  · skip
    refine V_open ok_Input_take2_211 ?_
    refine B_iconst (0 : Int32) ic_0 ?_
    refine V_close ?_
    exact V_weak (ls' := [none, none, none, none]) trivial (t_Input_take2_212 a6 l2 (0 : Int32) M4)
  · skip
    refine B_iconst (1 : Int32) ic_1 ?_
    refine B_goto (tgt := 212) (by decide) ?_
    exact V_weak (ls' := [none, none, none, none]) trivial (t_Input_take2_212 a6 l2 (1 : Int32) M4)
set_option maxRecDepth 100000 in
def b_Input_take2_191 (G : GT) (l0 : Nat) (l2 : Int32) (l3 : Int32) (s0 : Nat) (s1 : Int32) (M : PH) : Option (PH) :=
  b_Input_take2_196 G l0 l2 l3 s0 s1 (1 : Int32) M
set_option maxRecDepth 100000 in
set_option maxHeartbeats 4000000 in
theorem t_Input_take2_191 {G : GT} (l0 : Nat) (l2 : Int32) (l3 : Int32) (s0 : Nat) (s1 : Int32) (M : PH) : VX G mi_Input_take2 0 0 191 [some (.ref l0), none, some (.int l2), some (.int l3)] [.int s1, .ref s0] M qV (b_Input_take2_191 G l0 l2 l3 s0 s1 M) := by
  unfold b_Input_take2_191
  refine V_open ok_Input_take2_191 ?_
  refine B_iconst (1 : Int32) ic_1 ?_
  refine B_goto (tgt := 196) (by decide) ?_
  exact V_weak (ls' := [some (.ref l0), none, some (.int l2), some (.int l3)]) ⟨rfl, ⟨rfl, ⟨rfl, trivial⟩⟩⟩ (t_Input_take2_196 l0 l2 l3 s0 s1 (1 : Int32) M)
set_option maxRecDepth 100000 in
def b_Input_take2_195 (G : GT) (l0 : Nat) (l2 : Int32) (l3 : Int32) (s0 : Nat) (s1 : Int32) (M : PH) : Option (PH) :=
  b_Input_take2_196 G l0 l2 l3 s0 s1 (0 : Int32) M
set_option maxRecDepth 100000 in
set_option maxHeartbeats 4000000 in
theorem t_Input_take2_195 {G : GT} (l0 : Nat) (l2 : Int32) (l3 : Int32) (s0 : Nat) (s1 : Int32) (M : PH) : VX G mi_Input_take2 0 0 195 [some (.ref l0), none, some (.int l2), some (.int l3)] [.int s1, .ref s0] M qV (b_Input_take2_195 G l0 l2 l3 s0 s1 M) := by
  unfold b_Input_take2_195
  refine V_open ok_Input_take2_195 ?_
  refine B_iconst (0 : Int32) ic_0 ?_
  refine V_close ?_
  exact V_weak (ls' := [some (.ref l0), none, some (.int l2), some (.int l3)]) ⟨rfl, ⟨rfl, ⟨rfl, trivial⟩⟩⟩ (t_Input_take2_196 l0 l2 l3 s0 s1 (0 : Int32) M)
set_option maxRecDepth 100000 in
def b_Input_take2_163 (G : GT) (l0 : Nat) (l2 : Int32) (l3 : Int32) (s0 : Nat) (s1 : Int32) (s2 : Int32) (M : PH) : Option (PH) :=
  if hT M s0 = 17 then if s2 = 0 ∨ s2 = 1 then if ib s1 (hN M s0) = true then hb (sA M s0 s1.toNatClampNeg s2) fun M4 => (if hT M4 l0 = 2 then (hR M4 414 l0).bind fun a6 => if hT M4 a6 = 17 then if ib l2 (hN M4 a6) = true then if ¬ hA M4 a6 l2.toNatClampNeg = 0 then (b_Input_take2_191 G l0 l2 l3 a6 l2 M4) else (if ¬ l3 = 0 then (b_Input_take2_195 G l0 l2 l3 a6 l2 M4) else ((hR M4 412 l0).bind fun a9 => if hT M4 a9 = 17 then if ib l2 (hN M4 a9) = true then if hA M4 a9 l2.toNatClampNeg = 0 then (b_Input_take2_195 G l0 l2 l3 a6 l2 M4) else (b_Input_take2_191 G l0 l2 l3 a6 l2 M4) else none else none)) else none else none else none) else none else none else none
set_option maxRecDepth 100000 in
set_option maxHeartbeats 4000000 in
theorem t_Input_take2_163 {G : GT} (l0 : Nat) (l2 : Int32) (l3 : Int32) (s0 : Nat) (s1 : Int32) (s2 : Int32) (M : PH) : VX G mi_Input_take2 0 0 163 [some (.ref l0), none, some (.int l2), some (.int l3)] [.int s2, .int s1, .ref s0] M qV (b_Input_take2_163 G l0 l2 l3 s0 s1 s2 M) := by
  unfold b_Input_take2_163
  refine V_open ok_Input_take2_163 ?_
  refine B_chk (fun t1 => ?_)
  refine B_chk (fun z2 => ?_)
  refine K_zast t1 z2 (fun M4 e3 => ?_)
  refine B_aload_n rfl ?_
  refine B_chk (fun t5 => ?_)
  refine K_getR 2 14 414 lf_Input_28 rfl rfl t5 (fun a6 r7 => ?_)
  refine B_iload_n rfl ?_
  refine B_aload_n rfl ?_
  refine K_getRk 2 14 414 lf_Input_28 rfl rfl t5 r7 ?_
  refine B_iload_n rfl ?_
  refine B_chk (fun t8 => ?_)
  refine K_zald t8 ?_
  refine B_ne (tgt := 191) (by decide) ?_ ?_
  · skip
    exact V_weak (ls' := [some (.ref l0), none, some (.int l2), some (.int l3)]) ⟨rfl, ⟨rfl, ⟨rfl, trivial⟩⟩⟩ (t_Input_take2_191 l0 l2 l3 a6 l2 M4)
  · skip
    refine B_iload_n rfl ?_
    refine B_ne (tgt := 195) (by decide) ?_ ?_
    · skip
      exact V_weak (ls' := [some (.ref l0), none, some (.int l2), some (.int l3)]) ⟨rfl, ⟨rfl, ⟨rfl, trivial⟩⟩⟩ (t_Input_take2_195 l0 l2 l3 a6 l2 M4)
    · skip
      refine B_aload_n rfl ?_
      refine K_getR 2 12 412 lf_Input_21 rfl rfl t5 (fun a9 r10 => ?_)
      refine B_iload_n rfl ?_
      refine B_chk (fun t11 => ?_)
      refine K_zald t11 ?_
      refine B_eq (tgt := 195) (by decide) ?_ ?_
      · skip
        exact V_weak (ls' := [some (.ref l0), none, some (.int l2), some (.int l3)]) ⟨rfl, ⟨rfl, ⟨rfl, trivial⟩⟩⟩ (t_Input_take2_195 l0 l2 l3 a6 l2 M4)
      · skip
        refine V_close ?_
        exact V_weak (ls' := [some (.ref l0), none, some (.int l2), some (.int l3)]) ⟨rfl, ⟨rfl, ⟨rfl, trivial⟩⟩⟩ (t_Input_take2_191 l0 l2 l3 a6 l2 M4)
set_option maxRecDepth 100000 in
def b_Input_take2_158 (G : GT) (l0 : Nat) (l2 : Int32) (l3 : Int32) (s0 : Nat) (s1 : Int32) (M : PH) : Option (PH) :=
  b_Input_take2_163 G l0 l2 l3 s0 s1 (1 : Int32) M
set_option maxRecDepth 100000 in
set_option maxHeartbeats 4000000 in
theorem t_Input_take2_158 {G : GT} (l0 : Nat) (l2 : Int32) (l3 : Int32) (s0 : Nat) (s1 : Int32) (M : PH) : VX G mi_Input_take2 0 0 158 [some (.ref l0), none, some (.int l2), some (.int l3)] [.int s1, .ref s0] M qV (b_Input_take2_158 G l0 l2 l3 s0 s1 M) := by
  unfold b_Input_take2_158
  refine V_open ok_Input_take2_158 ?_
  refine B_iconst (1 : Int32) ic_1 ?_
  refine B_goto (tgt := 163) (by decide) ?_
  exact V_weak (ls' := [some (.ref l0), none, some (.int l2), some (.int l3)]) ⟨rfl, ⟨rfl, ⟨rfl, trivial⟩⟩⟩ (t_Input_take2_163 l0 l2 l3 s0 s1 (1 : Int32) M)
set_option maxRecDepth 100000 in
def b_Input_take2_162 (G : GT) (l0 : Nat) (l2 : Int32) (l3 : Int32) (s0 : Nat) (s1 : Int32) (M : PH) : Option (PH) :=
  b_Input_take2_163 G l0 l2 l3 s0 s1 (0 : Int32) M
set_option maxRecDepth 100000 in
set_option maxHeartbeats 4000000 in
theorem t_Input_take2_162 {G : GT} (l0 : Nat) (l2 : Int32) (l3 : Int32) (s0 : Nat) (s1 : Int32) (M : PH) : VX G mi_Input_take2 0 0 162 [some (.ref l0), none, some (.int l2), some (.int l3)] [.int s1, .ref s0] M qV (b_Input_take2_162 G l0 l2 l3 s0 s1 M) := by
  unfold b_Input_take2_162
  refine V_open ok_Input_take2_162 ?_
  refine B_iconst (0 : Int32) ic_0 ?_
  refine V_close ?_
  exact V_weak (ls' := [some (.ref l0), none, some (.int l2), some (.int l3)]) ⟨rfl, ⟨rfl, ⟨rfl, trivial⟩⟩⟩ (t_Input_take2_163 l0 l2 l3 s0 s1 (0 : Int32) M)
set_option maxRecDepth 100000 in
def f_Input_take2 (G : GT) (l0 : Nat) (l1 : Int32) (l2 : Int32) (l3 : Int32) (M : PH) : Option (PH) :=
  sw l1 0 [if hT M l0 = 2 then hb (sI M 405 l0 l2) fun M12 => hb (sI M12 406 l0 l3) fun M15 => some M15 else none, if hT M l0 = 2 then if ¬ hI M 410 l0 = 0 then (b_Input_take2_65 G l0 l2 l0 M) else (if ¬ l2 = (1 : Int32) then (b_Input_take2_69 G l0 l2 l0 M) else (if ¬ hI M 409 l0 = 0 then (b_Input_take2_69 G l0 l2 l0 M) else (b_Input_take2_65 G l0 l2 l0 M))) else none, if hT M l0 = 2 then hb (sI M 407 l0 ((hI M 407 l0) + l2)) fun M19 => some M19 else none, if hT M l0 = 2 then (hR M 413 l0).bind fun a21 => if hT M a21 = 17 then if ib l2 (hN M a21) = true then if ¬ hA M a21 l2.toNatClampNeg = 0 then (b_Input_take2_158 G l0 l2 l3 a21 l2 M) else (if ¬ l3 = (1 : Int32) then (b_Input_take2_162 G l0 l2 l3 a21 l2 M) else ((hR M 412 l0).bind fun a24 => if hT M a24 = 17 then if ib l2 (hN M a24) = true then if ¬ hA M a24 l2.toNatClampNeg = 0 then (b_Input_take2_162 G l0 l2 l3 a21 l2 M) else (b_Input_take2_158 G l0 l2 l3 a21 l2 M) else none else none)) else none else none else none] (if hT M l0 = 2 then if ¬ hI M 408 l0 = (16 : Int32) then ((hR M 415 l0).bind fun a2 => if hT M a2 = 16 then if ib (hI M 408 l0) (hN M a2) = true then hb (sA M a2 (hI M 408 l0).toNatClampNeg l2) fun M6 => (hb (sI M6 408 l0 ((hI M6 408 l0) + (1 : Int32))) fun M9 => some M9) else none else none) else (some M) else none)
set_option maxRecDepth 100000 in
set_option maxHeartbeats 4000000 in
theorem s_Input_take2 {G : GT} (l0 : Nat) (l1 : Int32) (l2 : Int32) (l3 : Int32) (M : PH) : VX G mi_Input_take2 0 0 0 [some (.ref l0), some (.int l1), some (.int l2), some (.int l3)] [] M qV (f_Input_take2 G l0 l1 l2 l3 M) := by
  unfold f_Input_take2
  refine V_open ok_Input_take2_0 ?_
  refine B_iload_n rfl ?_
  refine B_tsw [32, 45, 117, 130] 216 (by decide) (by decide) (by decide) ?_ ⟨?_, ?_, ?_, ?_, trivial⟩
  · skip
    refine V_open ok_Input_take2_216 ?_
    refine B_aload_n rfl ?_
    refine B_chk (fun t1 => ?_)
    refine K_getI 2 8 408 lf_Input_44 rfl rfl t1 ?_
    refine B_bipush (16 : Int32) bp_16 ?_
    refine B_ine (tgt := 226) (by decide) ?_ ?_
    · skip
      refine V_open ok_Input_take2_226 ?_
      refine B_aload_n rfl ?_
      refine K_getR 2 15 415 lf_Input_31 rfl rfl t1 (fun a2 r3 => ?_)
      refine B_aload_n rfl ?_
      refine K_getI 2 8 408 lf_Input_44 rfl rfl t1 ?_
      refine B_iload_n rfl ?_
      refine B_chk (fun t4 => ?_)
      refine K_iast t4 (fun M6 e5 => ?_)
      refine B_aload_n rfl ?_
      refine B_dup rfl ?_
      have h7 : hT M6 l0 = 2 := by rw [e5]; exact t1
      refine K_getI 2 8 408 lf_Input_44 rfl rfl h7 ?_
      refine B_iconst (1 : Int32) ic_1 ?_
      refine B_iadd ?_
      refine K_putI 2 8 408 lf_Input_44 rfl (Or.inl rfl) rfl h7 (fun M9 e8 => ?_)
      exact B_vret rfl
    · skip
      exact B_vret rfl
  · skip
    refine V_open ok_Input_take2_32 ?_
    refine B_aload_n rfl ?_
    refine B_iload_n rfl ?_
    refine B_chk (fun t10 => ?_)
    refine K_putI 2 5 405 lf_Input_61 rfl (Or.inl rfl) rfl t10 (fun M12 e11 => ?_)
    refine B_aload_n rfl ?_
    refine B_iload_n rfl ?_
    have h13 : hT M12 l0 = 2 := by rw [e11]; exact t10
    refine K_putI 2 6 406 lf_Input_64 rfl (Or.inl rfl) rfl h13 (fun M15 e14 => ?_)
    refine B_goto (tgt := 246) (by decide) ?_
    refine V_open ok_Input_take2_246 ?_
    exact B_vret rfl
  · skip
    refine V_open ok_Input_take2_45 ?_
    refine B_aload_n rfl ?_
    refine B_aload_n rfl ?_
    refine B_chk (fun t16 => ?_)
    refine K_getI 2 10 410 lf_Input_47 rfl rfl t16 ?_
    refine B_ne (tgt := 65) (by decide) ?_ ?_
    · skip
      exact V_weak (ls' := [some (.ref l0), none, some (.int l2), none]) ⟨rfl, ⟨rfl, trivial⟩⟩ (t_Input_take2_65 l0 l2 l0 M)
    · skip
      refine B_iload_n rfl ?_
      refine B_iconst (1 : Int32) ic_1 ?_
      refine B_ine (tgt := 69) (by decide) ?_ ?_
      · skip
        exact V_weak (ls' := [some (.ref l0), none, some (.int l2), none]) ⟨rfl, ⟨rfl, trivial⟩⟩ (t_Input_take2_69 l0 l2 l0 M)
      · skip
        refine B_aload_n rfl ?_
        refine K_getI 2 9 409 lf_Input_67 rfl rfl t16 ?_
        refine B_ne (tgt := 69) (by decide) ?_ ?_
        · skip
          exact V_weak (ls' := [some (.ref l0), none, some (.int l2), none]) ⟨rfl, ⟨rfl, trivial⟩⟩ (t_Input_take2_69 l0 l2 l0 M)
        · skip
          refine V_close ?_
          exact V_weak (ls' := [some (.ref l0), none, some (.int l2), none]) ⟨rfl, ⟨rfl, trivial⟩⟩ (t_Input_take2_65 l0 l2 l0 M)
  · skip
    refine V_open ok_Input_take2_117 ?_
    refine B_aload_n rfl ?_
    refine B_dup rfl ?_
    refine B_chk (fun t17 => ?_)
    refine K_getI 2 7 407 lf_Input_41 rfl rfl t17 ?_
    refine B_iload_n rfl ?_
    refine B_iadd ?_
    refine K_putI 2 7 407 lf_Input_41 rfl (Or.inl rfl) rfl t17 (fun M19 e18 => ?_)
    refine B_goto (tgt := 246) (by decide) ?_
    refine V_open ok_Input_take2_246 ?_
    exact B_vret rfl
  · skip
    refine V_open ok_Input_take2_130 ?_
    refine B_aload_n rfl ?_
    refine B_chk (fun t20 => ?_)
    refine K_getR 2 13 413 lf_Input_25 rfl rfl t20 (fun a21 r22 => ?_)
    refine B_iload_n rfl ?_
    refine B_aload_n rfl ?_
    refine K_getRk 2 13 413 lf_Input_25 rfl rfl t20 r22 ?_
    refine B_iload_n rfl ?_
    refine B_chk (fun t23 => ?_)
    refine K_zald t23 ?_
    refine B_ne (tgt := 158) (by decide) ?_ ?_
    · skip
      exact V_weak (ls' := [some (.ref l0), none, some (.int l2), some (.int l3)]) ⟨rfl, ⟨rfl, ⟨rfl, trivial⟩⟩⟩ (t_Input_take2_158 l0 l2 l3 a21 l2 M)
    · skip
      refine B_iload_n rfl ?_
      refine B_iconst (1 : Int32) ic_1 ?_
      refine B_ine (tgt := 162) (by decide) ?_ ?_
      · skip
        exact V_weak (ls' := [some (.ref l0), none, some (.int l2), some (.int l3)]) ⟨rfl, ⟨rfl, ⟨rfl, trivial⟩⟩⟩ (t_Input_take2_162 l0 l2 l3 a21 l2 M)
      · skip
        refine B_aload_n rfl ?_
        refine K_getR 2 12 412 lf_Input_21 rfl rfl t20 (fun a24 r25 => ?_)
        refine B_iload_n rfl ?_
        refine B_chk (fun t26 => ?_)
        refine K_zald t26 ?_
        refine B_ne (tgt := 162) (by decide) ?_ ?_
        · skip
          exact V_weak (ls' := [some (.ref l0), none, some (.int l2), some (.int l3)]) ⟨rfl, ⟨rfl, ⟨rfl, trivial⟩⟩⟩ (t_Input_take2_162 l0 l2 l3 a21 l2 M)
        · skip
          refine V_close ?_
          exact V_weak (ls' := [some (.ref l0), none, some (.int l2), some (.int l3)]) ⟨rfl, ⟨rfl, ⟨rfl, trivial⟩⟩⟩ (t_Input_take2_158 l0 l2 l3 a21 l2 M)

-- Input_take
theorem ok_Input_take_0 : okb prog_4_method_4_code 0 [(.aload_n 0, 1), (.invokevirtual 54, 3), (.iconst 0, 1), (.istore_n 1, 1), (.iconst 0, 1), (.istore_n 2, 1)] = true := by decide +kernel
theorem ok_Input_take_8 : okb prog_4_method_4_code 8 [(.aload_n 0, 1), (.getfield 34, 3), (.ifCond .le 103, 3), (.iload_n 2, 1), (.ifCond .eq 16, 3), (.aload_n 0, 1), (.getfield 11, 3), (.aload_n 0, 1), (.getfield 38, 3), (.iaload, 1), (.iconst 1, 1), (.if_icmp .le 86, 3)] = true := by decide +kernel
theorem ok_Input_take_32 : okb prog_4_method_4_code 32 [(.iload_n 2, 1), (.ifCond .ne 16, 3), (.aload_n 0, 1), (.getfield 11, 3), (.aload_n 0, 1), (.getfield 38, 3), (.iaload, 1), (.iconst 1, 1), (.if_icmp .ne 7, 3)] = true := by decide +kernel
theorem ok_Input_take_49 : okb prog_4_method_4_code 49 [(.iconst 1, 1), (.goto 4, 3)] = true := by decide +kernel
theorem ok_Input_take_53 : okb prog_4_method_4_code 53 [(.iconst 0, 1)] = true := by decide +kernel
theorem ok_Input_take_54 : okb prog_4_method_4_code 54 [(.istore_n 2, 1), (.aload_n 0, 1), (.aload_n 0, 1), (.getfield 11, 3), (.aload_n 0, 1), (.getfield 38, 3), (.iaload, 1), (.aload_n 0, 1), (.getfield 15, 3), (.aload_n 0, 1), (.getfield 38, 3), (.iaload, 1), (.aload_n 0, 1), (.getfield 18, 3), (.aload_n 0, 1), (.getfield 38, 3), (.iaload, 1), (.invokevirtual 57, 3), (.aload_n 0, 1), (.aload_n 0, 1), (.getfield 38, 3), (.iconst 1, 1), (.iadd, 1), (.bipush 64, 2), (.irem, 1), (.putfield 38, 3), (.aload_n 0, 1), (.dup, 1), (.getfield 34, 3), (.iconst 1, 1), (.isub, 1), (.putfield 34, 3), (.iinc 1 1, 3), (.goto (-104), 3)] = true := by decide +kernel
theorem ok_Input_take_115 : okb prog_4_method_4_code 115 [(.iload_n 1, 1), (.ireturn, 1)] = true := by decide +kernel
set_option maxRecDepth 100000 in
def b_Input_take_54 (G : GT) (k8 : Nat → Int32 → Int32 → PH → Option (Int32 × PH)) (l0 : Nat) (l1 : Int32) (s0 : Int32) (M : PH) : Option (Int32 × PH) :=
  if hT M l0 = 2 then (hR M 400 l0).bind fun a2 => if hT M a2 = 16 then if ib (hI M 403 l0) (hN M a2) = true then (hR M 401 l0).bind fun a5 => if hT M a5 = 16 then if ib (hI M 403 l0) (hN M a5) = true then (hR M 402 l0).bind fun a8 => if hT M a8 = 16 then if ib (hI M 403 l0) (hN M a8) = true then bV (f_Input_take2 G l0 (hA M a2 (hI M 403 l0).toNatClampNeg) (hA M a5 (hI M 403 l0).toNatClampNeg) (hA M a8 (hI M 403 l0).toNatClampNeg) M) fun M11 => (if hT M11 l0 = 2 then if (64 : Int32) = 0 then none else hb (sI M11 403 l0 (((hI M11 403 l0) + (1 : Int32)) - ((hI M11 403 l0) + (1 : Int32)) / (64 : Int32) * (64 : Int32))) fun M14 => hb (sI M14 404 l0 ((hI M14 404 l0) - (1 : Int32))) fun M17 => k8 l0 (l1 + (1 : Int32)) s0 M17 else none) else none else none else none else none else none else none else none
set_option maxRecDepth 100000 in
set_option maxHeartbeats 4000000 in
theorem t_Input_take_54 {G : GT} {k8 : Nat → Int32 → Int32 → PH → Option (Int32 × PH)} (hk8 : ∀ (l0 : Nat) (l1 : Int32) (l2 : Int32) (M : PH), VX G mi_Input_take 1 15 8 [some (.ref l0), some (.int l1), some (.int l2)] [] M qI (k8 l0 l1 l2 M)) (l0 : Nat) (l1 : Int32) (s0 : Int32) (M : PH) : VX G mi_Input_take 1 15 54 [some (.ref l0), some (.int l1), none] [.int s0] M qI (b_Input_take_54 G k8 l0 l1 s0 M) := by
  unfold b_Input_take_54
  refine V_open ok_Input_take_54 ?_
  refine S_in [some (.ref l0), some (.int l1), some (.int s0)] (by decide) rfl ?_
  refine B_aload_n rfl ?_
  refine B_aload_n rfl ?_
  refine B_chk (fun t1 => ?_)
  refine K_getR 2 0 400 lf_Input_11 rfl rfl t1 (fun a2 r3 => ?_)
  refine B_aload_n rfl ?_
  refine K_getI 2 3 403 lf_Input_38 rfl rfl t1 ?_
  refine B_chk (fun t4 => ?_)
  refine K_iald t4 ?_
  refine B_aload_n rfl ?_
  refine K_getR 2 1 401 lf_Input_15 rfl rfl t1 (fun a5 r6 => ?_)
  refine B_aload_n rfl ?_
  refine K_getI 2 3 403 lf_Input_38 rfl rfl t1 ?_
  refine B_chk (fun t7 => ?_)
  refine K_iald t7 ?_
  refine B_aload_n rfl ?_
  refine K_getR 2 2 402 lf_Input_18 rfl rfl t1 (fun a8 r9 => ?_)
  refine B_aload_n rfl ?_
  refine K_getI 2 3 403 lf_Input_38 rfl rfl t1 ?_
  refine B_chk (fun t10 => ?_)
  refine K_iald t10 ?_
  refine C_V (vs := [.ref l0, .int (hA M a2 (hI M 403 l0).toNatClampNeg), .int (hA M a5 (hI M 403 l0).toNatClampNeg), .int (hA M a8 (hI M 403 l0).toNatClampNeg)]) (st := []) (ci_V lv_Input_57 rfl rfl t1) rfl rfl rfl (s_Input_take2 l0 (hA M a2 (hI M 403 l0).toNatClampNeg) (hA M a5 (hI M 403 l0).toNatClampNeg) (hA M a8 (hI M 403 l0).toNatClampNeg) M) (fun M11 => ?_)
  refine B_aload_n rfl ?_
  refine B_aload_n rfl ?_
  refine B_chk (fun t12 => ?_)
  refine K_getI 2 3 403 lf_Input_38 rfl rfl t12 ?_
  refine B_iconst (1 : Int32) ic_1 ?_
  refine B_iadd ?_
  refine B_bipush (64 : Int32) bp_64 ?_
  refine B_irem ?_
  refine K_putI 2 3 403 lf_Input_38 rfl (Or.inl rfl) rfl t12 (fun M14 e13 => ?_)
  refine B_aload_n rfl ?_
  refine B_dup rfl ?_
  have h15 : hT M14 l0 = 2 := by rw [e13]; exact t12
  refine K_getI 2 4 404 lf_Input_34 rfl rfl h15 ?_
  refine B_iconst (1 : Int32) ic_1 ?_
  refine B_isub ?_
  refine K_putI 2 4 404 lf_Input_34 rfl (Or.inl rfl) rfl h15 (fun M17 e16 => ?_)
  refine S_inc (1 : Int32) [some (.ref l0), some (.int (l1 + (1 : Int32))), some (.int s0)] ic_1 rfl (by decide) rfl ?_
  refine B_goto (tgt := 8) (by decide) ?_
  exact V_weak (ls' := [some (.ref l0), some (.int (l1 + (1 : Int32))), some (.int s0)]) ⟨rfl, ⟨rfl, ⟨rfl, trivial⟩⟩⟩ (hk8 l0 (l1 + (1 : Int32)) s0 M17)
set_option maxRecDepth 100000 in
def b_Input_take_49 (G : GT) (k8 : Nat → Int32 → Int32 → PH → Option (Int32 × PH)) (l0 : Nat) (l1 : Int32) (M : PH) : Option (Int32 × PH) :=
  b_Input_take_54 G k8 l0 l1 (1 : Int32) M
set_option maxRecDepth 100000 in
set_option maxHeartbeats 4000000 in
theorem t_Input_take_49 {G : GT} {k8 : Nat → Int32 → Int32 → PH → Option (Int32 × PH)} (hk8 : ∀ (l0 : Nat) (l1 : Int32) (l2 : Int32) (M : PH), VX G mi_Input_take 1 15 8 [some (.ref l0), some (.int l1), some (.int l2)] [] M qI (k8 l0 l1 l2 M)) (l0 : Nat) (l1 : Int32) (M : PH) : VX G mi_Input_take 1 15 49 [some (.ref l0), some (.int l1), none] [] M qI (b_Input_take_49 G k8 l0 l1 M) := by
  unfold b_Input_take_49
  refine V_open ok_Input_take_49 ?_
  refine B_iconst (1 : Int32) ic_1 ?_
  refine B_goto (tgt := 54) (by decide) ?_
  exact V_weak (ls' := [some (.ref l0), some (.int l1), none]) ⟨rfl, ⟨rfl, trivial⟩⟩ (t_Input_take_54 hk8 l0 l1 (1 : Int32) M)
set_option maxRecDepth 100000 in
def b_Input_take_32 (G : GT) (k8 : Nat → Int32 → Int32 → PH → Option (Int32 × PH)) (l0 : Nat) (l1 : Int32) (l2 : Int32) (M : PH) : Option (Int32 × PH) :=
  if ¬ l2 = 0 then (b_Input_take_49 G k8 l0 l1 M) else (if hT M l0 = 2 then (hR M 400 l0).bind fun a2 => if hT M a2 = 16 then if ib (hI M 403 l0) (hN M a2) = true then if ¬ hA M a2 (hI M 403 l0).toNatClampNeg = (1 : Int32) then (b_Input_take_54 G k8 l0 l1 (0 : Int32) M) else (b_Input_take_49 G k8 l0 l1 M) else none else none else none)
set_option maxRecDepth 100000 in
set_option maxHeartbeats 4000000 in
theorem t_Input_take_32 {G : GT} {k8 : Nat → Int32 → Int32 → PH → Option (Int32 × PH)} (hk8 : ∀ (l0 : Nat) (l1 : Int32) (l2 : Int32) (M : PH), VX G mi_Input_take 1 15 8 [some (.ref l0), some (.int l1), some (.int l2)] [] M qI (k8 l0 l1 l2 M)) (l0 : Nat) (l1 : Int32) (l2 : Int32) (M : PH) : VX G mi_Input_take 1 15 32 [some (.ref l0), some (.int l1), some (.int l2)] [] M qI (b_Input_take_32 G k8 l0 l1 l2 M) := by
  unfold b_Input_take_32
  refine V_open ok_Input_take_32 ?_
  refine B_iload_n rfl ?_
  refine B_ne (tgt := 49) (by decide) ?_ ?_
  · skip
    exact V_weak (ls' := [some (.ref l0), some (.int l1), none]) ⟨rfl, ⟨rfl, trivial⟩⟩ (t_Input_take_49 hk8 l0 l1 M)
  · skip
    refine B_aload_n rfl ?_
    refine B_chk (fun t1 => ?_)
    refine K_getR 2 0 400 lf_Input_11 rfl rfl t1 (fun a2 r3 => ?_)
    refine B_aload_n rfl ?_
    refine K_getI 2 3 403 lf_Input_38 rfl rfl t1 ?_
    refine B_chk (fun t4 => ?_)
    refine K_iald t4 ?_
    refine B_iconst (1 : Int32) ic_1 ?_
    refine B_ine (tgt := 53) (by decide) ?_ ?_
    · skip
      refine V_open ok_Input_take_53 ?_
      refine B_iconst (0 : Int32) ic_0 ?_
      refine V_close ?_
      exact V_weak (ls' := [some (.ref l0), some (.int l1), none]) ⟨rfl, ⟨rfl, trivial⟩⟩ (t_Input_take_54 hk8 l0 l1 (0 : Int32) M)
    · skip
      refine V_close ?_
      exact V_weak (ls' := [some (.ref l0), some (.int l1), none]) ⟨rfl, ⟨rfl, trivial⟩⟩ (t_Input_take_49 hk8 l0 l1 M)
set_option maxRecDepth 100000 in
def b_Input_take_8 (G : GT) (k8 : Nat → Int32 → Int32 → PH → Option (Int32 × PH)) (l0 : Nat) (l1 : Int32) (l2 : Int32) (M : PH) : Option (Int32 × PH) :=
  if hT M l0 = 2 then if hI M 404 l0 ≤ 0 then (some (l1, M)) else (if l2 = 0 then (b_Input_take_32 G k8 l0 l1 l2 M) else ((hR M 400 l0).bind fun a2 => if hT M a2 = 16 then if ib (hI M 403 l0) (hN M a2) = true then if hA M a2 (hI M 403 l0).toNatClampNeg ≤ (1 : Int32) then (some (l1, M)) else (b_Input_take_32 G k8 l0 l1 l2 M) else none else none)) else none
set_option maxRecDepth 100000 in
set_option maxHeartbeats 4000000 in
theorem t_Input_take_8 {G : GT} {k8 : Nat → Int32 → Int32 → PH → Option (Int32 × PH)} (hk8 : ∀ (l0 : Nat) (l1 : Int32) (l2 : Int32) (M : PH), VX G mi_Input_take 1 15 8 [some (.ref l0), some (.int l1), some (.int l2)] [] M qI (k8 l0 l1 l2 M)) (l0 : Nat) (l1 : Int32) (l2 : Int32) (M : PH) : VX G mi_Input_take 1 15 8 [some (.ref l0), some (.int l1), some (.int l2)] [] M qI (b_Input_take_8 G k8 l0 l1 l2 M) := by
  unfold b_Input_take_8
  refine V_open ok_Input_take_8 ?_
  refine B_aload_n rfl ?_
  refine B_chk (fun t1 => ?_)
  refine K_getI 2 4 404 lf_Input_34 rfl rfl t1 ?_
  refine B_le (tgt := 115) (by decide) ?_ ?_
  · skip
    refine V_open ok_Input_take_115 ?_
    refine B_iload_n rfl ?_
    exact B_iret rfl
  · skip
    refine B_iload_n rfl ?_
    refine B_eq (tgt := 32) (by decide) ?_ ?_
    · skip
      exact V_weak (ls' := [some (.ref l0), some (.int l1), some (.int l2)]) ⟨rfl, ⟨rfl, ⟨rfl, trivial⟩⟩⟩ (t_Input_take_32 hk8 l0 l1 l2 M)
    · skip
      refine B_aload_n rfl ?_
      refine K_getR 2 0 400 lf_Input_11 rfl rfl t1 (fun a2 r3 => ?_)
      refine B_aload_n rfl ?_
      refine K_getI 2 3 403 lf_Input_38 rfl rfl t1 ?_
      refine B_chk (fun t4 => ?_)
      refine K_iald t4 ?_
      refine B_iconst (1 : Int32) ic_1 ?_
      refine B_ile (tgt := 115) (by decide) ?_ ?_
      · skip
        refine V_open ok_Input_take_115 ?_
        refine B_iload_n rfl ?_
        exact B_iret rfl
      · skip
        refine V_close ?_
        exact V_weak (ls' := [some (.ref l0), some (.int l1), some (.int l2)]) ⟨rfl, ⟨rfl, ⟨rfl, trivial⟩⟩⟩ (t_Input_take_32 hk8 l0 l1 l2 M)
set_option maxRecDepth 100000 in
def w_Input_take_8 (G : GT) : Nat → Nat → Int32 → Int32 → PH → Option (Int32 × PH)
  | 0 => fun _ _ _ _ => none
  | n + 1 => b_Input_take_8 G (w_Input_take_8 G n)
set_option maxRecDepth 100000 in
set_option maxHeartbeats 4000000 in
theorem tw_Input_take_8 {G : GT} : ∀ (n : Nat) (l0 : Nat) (l1 : Int32) (l2 : Int32) (M : PH), VX G mi_Input_take 1 15 8 [some (.ref l0), some (.int l1), some (.int l2)] [] M qI (w_Input_take_8 G n l0 l1 l2 M)
  | 0, _, _, _, _ => X_none
  | n + 1, l0, l1, l2, M => t_Input_take_8 (tw_Input_take_8 n) l0 l1 l2 M
set_option maxRecDepth 100000 in
def f_Input_take (G : GT) (l0 : Nat) (M : PH) : Option (Int32 × PH) :=
  if hT M l0 = 2 then bV (f_Input_clear G l0 M) fun M2 => (w_Input_take_8 G FU l0 (0 : Int32) (0 : Int32) M2) else none
set_option maxRecDepth 100000 in
set_option maxHeartbeats 4000000 in
theorem s_Input_take {G : GT} (l0 : Nat) (M : PH) : VX G mi_Input_take 1 15 0 [some (.ref l0), none, none] [] M qI (f_Input_take G l0 M) := by
  unfold f_Input_take
  refine V_open ok_Input_take_0 ?_
  refine B_aload_n rfl ?_
  refine B_chk (fun t1 => ?_)
  refine C_V (vs := [.ref l0]) (st := []) (ci_V lv_Input_54 rfl rfl t1) rfl rfl rfl (s_Input_clear l0 M) (fun M2 => ?_)
  refine B_iconst (0 : Int32) ic_0 ?_
  refine S_in [some (.ref l0), some (.int (0 : Int32)), none] (by decide) rfl ?_
  refine B_iconst (0 : Int32) ic_0 ?_
  refine S_in [some (.ref l0), some (.int (0 : Int32)), some (.int (0 : Int32))] (by decide) rfl ?_
  refine V_close ?_
  exact V_weak (ls' := [some (.ref l0), some (.int (0 : Int32)), some (.int (0 : Int32))]) ⟨rfl, ⟨rfl, ⟨rfl, trivial⟩⟩⟩ (tw_Input_take_8 FU l0 (0 : Int32) (0 : Int32) M2)

-- Rect_has
theorem ok_Rect_has_0 : okb prog_8_method_5_code 0 [(.aload_n 0, 1), (.getfield 7, 3), (.iload_n 1, 1), (.if_icmp .gt 31, 3), (.iload_n 1, 1), (.aload_n 0, 1), (.getfield 16, 3), (.if_icmp .ge 23, 3), (.aload_n 0, 1), (.getfield 13, 3), (.iload_n 2, 1), (.if_icmp .gt 15, 3), (.iload_n 2, 1), (.aload_n 0, 1), (.getfield 19, 3), (.if_icmp .ge 7, 3), (.iconst 1, 1), (.goto 4, 3)] = true := by decide +kernel
theorem ok_Rect_has_36 : okb prog_8_method_5_code 36 [(.iconst 0, 1), (.ireturn, 1)] = true := by decide +kernel
theorem ok_Rect_has_37 : okb prog_8_method_5_code 37 [(.ireturn, 1)] = true := by decide +kernel
set_option maxRecDepth 100000 in
def f_Rect_has (G : GT) (l0 : Nat) (l1 : Int32) (l2 : Int32) (M : PH) : Option (Int32 × PH) :=
  if hT M l0 = 1 then if l1 < hI M 200 l0 then (some ((0 : Int32), M)) else (if hI M 202 l0 ≤ l1 then (some ((0 : Int32), M)) else (if l2 < hI M 201 l0 then (some ((0 : Int32), M)) else (if hI M 203 l0 ≤ l2 then (some ((0 : Int32), M)) else (some ((1 : Int32), M))))) else none
set_option maxRecDepth 100000 in
set_option maxHeartbeats 4000000 in
theorem s_Rect_has {G : GT} (l0 : Nat) (l1 : Int32) (l2 : Int32) (M : PH) : VX G mi_Rect_has 0 0 0 [some (.ref l0), some (.int l1), some (.int l2)] [] M qI (f_Rect_has G l0 l1 l2 M) := by
  unfold f_Rect_has
  refine V_open ok_Rect_has_0 ?_
  refine B_aload_n rfl ?_
  refine B_chk (fun t1 => ?_)
  refine K_getI 1 0 200 lf_Rect_7 rfl rfl t1 ?_
  refine B_iload_n rfl ?_
  refine B_igt (tgt := 36) (by decide) ?_ ?_
  · skip
    refine V_open ok_Rect_has_36 ?_
    refine B_iconst (0 : Int32) ic_0 ?_
    exact Z_ret rfl (Or.inl rfl)
  · skip
    refine B_iload_n rfl ?_
    refine B_aload_n rfl ?_
    refine K_getI 1 2 202 lf_Rect_16 rfl rfl t1 ?_
    refine B_ige (tgt := 36) (by decide) ?_ ?_
    · skip
      refine V_open ok_Rect_has_36 ?_
      refine B_iconst (0 : Int32) ic_0 ?_
      exact Z_ret rfl (Or.inl rfl)
    · skip
      refine B_aload_n rfl ?_
      refine K_getI 1 1 201 lf_Rect_13 rfl rfl t1 ?_
      refine B_iload_n rfl ?_
      refine B_igt (tgt := 36) (by decide) ?_ ?_
      · skip
        refine V_open ok_Rect_has_36 ?_
        refine B_iconst (0 : Int32) ic_0 ?_
        exact Z_ret rfl (Or.inl rfl)
      · skip
        refine B_iload_n rfl ?_
        refine B_aload_n rfl ?_
        refine K_getI 1 3 203 lf_Rect_19 rfl rfl t1 ?_
        refine B_ige (tgt := 36) (by decide) ?_ ?_
        · skip
          refine V_open ok_Rect_has_36 ?_
          refine B_iconst (0 : Int32) ic_0 ?_
          exact Z_ret rfl (Or.inl rfl)
        · skip
          refine B_iconst (1 : Int32) ic_1 ?_
          refine B_goto (tgt := 37) (by decide) ?_
          refine V_open ok_Rect_has_37 ?_
          exact Z_ret rfl (Or.inr rfl)

-- PF_underMouse
theorem ok_PF_underMouse_0 : okb prog_1_method_11_code 0 [(.aload_n 0, 1), (.getfield 32, 3), (.bipush 8, 2), (.aaload, 1), (.astore_n 1, 1), (.aload_n 0, 1), (.getfield 50, 3), (.ifCond .lt 54, 3), (.aload_n 1, 1), (.getfield 123, 3), (.ifCond .eq 47, 3), (.aload_n 1, 1), (.getfield 182, 3), (.aload_n 0, 1), (.getfield 10, 3), (.getfield 141, 3), (.aload_n 0, 1), (.getfield 10, 3), (.getfield 147, 3), (.invokevirtual 162, 3), (.ifCond .eq 6, 3), (.bipush 8, 2), (.ireturn, 1)] = true := by decide +kernel
theorem ok_PF_underMouse_49 : okb prog_1_method_11_code 49 [(.aload_n 0, 1), (.getfield 10, 3), (.getfield 138, 3), (.ifCond .eq 8, 3), (.aload_n 0, 1), (.iconst (-1), 1), (.putfield 50, 3), (.iconst (-1), 1), (.ireturn, 1)] = true := by decide +kernel
theorem ok_PF_underMouse_64 : okb prog_1_method_11_code 64 [(.iconst (-1), 1), (.ireturn, 1)] = true := by decide +kernel
theorem ok_PF_underMouse_66 : okb prog_1_method_11_code 66 [(.bipush 7, 2), (.istore_n 2, 1)] = true := by decide +kernel
theorem ok_PF_underMouse_69 : okb prog_1_method_11_code 69 [(.iload_n 2, 1), (.ifCond .lt 67, 3), (.aload_n 0, 1), (.getfield 32, 3), (.aload_n 0, 1), (.getfield 36, 3), (.iload_n 2, 1), (.iaload, 1), (.aaload, 1), (.getfield 123, 3), (.ifCond .eq 44, 3), (.aload_n 0, 1), (.getfield 32, 3), (.aload_n 0, 1), (.getfield 36, 3), (.iload_n 2, 1), (.iaload, 1), (.aaload, 1), (.getfield 182, 3), (.aload_n 0, 1), (.getfield 10, 3), (.getfield 141, 3), (.aload_n 0, 1), (.getfield 10, 3), (.getfield 147, 3), (.invokevirtual 162, 3), (.ifCond .eq 10, 3), (.aload_n 0, 1), (.getfield 36, 3), (.iload_n 2, 1), (.iaload, 1), (.ireturn, 1)] = true := by decide +kernel
theorem ok_PF_underMouse_131 : okb prog_1_method_11_code 131 [(.iinc 2 (-1), 3), (.goto (-65), 3)] = true := by decide +kernel
theorem ok_PF_underMouse_137 : okb prog_1_method_11_code 137 [(.iconst (-1), 1), (.ireturn, 1)] = true := by decide +kernel
set_option maxRecDepth 100000 in
def b_PF_underMouse_131 (G : GT) (k69 : Nat → Int32 → PH → Option (Int32 × PH)) (l0 : Nat) (l2 : Int32) (M : PH) : Option (Int32 × PH) :=
  k69 l0 (l2 + (-1 : Int32)) M
set_option maxRecDepth 100000 in
set_option maxHeartbeats 4000000 in
theorem t_PF_underMouse_131 {G : GT} {k69 : Nat → Int32 → PH → Option (Int32 × PH)} (hk69 : ∀ (l0 : Nat) (l2 : Int32) (M : PH), VX G mi_PF_underMouse 1 14 69 [some (.ref l0), none, some (.int l2)] [] M qI (k69 l0 l2 M)) (l0 : Nat) (l2 : Int32) (M : PH) : VX G mi_PF_underMouse 1 14 131 [some (.ref l0), none, some (.int l2)] [] M qI (b_PF_underMouse_131 G k69 l0 l2 M) := by
  unfold b_PF_underMouse_131
  refine V_open ok_PF_underMouse_131 ?_
  refine S_inc (-1 : Int32) [some (.ref l0), none, some (.int (l2 + (-1 : Int32)))] ic_m1 rfl (by decide) rfl ?_
  refine B_goto (tgt := 69) (by decide) ?_
  exact V_weak (ls' := [some (.ref l0), none, some (.int (l2 + (-1 : Int32)))]) ⟨rfl, ⟨rfl, trivial⟩⟩ (hk69 l0 (l2 + (-1 : Int32)) M)
set_option maxRecDepth 100000 in
def b_PF_underMouse_69 (G : GT) (k69 : Nat → Int32 → PH → Option (Int32 × PH)) (l0 : Nat) (l2 : Int32) (M : PH) : Option (Int32 × PH) :=
  if l2 < 0 then (some ((-1 : Int32), M)) else (if hT M l0 = 10 then (hR M 2003 l0).bind fun a2 => (hR M 2004 l0).bind fun a4 => if hT M a4 = 16 then if ib l2 (hN M a4) = true then if hT M a2 = 20 then if ib (hA M a4 l2.toNatClampNeg) (hN M a2) = true then (hX M a2 (hA M a4 l2.toNatClampNeg).toNatClampNeg).bind fun a8 => (if hT M a8 = 7 then if hI M 1409 a8 = 0 then (b_PF_underMouse_131 G k69 l0 l2 M) else (if ib l2 (hN M a4) = true then if ib (hA M a4 l2.toNatClampNeg) (hN M a2) = true then (hX M a2 (hA M a4 l2.toNatClampNeg).toNatClampNeg).bind fun a10 => (if hT M a10 = 7 then (hR M 1401 a10).bind fun a12 => (hR M 2000 l0).bind fun a14 => if hT M a14 = 2 then if hT M a12 = 1 then bI (f_Rect_has G a12 (hI M 405 a14) (hI M 406 a14) M) fun v19 M18 => (if v19 = 0 then (b_PF_underMouse_131 G k69 l0 l2 M18) else (if hT M18 l0 = 10 then (hR M18 2004 l0).bind fun a21 => if hT M18 a21 = 16 then if ib l2 (hN M18 a21) = true then some (hA M18 a21 l2.toNatClampNeg, M18) else none else none else none)) else none else none else none) else none else none) else none) else none else none else none else none else none)
set_option maxRecDepth 100000 in
set_option maxHeartbeats 4000000 in
theorem t_PF_underMouse_69 {G : GT} {k69 : Nat → Int32 → PH → Option (Int32 × PH)} (hk69 : ∀ (l0 : Nat) (l2 : Int32) (M : PH), VX G mi_PF_underMouse 1 14 69 [some (.ref l0), none, some (.int l2)] [] M qI (k69 l0 l2 M)) (l0 : Nat) (l2 : Int32) (M : PH) : VX G mi_PF_underMouse 1 14 69 [some (.ref l0), none, some (.int l2)] [] M qI (b_PF_underMouse_69 G k69 l0 l2 M) := by
  unfold b_PF_underMouse_69
  refine V_open ok_PF_underMouse_69 ?_
  refine B_iload_n rfl ?_
  refine B_lt (tgt := 137) (by decide) ?_ ?_
  · skip
    refine V_open ok_PF_underMouse_137 ?_
    refine B_iconst (-1 : Int32) ic_m1 ?_
    exact B_iret rfl
  · skip
    refine B_aload_n rfl ?_
    refine B_chk (fun t1 => ?_)
    refine K_getR 10 3 2003 lf_PF_32 rfl rfl t1 (fun a2 r3 => ?_)
    refine B_aload_n rfl ?_
    refine K_getR 10 4 2004 lf_PF_36 rfl rfl t1 (fun a4 r5 => ?_)
    refine B_iload_n rfl ?_
    refine B_chk (fun t6 => ?_)
    refine K_iald t6 ?_
    refine B_chk (fun t7 => ?_)
    refine K_aald 20 rfl t7 (fun a8 => ?_)
    refine B_chk (fun t9 => ?_)
    refine K_getI 7 9 1409 lf_PF_123 rfl rfl t9 ?_
    refine B_eq (tgt := 131) (by decide) ?_ ?_
    · skip
      exact V_weak (ls' := [some (.ref l0), none, some (.int l2)]) ⟨rfl, ⟨rfl, trivial⟩⟩ (t_PF_underMouse_131 hk69 l0 l2 M)
    · skip
      refine B_aload_n rfl ?_
      refine K_getRk 10 3 2003 lf_PF_32 rfl rfl t1 r3 ?_
      refine B_aload_n rfl ?_
      refine K_getRk 10 4 2004 lf_PF_36 rfl rfl t1 r5 ?_
      refine B_iload_n rfl ?_
      refine K_iald t6 ?_
      refine K_aald 20 rfl t7 (fun a10 => ?_)
      refine B_chk (fun t11 => ?_)
      refine K_getR 7 1 1401 lf_PF_182 rfl rfl t11 (fun a12 r13 => ?_)
      refine B_aload_n rfl ?_
      refine K_getR 10 0 2000 lf_PF_10 rfl rfl t1 (fun a14 r15 => ?_)
      refine B_chk (fun t16 => ?_)
      refine K_getI 2 5 405 lf_PF_141 rfl rfl t16 ?_
      refine B_aload_n rfl ?_
      refine K_getRk 10 0 2000 lf_PF_10 rfl rfl t1 r15 ?_
      refine K_getI 2 6 406 lf_PF_147 rfl rfl t16 ?_
      refine B_chk (fun t17 => ?_)
      refine C_I (vs := [.ref a12, .int (hI M 405 a14), .int (hI M 406 a14)]) (st := []) (ci_V lv_PF_162 rfl rfl t17) rfl rfl rfl (s_Rect_has a12 (hI M 405 a14) (hI M 406 a14) M) (fun v19 M18 => ?_)
      refine B_eq (tgt := 131) (by decide) ?_ ?_
      · skip
        exact V_weak (ls' := [some (.ref l0), none, some (.int l2)]) ⟨rfl, ⟨rfl, trivial⟩⟩ (t_PF_underMouse_131 hk69 l0 l2 M18)
      · skip
        refine B_aload_n rfl ?_
        refine B_chk (fun t20 => ?_)
        refine K_getR 10 4 2004 lf_PF_36 rfl rfl t20 (fun a21 r22 => ?_)
        refine B_iload_n rfl ?_
        refine B_chk (fun t23 => ?_)
        refine K_iald t23 ?_
        exact B_iret rfl
set_option maxRecDepth 100000 in
def w_PF_underMouse_69 (G : GT) : Nat → Nat → Int32 → PH → Option (Int32 × PH)
  | 0 => fun _ _ _ => none
  | n + 1 => b_PF_underMouse_69 G (w_PF_underMouse_69 G n)
set_option maxRecDepth 100000 in
set_option maxHeartbeats 4000000 in
theorem tw_PF_underMouse_69 {G : GT} : ∀ (n : Nat) (l0 : Nat) (l2 : Int32) (M : PH), VX G mi_PF_underMouse 1 14 69 [some (.ref l0), none, some (.int l2)] [] M qI (w_PF_underMouse_69 G n l0 l2 M)
  | 0, _, _, _ => X_none
  | n + 1, l0, l2, M => t_PF_underMouse_69 (tw_PF_underMouse_69 n) l0 l2 M
set_option maxRecDepth 100000 in
def b_PF_underMouse_66 (G : GT) (l0 : Nat) (M : PH) : Option (Int32 × PH) :=
  w_PF_underMouse_69 G FU l0 (7 : Int32) M
set_option maxRecDepth 100000 in
set_option maxHeartbeats 4000000 in
theorem t_PF_underMouse_66 {G : GT} (l0 : Nat) (M : PH) : VX G mi_PF_underMouse 1 14 66 [some (.ref l0), none, none] [] M qI (b_PF_underMouse_66 G l0 M) := by
  unfold b_PF_underMouse_66
  refine V_open ok_PF_underMouse_66 ?_
  refine B_bipush (7 : Int32) bp_7 ?_
  refine S_in [some (.ref l0), none, some (.int (7 : Int32))] (by decide) rfl ?_
  refine V_close ?_
  exact V_weak (ls' := [some (.ref l0), none, some (.int (7 : Int32))]) ⟨rfl, ⟨rfl, trivial⟩⟩ (tw_PF_underMouse_69 FU l0 (7 : Int32) M)
set_option maxRecDepth 100000 in
def f_PF_underMouse (G : GT) (l0 : Nat) (M : PH) : Option (Int32 × PH) :=
  if hT M l0 = 10 then (hR M 2003 l0).bind fun a2 => if hT M a2 = 20 then if 8 < hN M a2 then (hX M a2 8).bind fun a5 => (if hI M 2013 l0 < 0 then (b_PF_underMouse_66 G l0 M) else (if hT M a5 = 7 then if hI M 1409 a5 = 0 then (b_PF_underMouse_66 G l0 M) else ((hR M 1401 a5).bind fun a7 => (hR M 2000 l0).bind fun a9 => if hT M a9 = 2 then if hT M a7 = 1 then bI (f_Rect_has G a7 (hI M 405 a9) (hI M 406 a9) M) fun v14 M13 => (if v14 = 0 then (if hT M13 l0 = 10 then (hR M13 2000 l0).bind fun a16 => if hT M13 a16 = 2 then if hI M13 410 a16 = 0 then (some ((-1 : Int32), M13)) else (hb (sI M13 2013 l0 (-1 : Int32)) fun M20 => some ((-1 : Int32), M20)) else none else none) else (some ((8 : Int32), M13))) else none else none) else none)) else none else none else none
set_option maxRecDepth 100000 in
set_option maxHeartbeats 4000000 in
theorem s_PF_underMouse {G : GT} (l0 : Nat) (M : PH) : VX G mi_PF_underMouse 1 14 0 [some (.ref l0), none, none] [] M qI (f_PF_underMouse G l0 M) := by
  unfold f_PF_underMouse
  refine V_open ok_PF_underMouse_0 ?_
  refine B_aload_n rfl ?_
  refine B_chk (fun t1 => ?_)
  refine K_getR 10 3 2003 lf_PF_32 rfl rfl t1 (fun a2 r3 => ?_)
  refine B_bipush (8 : Int32) bp_8 ?_
  refine B_chk (fun t4 => ?_)
  refine K_aaldc 20 8 rfl rfl t4 (fun a5 => ?_)
  refine S_an [some (.ref l0), some (.ref a5), none] (by decide) rfl ?_
  refine B_aload_n rfl ?_
  refine K_getI 10 13 2013 lf_PF_50 rfl rfl t1 ?_
  refine B_lt (tgt := 66) (by decide) ?_ ?_
  · skip
    exact V_weak (ls' := [some (.ref l0), none, none]) ⟨rfl, trivial⟩ (t_PF_underMouse_66 l0 M)
  · skip
    refine B_aload_n rfl ?_
    refine B_chk (fun t6 => ?_)
    refine K_getI 7 9 1409 lf_PF_123 rfl rfl t6 ?_
    refine B_eq (tgt := 66) (by decide) ?_ ?_
    · skip
      exact V_weak (ls' := [some (.ref l0), none, none]) ⟨rfl, trivial⟩ (t_PF_underMouse_66 l0 M)
    · skip
      refine B_aload_n rfl ?_
      refine K_getR 7 1 1401 lf_PF_182 rfl rfl t6 (fun a7 r8 => ?_)
      refine B_aload_n rfl ?_
      refine K_getR 10 0 2000 lf_PF_10 rfl rfl t1 (fun a9 r10 => ?_)
      refine B_chk (fun t11 => ?_)
      refine K_getI 2 5 405 lf_PF_141 rfl rfl t11 ?_
      refine B_aload_n rfl ?_
      refine K_getRk 10 0 2000 lf_PF_10 rfl rfl t1 r10 ?_
      refine K_getI 2 6 406 lf_PF_147 rfl rfl t11 ?_
      refine B_chk (fun t12 => ?_)
      refine C_I (vs := [.ref a7, .int (hI M 405 a9), .int (hI M 406 a9)]) (st := []) (ci_V lv_PF_162 rfl rfl t12) rfl rfl rfl (s_Rect_has a7 (hI M 405 a9) (hI M 406 a9) M) (fun v14 M13 => ?_)
      refine B_eq (tgt := 49) (by decide) ?_ ?_
      · skip
        refine V_open ok_PF_underMouse_49 ?_
        refine B_aload_n rfl ?_
        refine B_chk (fun t15 => ?_)
        refine K_getR 10 0 2000 lf_PF_10 rfl rfl t15 (fun a16 r17 => ?_)
        refine B_chk (fun t18 => ?_)
        refine K_getI 2 10 410 lf_PF_138 rfl rfl t18 ?_
        refine B_eq (tgt := 64) (by decide) ?_ ?_
        · skip
          refine V_open ok_PF_underMouse_64 ?_
          refine B_iconst (-1 : Int32) ic_m1 ?_
          exact B_iret rfl
        · skip
          refine B_aload_n rfl ?_
          refine B_iconst (-1 : Int32) ic_m1 ?_
          refine K_putI 10 13 2013 lf_PF_50 rfl (Or.inl rfl) rfl t15 (fun M20 e19 => ?_)
          refine B_iconst (-1 : Int32) ic_m1 ?_
          exact B_iret rfl
      · skip
        refine B_bipush (8 : Int32) bp_8 ?_
        exact B_iret rfl

-- PF_toFront
theorem ok_PF_toFront_0 : okb prog_1_method_12_code 0 [(.iconst 0, 1), (.istore_n 2, 1)] = true := by decide +kernel
theorem ok_PF_toFront_2 : okb prog_1_method_12_code 2 [(.aload_n 0, 1), (.getfield 36, 3), (.iload_n 2, 1), (.iaload, 1), (.iload_n 1, 1), (.if_icmp .eq 9, 3), (.iinc 2 1, 3), (.goto (-13), 3)] = true := by decide +kernel
theorem ok_PF_toFront_18 : okb prog_1_method_12_code 18 [(.iload_n 2, 1), (.bipush 7, 2), (.if_icmp .ge 23, 3), (.aload_n 0, 1), (.getfield 36, 3), (.iload_n 2, 1), (.aload_n 0, 1), (.getfield 36, 3), (.iload_n 2, 1), (.iconst 1, 1), (.iadd, 1), (.iaload, 1), (.iastore, 1), (.iinc 2 1, 3), (.goto (-23), 3)] = true := by decide +kernel
theorem ok_PF_toFront_44 : okb prog_1_method_12_code 44 [(.aload_n 0, 1), (.getfield 36, 3), (.bipush 7, 2), (.iload_n 1, 1), (.iastore, 1), (.return_, 1)] = true := by decide +kernel
set_option maxRecDepth 100000 in
def b_PF_toFront_18 (G : GT) (k18 : Nat → Int32 → Int32 → PH → Option (PH)) (l0 : Nat) (l1 : Int32) (l2 : Int32) (M : PH) : Option (PH) :=
  if (7 : Int32) ≤ l2 then (if hT M l0 = 10 then (hR M 2004 l0).bind fun a2 => if hT M a2 = 16 then if 7 < hN M a2 then hb (sA M a2 7 l1) fun M6 => (some M6) else none else none else none) else (if hT M l0 = 10 then (hR M 2004 l0).bind fun a8 => if hT M a8 = 16 then if ib (l2 + (1 : Int32)) (hN M a8) = true then if ib l2 (hN M a8) = true then hb (sA M a8 l2.toNatClampNeg (hA M a8 (l2 + (1 : Int32)).toNatClampNeg)) fun M12 => (k18 l0 l1 (l2 + (1 : Int32)) M12) else none else none else none else none)
set_option maxRecDepth 100000 in
set_option maxHeartbeats 4000000 in
theorem t_PF_toFront_18 {G : GT} {k18 : Nat → Int32 → Int32 → PH → Option (PH)} (hk18 : ∀ (l0 : Nat) (l1 : Int32) (l2 : Int32) (M : PH), VX G mi_PF_toFront 0 0 18 [some (.ref l0), some (.int l1), some (.int l2)] [] M qV (k18 l0 l1 l2 M)) (l0 : Nat) (l1 : Int32) (l2 : Int32) (M : PH) : VX G mi_PF_toFront 0 0 18 [some (.ref l0), some (.int l1), some (.int l2)] [] M qV (b_PF_toFront_18 G k18 l0 l1 l2 M) := by
  unfold b_PF_toFront_18
  refine V_open ok_PF_toFront_18 ?_
  refine B_iload_n rfl ?_
  refine B_bipush (7 : Int32) bp_7 ?_
  refine B_ige (tgt := 44) (by decide) ?_ ?_
  · skip
    refine V_open ok_PF_toFront_44 ?_
    refine B_aload_n rfl ?_
    refine B_chk (fun t1 => ?_)
    refine K_getR 10 4 2004 lf_PF_36 rfl rfl t1 (fun a2 r3 => ?_)
    refine B_bipush (7 : Int32) bp_7 ?_
    refine B_iload_n rfl ?_
    refine B_chk (fun t4 => ?_)
    refine K_iastc 7 rfl t4 (fun M6 e5 => ?_)
    exact B_vret rfl
  · skip
    refine B_aload_n rfl ?_
    refine B_chk (fun t7 => ?_)
    refine K_getR 10 4 2004 lf_PF_36 rfl rfl t7 (fun a8 r9 => ?_)
    refine B_iload_n rfl ?_
    refine B_aload_n rfl ?_
    refine K_getRk 10 4 2004 lf_PF_36 rfl rfl t7 r9 ?_
    refine B_iload_n rfl ?_
    refine B_iconst (1 : Int32) ic_1 ?_
    refine B_iadd ?_
    refine B_chk (fun t10 => ?_)
    refine K_iald t10 ?_
    refine K_iast t10 (fun M12 e11 => ?_)
    refine S_inc (1 : Int32) [some (.ref l0), some (.int l1), some (.int (l2 + (1 : Int32)))] ic_1 rfl (by decide) rfl ?_
    refine B_goto (tgt := 18) (by decide) ?_
    exact V_weak (ls' := [some (.ref l0), some (.int l1), some (.int (l2 + (1 : Int32)))]) ⟨rfl, ⟨rfl, ⟨rfl, trivial⟩⟩⟩ (hk18 l0 l1 (l2 + (1 : Int32)) M12)
set_option maxRecDepth 100000 in
def w_PF_toFront_18 (G : GT) : Nat → Nat → Int32 → Int32 → PH → Option (PH)
  | 0 => fun _ _ _ _ => none
  | n + 1 => b_PF_toFront_18 G (w_PF_toFront_18 G n)
set_option maxRecDepth 100000 in
set_option maxHeartbeats 4000000 in
theorem tw_PF_toFront_18 {G : GT} : ∀ (n : Nat) (l0 : Nat) (l1 : Int32) (l2 : Int32) (M : PH), VX G mi_PF_toFront 0 0 18 [some (.ref l0), some (.int l1), some (.int l2)] [] M qV (w_PF_toFront_18 G n l0 l1 l2 M)
  | 0, _, _, _, _ => X_none
  | n + 1, l0, l1, l2, M => t_PF_toFront_18 (tw_PF_toFront_18 n) l0 l1 l2 M
set_option maxRecDepth 100000 in
def b_PF_toFront_2 (G : GT) (k2 : Nat → Int32 → Int32 → PH → Option (PH)) (l0 : Nat) (l1 : Int32) (l2 : Int32) (M : PH) : Option (PH) :=
  if hT M l0 = 10 then (hR M 2004 l0).bind fun a2 => if hT M a2 = 16 then if ib l2 (hN M a2) = true then if hA M a2 l2.toNatClampNeg = l1 then (w_PF_toFront_18 G FU l0 l1 l2 M) else (k2 l0 l1 (l2 + (1 : Int32)) M) else none else none else none
set_option maxRecDepth 100000 in
set_option maxHeartbeats 4000000 in
theorem t_PF_toFront_2 {G : GT} {k2 : Nat → Int32 → Int32 → PH → Option (PH)} (hk2 : ∀ (l0 : Nat) (l1 : Int32) (l2 : Int32) (M : PH), VX G mi_PF_toFront 0 0 2 [some (.ref l0), some (.int l1), some (.int l2)] [] M qV (k2 l0 l1 l2 M)) (l0 : Nat) (l1 : Int32) (l2 : Int32) (M : PH) : VX G mi_PF_toFront 0 0 2 [some (.ref l0), some (.int l1), some (.int l2)] [] M qV (b_PF_toFront_2 G k2 l0 l1 l2 M) := by
  unfold b_PF_toFront_2
  refine V_open ok_PF_toFront_2 ?_
  refine B_aload_n rfl ?_
  refine B_chk (fun t1 => ?_)
  refine K_getR 10 4 2004 lf_PF_36 rfl rfl t1 (fun a2 r3 => ?_)
  refine B_iload_n rfl ?_
  refine B_chk (fun t4 => ?_)
  refine K_iald t4 ?_
  refine B_iload_n rfl ?_
  refine B_ieq (tgt := 18) (by decide) ?_ ?_
  · skip
    exact V_weak (ls' := [some (.ref l0), some (.int l1), some (.int l2)]) ⟨rfl, ⟨rfl, ⟨rfl, trivial⟩⟩⟩ (tw_PF_toFront_18 FU l0 l1 l2 M)
  · skip
    refine S_inc (1 : Int32) [some (.ref l0), some (.int l1), some (.int (l2 + (1 : Int32)))] ic_1 rfl (by decide) rfl ?_
    refine B_goto (tgt := 2) (by decide) ?_
    exact V_weak (ls' := [some (.ref l0), some (.int l1), some (.int (l2 + (1 : Int32)))]) ⟨rfl, ⟨rfl, ⟨rfl, trivial⟩⟩⟩ (hk2 l0 l1 (l2 + (1 : Int32)) M)
set_option maxRecDepth 100000 in
def w_PF_toFront_2 (G : GT) : Nat → Nat → Int32 → Int32 → PH → Option (PH)
  | 0 => fun _ _ _ _ => none
  | n + 1 => b_PF_toFront_2 G (w_PF_toFront_2 G n)
set_option maxRecDepth 100000 in
set_option maxHeartbeats 4000000 in
theorem tw_PF_toFront_2 {G : GT} : ∀ (n : Nat) (l0 : Nat) (l1 : Int32) (l2 : Int32) (M : PH), VX G mi_PF_toFront 0 0 2 [some (.ref l0), some (.int l1), some (.int l2)] [] M qV (w_PF_toFront_2 G n l0 l1 l2 M)
  | 0, _, _, _, _ => X_none
  | n + 1, l0, l1, l2, M => t_PF_toFront_2 (tw_PF_toFront_2 n) l0 l1 l2 M
set_option maxRecDepth 100000 in
def f_PF_toFront (G : GT) (l0 : Nat) (l1 : Int32) (M : PH) : Option (PH) :=
  w_PF_toFront_2 G FU l0 l1 (0 : Int32) M
set_option maxRecDepth 100000 in
set_option maxHeartbeats 4000000 in
theorem s_PF_toFront {G : GT} (l0 : Nat) (l1 : Int32) (M : PH) : VX G mi_PF_toFront 0 0 0 [some (.ref l0), some (.int l1), none] [] M qV (f_PF_toFront G l0 l1 M) := by
  unfold f_PF_toFront
  refine V_open ok_PF_toFront_0 ?_
  refine B_iconst (0 : Int32) ic_0 ?_
  refine S_in [some (.ref l0), some (.int l1), some (.int (0 : Int32))] (by decide) rfl ?_
  refine V_close ?_
  exact V_weak (ls' := [some (.ref l0), some (.int l1), some (.int (0 : Int32))]) ⟨rfl, ⟨rfl, ⟨rfl, trivial⟩⟩⟩ (tw_PF_toFront_2 FU l0 l1 (0 : Int32) M)

-- PF_drag
theorem ok_PF_drag_0 : okb prog_1_method_13_code 0 [(.aload_n 0, 1), (.getfield 26, 3), (.getfield 185, 3), (.sipush 1000, 3), (.isub, 1), (.istore_n 1, 1), (.iload_n 1, 1), (.ifCond .lt 29, 3), (.iload_n 1, 1), (.bipush 8, 2), (.if_icmp .ge 23, 3), (.aload_n 0, 1), (.getfield 10, 3), (.getfield 188, 3), (.ifCond .eq 13, 3), (.aload_n 0, 1), (.getfield 10, 3), (.getfield 138, 3), (.ifCond .eq 4, 3), (.return_, 1)] = true := by decide +kernel
theorem ok_PF_drag_42 : okb prog_1_method_13_code 42 [(.return_, 1)] = true := by decide +kernel
theorem ok_PF_drag_43 : okb prog_1_method_13_code 43 [(.aload_n 0, 1), (.getfield 32, 3), (.iload_n 1, 1), (.aaload, 1), (.getfield 182, 3), (.astore_n 2, 1), (.aload_n 0, 1), (.getfield 10, 3), (.getfield 141, 3), (.aload_n 0, 1), (.getfield 166, 3), (.isub, 1), (.istore_n 3, 1), (.aload_n 0, 1), (.getfield 10, 3), (.getfield 147, 3), (.aload_n 0, 1), (.getfield 169, 3), (.isub, 1), (.istore 4, 2), (.aload_n 2, 1), (.aload_n 2, 1), (.getfield 191, 3), (.iload_n 3, 1), (.iadd, 1), (.aload_n 2, 1), (.getfield 194, 3), (.iload 4, 2), (.iadd, 1), (.aload_n 2, 1), (.getfield 197, 3), (.iload_n 3, 1), (.iadd, 1), (.aload_n 2, 1), (.getfield 200, 3), (.iload 4, 2), (.iadd, 1), (.invokevirtual 97, 3), (.return_, 1)] = true := by decide +kernel
set_option maxRecDepth 100000 in
def f_PF_drag (G : GT) (l0 : Nat) (M : PH) : Option (PH) :=
  if hT M l0 = 10 then (hR M 2002 l0).bind fun a2 => if hT M a2 = 9 then vb ((hI M 1800 a2) - (1000 : Int32)) fun v5 => if v5 < 0 then (some M) else (if (8 : Int32) ≤ v5 then (some M) else ((hR M 2000 l0).bind fun a6 => if hT M a6 = 2 then if hI M 409 a6 = 0 then (some M) else (if hI M 410 a6 = 0 then ((hR M 2003 l0).bind fun a9 => if hT M a9 = 20 then if ib v5 (hN M a9) = true then (hX M a9 v5.toNatClampNeg).bind fun a12 => (if hT M a12 = 7 then (hR M 1401 a12).bind fun a14 => vb ((hI M 405 a6) - (hI M 2011 l0)) fun v16 => vb ((hI M 406 a6) - (hI M 2012 l0)) fun v17 => if hT M a14 = 1 then bV (f_Rect_be G a14 ((hI M 200 a14) + v16) ((hI M 201 a14) + v17) ((hI M 202 a14) + v16) ((hI M 203 a14) + v17) M) fun M19 => (some M19) else none else none) else none else none) else (some M)) else none)) else none else none
set_option maxRecDepth 100000 in
set_option maxHeartbeats 4000000 in
theorem s_PF_drag {G : GT} (l0 : Nat) (M : PH) : VX G mi_PF_drag 1 16 0 [some (.ref l0), none, none, none, none] [] M qV (f_PF_drag G l0 M) := by
  unfold f_PF_drag
  refine V_open ok_PF_drag_0 ?_
  refine B_aload_n rfl ?_
  refine B_chk (fun t1 => ?_)
  refine K_getR 10 2 2002 lf_PF_26 rfl rfl t1 (fun a2 r3 => ?_)
  refine B_chk (fun t4 => ?_)
  refine K_getI 9 0 1800 lf_PF_185 rfl rfl t4 ?_
  refine B_sipush (1000 : Int32) sp_1000 ?_
  refine B_isub ?_
  refine B_vb (fun v5 => ?_)
  refine S_in [some (.ref l0), some (.int v5), none, none, none] (by decide) rfl ?_
  refine B_iload_n rfl ?_
  refine B_lt (tgt := 42) (by decide) ?_ ?_
  · skip
    refine V_open ok_PF_drag_42 ?_
    exact B_vret rfl
  · skip
    refine B_iload_n rfl ?_
    refine B_bipush (8 : Int32) bp_8 ?_
    refine B_ige (tgt := 42) (by decide) ?_ ?_
    · skip
      refine V_open ok_PF_drag_42 ?_
      exact B_vret rfl
    · skip
      refine B_aload_n rfl ?_
      refine K_getR 10 0 2000 lf_PF_10 rfl rfl t1 (fun a6 r7 => ?_)
      refine B_chk (fun t8 => ?_)
      refine K_getI 2 9 409 lf_PF_188 rfl rfl t8 ?_
      refine B_eq (tgt := 42) (by decide) ?_ ?_
      · skip
        refine V_open ok_PF_drag_42 ?_
        exact B_vret rfl
      · skip
        refine B_aload_n rfl ?_
        refine K_getRk 10 0 2000 lf_PF_10 rfl rfl t1 r7 ?_
        refine K_getI 2 10 410 lf_PF_138 rfl rfl t8 ?_
        refine B_eq (tgt := 43) (by decide) ?_ ?_
        · skip
          refine V_open ok_PF_drag_43 ?_
          refine B_aload_n rfl ?_
          refine K_getR 10 3 2003 lf_PF_32 rfl rfl t1 (fun a9 r10 => ?_)
          refine B_iload_n rfl ?_
          refine B_chk (fun t11 => ?_)
          refine K_aald 20 rfl t11 (fun a12 => ?_)
          refine B_chk (fun t13 => ?_)
          refine K_getR 7 1 1401 lf_PF_182 rfl rfl t13 (fun a14 r15 => ?_)
          refine S_an [some (.ref l0), some (.int v5), some (.ref a14), none, none] (by decide) rfl ?_
          refine B_aload_n rfl ?_
          refine K_getRk 10 0 2000 lf_PF_10 rfl rfl t1 r7 ?_
          refine K_getI 2 5 405 lf_PF_141 rfl rfl t8 ?_
          refine B_aload_n rfl ?_
          refine K_getI 10 11 2011 lf_PF_166 rfl rfl t1 ?_
          refine B_isub ?_
          refine B_vb (fun v16 => ?_)
          refine S_in [some (.ref l0), some (.int v5), some (.ref a14), some (.int v16), none] (by decide) rfl ?_
          refine B_aload_n rfl ?_
          refine K_getRk 10 0 2000 lf_PF_10 rfl rfl t1 r7 ?_
          refine K_getI 2 6 406 lf_PF_147 rfl rfl t8 ?_
          refine B_aload_n rfl ?_
          refine K_getI 10 12 2012 lf_PF_169 rfl rfl t1 ?_
          refine B_isub ?_
          refine B_vb (fun v17 => ?_)
          refine S_i [some (.ref l0), some (.int v5), some (.ref a14), some (.int v16), some (.int v17)] (by decide) rfl ?_
          refine B_aload_n rfl ?_
          refine B_aload_n rfl ?_
          refine B_chk (fun t18 => ?_)
          refine K_getI 1 0 200 lf_PF_191 rfl rfl t18 ?_
          refine B_iload_n rfl ?_
          refine B_iadd ?_
          refine B_aload_n rfl ?_
          refine K_getI 1 1 201 lf_PF_194 rfl rfl t18 ?_
          refine B_iload rfl ?_
          refine B_iadd ?_
          refine B_aload_n rfl ?_
          refine K_getI 1 2 202 lf_PF_197 rfl rfl t18 ?_
          refine B_iload_n rfl ?_
          refine B_iadd ?_
          refine B_aload_n rfl ?_
          refine K_getI 1 3 203 lf_PF_200 rfl rfl t18 ?_
          refine B_iload rfl ?_
          refine B_iadd ?_
          refine C_V (vs := [.ref a14, .int ((hI M 200 a14) + v16), .int ((hI M 201 a14) + v17), .int ((hI M 202 a14) + v16), .int ((hI M 203 a14) + v17)]) (st := []) (ci_V lv_PF_97 rfl rfl t18) rfl rfl rfl (s_Rect_be a14 ((hI M 200 a14) + v16) ((hI M 201 a14) + v17) ((hI M 202 a14) + v16) ((hI M 203 a14) + v17) M) (fun M19 => ?_)
          exact B_vret rfl
        · skip
          exact B_vret rfl

-- Att_begin
theorem ok_Att_begin_0 : okb prog_2_method_3_code 0 [(.aload_n 0, 1), (.iconst 0, 1), (.putfield 13, 3), (.aload_n 0, 1), (.iconst 0, 1), (.putfield 20, 3), (.aload_n 0, 1), (.iload_n 1, 1), (.putfield 23, 3), (.aload_n 0, 1), (.iconst 0, 1), (.putfield 27, 3), (.aload_n 0, 1), (.iconst 0, 1), (.putfield 30, 3), (.aload_n 0, 1), (.iconst 0, 1), (.putfield 33, 3), (.return_, 1)] = true := by decide +kernel
set_option maxRecDepth 100000 in
def f_Att_begin (G : GT) (l0 : Nat) (l1 : Int32) (M : PH) : Option (PH) :=
  if hT M l0 = 9 then hb (sI M 1801 l0 (0 : Int32)) fun M3 => hb (sI M3 1804 l0 (0 : Int32)) fun M6 => if l1 = 0 ∨ l1 = 1 then hb (sI M6 1805 l0 l1) fun M10 => hb (sI M10 1806 l0 (0 : Int32)) fun M13 => hb (sI M13 1807 l0 (0 : Int32)) fun M16 => hb (sI M16 1808 l0 (0 : Int32)) fun M19 => some M19 else none else none
set_option maxRecDepth 100000 in
set_option maxHeartbeats 4000000 in
theorem s_Att_begin {G : GT} (l0 : Nat) (l1 : Int32) (M : PH) : VX G mi_Att_begin 0 0 0 [some (.ref l0), some (.int l1)] [] M qV (f_Att_begin G l0 l1 M) := by
  unfold f_Att_begin
  refine V_open ok_Att_begin_0 ?_
  refine B_aload_n rfl ?_
  refine B_iconst (0 : Int32) ic_0 ?_
  refine B_chk (fun t1 => ?_)
  refine K_putI 9 1 1801 lf_Att_13 rfl (Or.inl rfl) rfl t1 (fun M3 e2 => ?_)
  refine B_aload_n rfl ?_
  refine B_iconst (0 : Int32) ic_0 ?_
  have h4 : hT M3 l0 = 9 := by rw [e2]; exact t1
  refine K_putI 9 4 1804 lf_Att_20 rfl (Or.inl rfl) rfl h4 (fun M6 e5 => ?_)
  refine B_aload_n rfl ?_
  refine B_iload_n rfl ?_
  have h7 : hT M6 l0 = 9 := by rw [e5]; exact h4
  refine B_chk (fun z9 => ?_)
  refine K_putZ 9 5 1805 lf_Att_23 rfl (Or.inl rfl) rfl h7 z9 (fun M10 e8 => ?_)
  refine B_aload_n rfl ?_
  refine B_iconst (0 : Int32) ic_0 ?_
  have h11 : hT M10 l0 = 9 := by rw [e8]; exact h7
  refine K_putZ 9 6 1806 lf_Att_27 rfl (Or.inl rfl) rfl h11 (Or.inl rfl) (fun M13 e12 => ?_)
  refine B_aload_n rfl ?_
  refine B_iconst (0 : Int32) ic_0 ?_
  have h14 : hT M13 l0 = 9 := by rw [e12]; exact h11
  refine K_putZ 9 7 1807 lf_Att_30 rfl (Or.inl rfl) rfl h14 (Or.inl rfl) (fun M16 e15 => ?_)
  refine B_aload_n rfl ?_
  refine B_iconst (0 : Int32) ic_0 ?_
  have h17 : hT M16 l0 = 9 := by rw [e15]; exact h14
  refine K_putZ 9 8 1808 lf_Att_33 rfl (Or.inl rfl) rfl h17 (Or.inl rfl) (fun M19 e18 => ?_)
  exact B_vret rfl

-- PF_begin
theorem ok_PF_begin_0 : okb prog_1_method_10_code 0 [(.aload_n 0, 1), (.aload_n 0, 1), (.getfield 104, 3), (.ifCond .ne 7, 3), (.iconst 1, 1), (.goto 4, 3)] = true := by decide +kernel
theorem ok_PF_begin_12 : okb prog_1_method_10_code 12 [(.iconst 0, 1)] = true := by decide +kernel
theorem ok_PF_begin_13 : okb prog_1_method_10_code 13 [(.invokevirtual 130, 3), (.aload_n 0, 1), (.getfield 10, 3), (.invokevirtual 134, 3), (.istore_n 1, 1), (.aload_n 0, 1), (.getfield 10, 3), (.getfield 138, 3), (.ifCond .eq 25, 3), (.aload_n 0, 1), (.aload_n 0, 1), (.getfield 10, 3), (.getfield 141, 3), (.putfield 144, 3), (.aload_n 0, 1), (.aload_n 0, 1), (.getfield 10, 3), (.getfield 147, 3), (.putfield 150, 3)] = true := by decide +kernel
theorem ok_PF_begin_56 : okb prog_1_method_10_code 56 [(.aload_n 0, 1), (.aload_n 0, 1), (.invokevirtual 153, 3), (.putfield 46, 3), (.aload_n 0, 1), (.getfield 46, 3), (.ifCond .lt 30, 3), (.aload_n 0, 1), (.getfield 46, 3), (.bipush 8, 2), (.if_icmp .ge 21, 3), (.aload_n 0, 1), (.getfield 10, 3), (.getfield 138, 3), (.ifCond .eq 11, 3), (.aload_n 0, 1), (.aload_n 0, 1), (.getfield 46, 3), (.invokevirtual 156, 3)] = true := by decide +kernel
theorem ok_PF_begin_98 : okb prog_1_method_10_code 98 [(.aload_n 0, 1), (.invokevirtual 159, 3), (.aload_n 0, 1), (.iconst (-1), 1), (.putfield 68, 3), (.iconst 0, 1), (.istore_n 2, 1)] = true := by decide +kernel
theorem ok_PF_begin_109 : okb prog_1_method_10_code 109 [(.iload_n 2, 1), (.aload_n 0, 1), (.getfield 120, 3), (.if_icmp .ge 53, 3), (.aload_n 0, 1), (.getfield 59, 3), (.iload_n 2, 1), (.iaload, 1), (.aload_n 0, 1), (.getfield 46, 3), (.if_icmp .ne 34, 3), (.aload_n 0, 1), (.getfield 64, 3), (.iload_n 2, 1), (.aaload, 1), (.aload_n 0, 1), (.getfield 10, 3), (.getfield 141, 3), (.aload_n 0, 1), (.getfield 10, 3), (.getfield 147, 3), (.invokevirtual 162, 3), (.ifCond .eq 8, 3), (.aload_n 0, 1), (.iload_n 2, 1), (.putfield 68, 3)] = true := by decide +kernel
theorem ok_PF_begin_161 : okb prog_1_method_10_code 161 [(.iinc 2 1, 3), (.goto (-55), 3)] = true := by decide +kernel
theorem ok_PF_begin_167 : okb prog_1_method_10_code 167 [(.aload_n 0, 1), (.aload_n 0, 1), (.getfield 10, 3), (.getfield 141, 3), (.putfield 166, 3), (.aload_n 0, 1), (.aload_n 0, 1), (.getfield 10, 3), (.getfield 147, 3), (.putfield 169, 3), (.aload_n 0, 1), (.getfield 26, 3), (.aload_n 0, 1), (.getfield 10, 3), (.getfield 172, 3), (.iconst 0, 1), (.baload, 1), (.invokevirtual 176, 3), (.aload_n 0, 1), (.iconst 0, 1), (.putfield 120, 3), (.aload_n 0, 1), (.iconst 0, 1), (.putfield 179, 3), (.iconst 0, 1), (.istore_n 2, 1)] = true := by decide +kernel
theorem ok_PF_begin_217 : okb prog_1_method_10_code 217 [(.iload_n 2, 1), (.bipush 8, 2), (.if_icmp .gt 19, 3), (.aload_n 0, 1), (.getfield 32, 3), (.iload_n 2, 1), (.aaload, 1), (.iconst 0, 1), (.putfield 123, 3), (.iinc 2 1, 3), (.goto (-19), 3)] = true := by decide +kernel
theorem ok_PF_begin_239 : okb prog_1_method_10_code 239 [(.aload_n 0, 1), (.iconst 1, 1), (.putfield 104, 3), (.iload_n 1, 1), (.ireturn, 1)] = true := by decide +kernel
set_option maxRecDepth 100000 in
def b_PF_begin_161 (G : GT) (k109 : Nat → Int32 → Int32 → PH → Option (Nat × Int32 × PH)) (l0 : Nat) (l1 : Int32) (l2 : Int32) (M : PH) : Option (Nat × Int32 × PH) :=
  k109 l0 l1 (l2 + (1 : Int32)) M
set_option maxRecDepth 100000 in
set_option maxHeartbeats 4000000 in
theorem t_PF_begin_161 {G : GT} {k109 : Nat → Int32 → Int32 → PH → Option (Nat × Int32 × PH)} (hk109 : ∀ (l0 : Nat) (l1 : Int32) (l2 : Int32) (M : PH), VX G mi_PF_begin 7 94 109 [some (.ref l0), some (.int l1), some (.int l2)] [] M qT (k109 l0 l1 l2 M)) (l0 : Nat) (l1 : Int32) (l2 : Int32) (M : PH) : VX G mi_PF_begin 7 94 161 [some (.ref l0), some (.int l1), some (.int l2)] [] M qT (b_PF_begin_161 G k109 l0 l1 l2 M) := by
  unfold b_PF_begin_161
  refine V_open ok_PF_begin_161 ?_
  refine S_inc (1 : Int32) [some (.ref l0), some (.int l1), some (.int (l2 + (1 : Int32)))] ic_1 rfl (by decide) rfl ?_
  refine B_goto (tgt := 109) (by decide) ?_
  exact V_weak (ls' := [some (.ref l0), some (.int l1), some (.int (l2 + (1 : Int32)))]) ⟨rfl, ⟨rfl, ⟨rfl, trivial⟩⟩⟩ (hk109 l0 l1 (l2 + (1 : Int32)) M)
set_option maxRecDepth 100000 in
def b_PF_begin_217 (G : GT) (k217 : Nat → Int32 → Int32 → PH → Option (Nat × Int32 × PH)) (l0 : Nat) (l1 : Int32) (l2 : Int32) (M : PH) : Option (Nat × Int32 × PH) :=
  if (8 : Int32) < l2 then (if hT M l0 = 10 then hb (sI M 2007 l0 (1 : Int32)) fun M3 => some (0, l1, M3) else none) else (if hT M l0 = 10 then (hR M 2003 l0).bind fun a5 => if hT M a5 = 20 then if ib l2 (hN M a5) = true then (hX M a5 l2.toNatClampNeg).bind fun a8 => (if hT M a8 = 7 then hb (sI M 1409 a8 (0 : Int32)) fun M11 => k217 l0 l1 (l2 + (1 : Int32)) M11 else none) else none else none else none)
set_option maxRecDepth 100000 in
set_option maxHeartbeats 4000000 in
theorem t_PF_begin_217 {G : GT} {k217 : Nat → Int32 → Int32 → PH → Option (Nat × Int32 × PH)} (hk217 : ∀ (l0 : Nat) (l1 : Int32) (l2 : Int32) (M : PH), VX G mi_PF_begin 7 94 217 [some (.ref l0), some (.int l1), some (.int l2)] [] M qT (k217 l0 l1 l2 M)) (l0 : Nat) (l1 : Int32) (l2 : Int32) (M : PH) : VX G mi_PF_begin 7 94 217 [some (.ref l0), some (.int l1), some (.int l2)] [] M qT (b_PF_begin_217 G k217 l0 l1 l2 M) := by
  unfold b_PF_begin_217
  refine V_open ok_PF_begin_217 ?_
  refine B_iload_n rfl ?_
  refine B_bipush (8 : Int32) bp_8 ?_
  refine B_igt (tgt := 239) (by decide) ?_ ?_
  · skip
    refine V_open ok_PF_begin_239 ?_
    refine B_aload_n rfl ?_
    refine B_iconst (1 : Int32) ic_1 ?_
    refine B_chk (fun t1 => ?_)
    refine K_putZ 10 7 2007 lf_PF_104 rfl (Or.inl rfl) rfl t1 (Or.inr rfl) (fun M3 e2 => ?_)
    refine B_iload_n rfl ?_
    exact B_tret rfl
  · skip
    refine B_aload_n rfl ?_
    refine B_chk (fun t4 => ?_)
    refine K_getR 10 3 2003 lf_PF_32 rfl rfl t4 (fun a5 r6 => ?_)
    refine B_iload_n rfl ?_
    refine B_chk (fun t7 => ?_)
    refine K_aald 20 rfl t7 (fun a8 => ?_)
    refine B_iconst (0 : Int32) ic_0 ?_
    refine B_chk (fun t9 => ?_)
    refine K_putZ 7 9 1409 lf_PF_123 rfl (Or.inl rfl) rfl t9 (Or.inl rfl) (fun M11 e10 => ?_)
    refine S_inc (1 : Int32) [some (.ref l0), some (.int l1), some (.int (l2 + (1 : Int32)))] ic_1 rfl (by decide) rfl ?_
    refine B_goto (tgt := 217) (by decide) ?_
    exact V_weak (ls' := [some (.ref l0), some (.int l1), some (.int (l2 + (1 : Int32)))]) ⟨rfl, ⟨rfl, ⟨rfl, trivial⟩⟩⟩ (hk217 l0 l1 (l2 + (1 : Int32)) M11)
set_option maxRecDepth 100000 in
def w_PF_begin_217 (G : GT) : Nat → Nat → Int32 → Int32 → PH → Option (Nat × Int32 × PH)
  | 0 => fun _ _ _ _ => none
  | n + 1 => b_PF_begin_217 G (w_PF_begin_217 G n)
set_option maxRecDepth 100000 in
set_option maxHeartbeats 4000000 in
theorem tw_PF_begin_217 {G : GT} : ∀ (n : Nat) (l0 : Nat) (l1 : Int32) (l2 : Int32) (M : PH), VX G mi_PF_begin 7 94 217 [some (.ref l0), some (.int l1), some (.int l2)] [] M qT (w_PF_begin_217 G n l0 l1 l2 M)
  | 0, _, _, _, _ => X_none
  | n + 1, l0, l1, l2, M => t_PF_begin_217 (tw_PF_begin_217 n) l0 l1 l2 M
set_option maxRecDepth 100000 in
def b_PF_begin_109 (G : GT) (k109 : Nat → Int32 → Int32 → PH → Option (Nat × Int32 × PH)) (l0 : Nat) (l1 : Int32) (l2 : Int32) (M : PH) : Option (Nat × Int32 × PH) :=
  if hT M l0 = 10 then if hI M 2018 l0 ≤ l2 then ((hR M 2000 l0).bind fun a2 => if hT M a2 = 2 then hb (sI M 2011 l0 (hI M 405 a2)) fun M6 => hb (sI M6 2012 l0 (hI M6 406 a2)) fun M11 => (hR M11 2002 l0).bind fun a13 => (hR M11 413 a2).bind fun a17 => if hT M11 a17 = 17 then if 0 < hN M11 a17 then if hT M11 a13 = 9 then bV (f_Att_begin G a13 (hA M11 a17 0) M11) fun M21 => (if hT M21 l0 = 10 then hb (sI M21 2018 l0 (0 : Int32)) fun M24 => hb (sI M24 2014 l0 (0 : Int32)) fun M27 => w_PF_begin_217 G FU l0 l1 (0 : Int32) M27 else none) else none else none else none else none) else ((hR M 2016 l0).bind fun a28 => if hT M a28 = 16 then if ib l2 (hN M a28) = true then if ¬ hA M a28 l2.toNatClampNeg = hI M 2008 l0 then (b_PF_begin_161 G k109 l0 l1 l2 M) else ((hR M 2017 l0).bind fun a31 => if hT M a31 = 23 then if ib l2 (hN M a31) = true then (hX M a31 l2.toNatClampNeg).bind fun a34 => ((hR M 2000 l0).bind fun a35 => if hT M a35 = 2 then if hT M a34 = 1 then bI (f_Rect_has G a34 (hI M 405 a35) (hI M 406 a35) M) fun v40 M39 => (if v40 = 0 then (b_PF_begin_161 G k109 l0 l1 l2 M39) else (if hT M39 l0 = 10 then hb (sI M39 2019 l0 l2) fun M43 => b_PF_begin_161 G k109 l0 l1 l2 M43 else none)) else none else none) else none else none) else none else none) else none
set_option maxRecDepth 100000 in
set_option maxHeartbeats 4000000 in
theorem t_PF_begin_109 {G : GT} {k109 : Nat → Int32 → Int32 → PH → Option (Nat × Int32 × PH)} (hk109 : ∀ (l0 : Nat) (l1 : Int32) (l2 : Int32) (M : PH), VX G mi_PF_begin 7 94 109 [some (.ref l0), some (.int l1), some (.int l2)] [] M qT (k109 l0 l1 l2 M)) (l0 : Nat) (l1 : Int32) (l2 : Int32) (M : PH) : VX G mi_PF_begin 7 94 109 [some (.ref l0), some (.int l1), some (.int l2)] [] M qT (b_PF_begin_109 G k109 l0 l1 l2 M) := by
  unfold b_PF_begin_109
  refine V_open ok_PF_begin_109 ?_
  refine B_iload_n rfl ?_
  refine B_aload_n rfl ?_
  refine B_chk (fun t1 => ?_)
  refine K_getI 10 18 2018 lf_PF_120 rfl rfl t1 ?_
  refine B_ige (tgt := 167) (by decide) ?_ ?_
  · skip
    refine V_open ok_PF_begin_167 ?_
    refine B_aload_n rfl ?_
    refine B_aload_n rfl ?_
    refine K_getR 10 0 2000 lf_PF_10 rfl rfl t1 (fun a2 r3 => ?_)
    refine B_chk (fun t4 => ?_)
    refine K_getI 2 5 405 lf_PF_141 rfl rfl t4 ?_
    refine K_putI 10 11 2011 lf_PF_166 rfl (Or.inl rfl) rfl t1 (fun M6 e5 => ?_)
    refine B_aload_n rfl ?_
    refine B_aload_n rfl ?_
    have h7 : hT M6 l0 = 10 := by rw [e5]; exact t1
    have h8 : hR M6 2000 l0 = some a2 := by rw [e5]; exact r3
    refine K_getRk 10 0 2000 lf_PF_10 rfl rfl h7 h8 ?_
    have h9 : hT M6 a2 = 2 := by rw [e5]; exact t4
    refine K_getI 2 6 406 lf_PF_147 rfl rfl h9 ?_
    refine K_putI 10 12 2012 lf_PF_169 rfl (Or.inl rfl) rfl h7 (fun M11 e10 => ?_)
    refine B_aload_n rfl ?_
    have h12 : hT M11 l0 = 10 := by rw [e10]; exact h7
    refine K_getR 10 2 2002 lf_PF_26 rfl rfl h12 (fun a13 r14 => ?_)
    refine B_aload_n rfl ?_
    have h15 : hR M11 2000 l0 = some a2 := by rw [e10]; exact h8
    refine K_getRk 10 0 2000 lf_PF_10 rfl rfl h12 h15 ?_
    have h16 : hT M11 a2 = 2 := by rw [e10]; exact h9
    refine K_getR 2 13 413 lf_PF_172 rfl rfl h16 (fun a17 r18 => ?_)
    refine B_iconst (0 : Int32) ic_0 ?_
    refine B_chk (fun t19 => ?_)
    refine K_zaldc 0 rfl t19 ?_
    refine B_chk (fun t20 => ?_)
    refine C_V (vs := [.ref a13, .int (hA M11 a17 0)]) (st := []) (ci_V lv_PF_176 rfl rfl t20) rfl rfl rfl (s_Att_begin a13 (hA M11 a17 0) M11) (fun M21 => ?_)
    refine B_aload_n rfl ?_
    refine B_iconst (0 : Int32) ic_0 ?_
    refine B_chk (fun t22 => ?_)
    refine K_putI 10 18 2018 lf_PF_120 rfl (Or.inl rfl) rfl t22 (fun M24 e23 => ?_)
    refine B_aload_n rfl ?_
    refine B_iconst (0 : Int32) ic_0 ?_
    have h25 : hT M24 l0 = 10 := by rw [e23]; exact t22
    refine K_putZ 10 14 2014 lf_PF_179 rfl (Or.inl rfl) rfl h25 (Or.inl rfl) (fun M27 e26 => ?_)
    refine B_iconst (0 : Int32) ic_0 ?_
    refine S_in [some (.ref l0), some (.int l1), some (.int (0 : Int32))] (by decide) rfl ?_
    refine V_close ?_
    exact V_weak (ls' := [some (.ref l0), some (.int l1), some (.int (0 : Int32))]) ⟨rfl, ⟨rfl, ⟨rfl, trivial⟩⟩⟩ (tw_PF_begin_217 FU l0 l1 (0 : Int32) M27)
  · skip
    refine B_aload_n rfl ?_
    refine K_getR 10 16 2016 lf_PF_59 rfl rfl t1 (fun a28 r29 => ?_)
    refine B_iload_n rfl ?_
    refine B_chk (fun t30 => ?_)
    refine K_iald t30 ?_
    refine B_aload_n rfl ?_
    refine K_getI 10 8 2008 lf_PF_46 rfl rfl t1 ?_
    refine B_ine (tgt := 161) (by decide) ?_ ?_
    · skip
      exact V_weak (ls' := [some (.ref l0), some (.int l1), some (.int l2)]) ⟨rfl, ⟨rfl, ⟨rfl, trivial⟩⟩⟩ (t_PF_begin_161 hk109 l0 l1 l2 M)
    · skip
      refine B_aload_n rfl ?_
      refine K_getR 10 17 2017 lf_PF_64 rfl rfl t1 (fun a31 r32 => ?_)
      refine B_iload_n rfl ?_
      refine B_chk (fun t33 => ?_)
      refine K_aald 23 rfl t33 (fun a34 => ?_)
      refine B_aload_n rfl ?_
      refine K_getR 10 0 2000 lf_PF_10 rfl rfl t1 (fun a35 r36 => ?_)
      refine B_chk (fun t37 => ?_)
      refine K_getI 2 5 405 lf_PF_141 rfl rfl t37 ?_
      refine B_aload_n rfl ?_
      refine K_getRk 10 0 2000 lf_PF_10 rfl rfl t1 r36 ?_
      refine K_getI 2 6 406 lf_PF_147 rfl rfl t37 ?_
      refine B_chk (fun t38 => ?_)
      refine C_I (vs := [.ref a34, .int (hI M 405 a35), .int (hI M 406 a35)]) (st := []) (ci_V lv_PF_162 rfl rfl t38) rfl rfl rfl (s_Rect_has a34 (hI M 405 a35) (hI M 406 a35) M) (fun v40 M39 => ?_)
      refine B_eq (tgt := 161) (by decide) ?_ ?_
      · skip
        exact V_weak (ls' := [some (.ref l0), some (.int l1), some (.int l2)]) ⟨rfl, ⟨rfl, ⟨rfl, trivial⟩⟩⟩ (t_PF_begin_161 hk109 l0 l1 l2 M39)
      · skip
        refine B_aload_n rfl ?_
        refine B_iload_n rfl ?_
        refine B_chk (fun t41 => ?_)
        refine K_putI 10 19 2019 lf_PF_68 rfl (Or.inl rfl) rfl t41 (fun M43 e42 => ?_)
        refine V_close ?_
        exact V_weak (ls' := [some (.ref l0), some (.int l1), some (.int l2)]) ⟨rfl, ⟨rfl, ⟨rfl, trivial⟩⟩⟩ (t_PF_begin_161 hk109 l0 l1 l2 M43)
set_option maxRecDepth 100000 in
def w_PF_begin_109 (G : GT) : Nat → Nat → Int32 → Int32 → PH → Option (Nat × Int32 × PH)
  | 0 => fun _ _ _ _ => none
  | n + 1 => b_PF_begin_109 G (w_PF_begin_109 G n)
set_option maxRecDepth 100000 in
set_option maxHeartbeats 4000000 in
theorem tw_PF_begin_109 {G : GT} : ∀ (n : Nat) (l0 : Nat) (l1 : Int32) (l2 : Int32) (M : PH), VX G mi_PF_begin 7 94 109 [some (.ref l0), some (.int l1), some (.int l2)] [] M qT (w_PF_begin_109 G n l0 l1 l2 M)
  | 0, _, _, _, _ => X_none
  | n + 1, l0, l1, l2, M => t_PF_begin_109 (tw_PF_begin_109 n) l0 l1 l2 M
set_option maxRecDepth 100000 in
def b_PF_begin_98 (G : GT) (l0 : Nat) (l1 : Int32) (M : PH) : Option (Nat × Int32 × PH) :=
  if hT M l0 = 10 then bV (f_PF_drag G l0 M) fun M2 => (if hT M2 l0 = 10 then hb (sI M2 2019 l0 (-1 : Int32)) fun M5 => w_PF_begin_109 G FU l0 l1 (0 : Int32) M5 else none) else none
set_option maxRecDepth 100000 in
set_option maxHeartbeats 4000000 in
theorem t_PF_begin_98 {G : GT} (l0 : Nat) (l1 : Int32) (M : PH) : VX G mi_PF_begin 7 94 98 [some (.ref l0), some (.int l1), none] [] M qT (b_PF_begin_98 G l0 l1 M) := by
  unfold b_PF_begin_98
  refine V_open ok_PF_begin_98 ?_
  refine B_aload_n rfl ?_
  refine B_chk (fun t1 => ?_)
  refine C_V (vs := [.ref l0]) (st := []) (ci_V lv_PF_159 rfl rfl t1) rfl rfl rfl (s_PF_drag l0 M) (fun M2 => ?_)
  refine B_aload_n rfl ?_
  refine B_iconst (-1 : Int32) ic_m1 ?_
  refine B_chk (fun t3 => ?_)
  refine K_putI 10 19 2019 lf_PF_68 rfl (Or.inl rfl) rfl t3 (fun M5 e4 => ?_)
  refine B_iconst (0 : Int32) ic_0 ?_
  refine S_in [some (.ref l0), some (.int l1), some (.int (0 : Int32))] (by decide) rfl ?_
  refine V_close ?_
  exact V_weak (ls' := [some (.ref l0), some (.int l1), some (.int (0 : Int32))]) ⟨rfl, ⟨rfl, ⟨rfl, trivial⟩⟩⟩ (tw_PF_begin_109 FU l0 l1 (0 : Int32) M5)
set_option maxRecDepth 100000 in
def b_PF_begin_56 (G : GT) (l0 : Nat) (l1 : Int32) (M : PH) : Option (Nat × Int32 × PH) :=
  if hT M l0 = 10 then bI (f_PF_underMouse G l0 M) fun v3 M2 => (if hT M2 l0 = 10 then hb (sI M2 2008 l0 v3) fun M6 => if hI M6 2008 l0 < 0 then (b_PF_begin_98 G l0 l1 M6) else (if (8 : Int32) ≤ hI M6 2008 l0 then (b_PF_begin_98 G l0 l1 M6) else ((hR M6 2000 l0).bind fun a8 => if hT M6 a8 = 2 then if hI M6 410 a8 = 0 then (b_PF_begin_98 G l0 l1 M6) else (bV (f_PF_toFront G l0 (hI M6 2008 l0) M6) fun M11 => (b_PF_begin_98 G l0 l1 M11)) else none)) else none) else none
set_option maxRecDepth 100000 in
set_option maxHeartbeats 4000000 in
theorem t_PF_begin_56 {G : GT} (l0 : Nat) (l1 : Int32) (M : PH) : VX G mi_PF_begin 7 94 56 [some (.ref l0), some (.int l1), none] [] M qT (b_PF_begin_56 G l0 l1 M) := by
  unfold b_PF_begin_56
  refine V_open ok_PF_begin_56 ?_
  refine B_aload_n rfl ?_
  refine B_aload_n rfl ?_
  refine B_chk (fun t1 => ?_)
  refine C_I (vs := [.ref l0]) (st := [.ref l0]) (ci_V lv_PF_153 rfl rfl t1) rfl rfl rfl (s_PF_underMouse l0 M) (fun v3 M2 => ?_)
  refine B_chk (fun t4 => ?_)
  refine K_putI 10 8 2008 lf_PF_46 rfl (Or.inl rfl) rfl t4 (fun M6 e5 => ?_)
  refine B_aload_n rfl ?_
  have h7 : hT M6 l0 = 10 := by rw [e5]; exact t4
  refine K_getI 10 8 2008 lf_PF_46 rfl rfl h7 ?_
  refine B_lt (tgt := 98) (by decide) ?_ ?_
  · skip
    exact V_weak (ls' := [some (.ref l0), some (.int l1), none]) ⟨rfl, ⟨rfl, trivial⟩⟩ (t_PF_begin_98 l0 l1 M6)
  · skip
    refine B_aload_n rfl ?_
    refine K_getI 10 8 2008 lf_PF_46 rfl rfl h7 ?_
    refine B_bipush (8 : Int32) bp_8 ?_
    refine B_ige (tgt := 98) (by decide) ?_ ?_
    · skip
      exact V_weak (ls' := [some (.ref l0), some (.int l1), none]) ⟨rfl, ⟨rfl, trivial⟩⟩ (t_PF_begin_98 l0 l1 M6)
    · skip
      refine B_aload_n rfl ?_
      refine K_getR 10 0 2000 lf_PF_10 rfl rfl h7 (fun a8 r9 => ?_)
      refine B_chk (fun t10 => ?_)
      refine K_getI 2 10 410 lf_PF_138 rfl rfl t10 ?_
      refine B_eq (tgt := 98) (by decide) ?_ ?_
      · skip
        exact V_weak (ls' := [some (.ref l0), some (.int l1), none]) ⟨rfl, ⟨rfl, trivial⟩⟩ (t_PF_begin_98 l0 l1 M6)
      · skip
        refine B_aload_n rfl ?_
        refine B_aload_n rfl ?_
        refine K_getI 10 8 2008 lf_PF_46 rfl rfl h7 ?_
        refine C_V (vs := [.ref l0, .int (hI M6 2008 l0)]) (st := []) (ci_V lv_PF_156 rfl rfl h7) rfl rfl rfl (s_PF_toFront l0 (hI M6 2008 l0) M6) (fun M11 => ?_)
        refine V_close ?_
        exact V_weak (ls' := [some (.ref l0), some (.int l1), none]) ⟨rfl, ⟨rfl, trivial⟩⟩ (t_PF_begin_98 l0 l1 M11)
set_option maxRecDepth 100000 in
def b_PF_begin_13 (G : GT) (l0 : Nat) (s0 : Nat) (s1 : Int32) (M : PH) : Option (Nat × Int32 × PH) :=
  if hT M s0 = 10 then bT (f_PF_may G s0 s1 M) fun M2 => (if hT M2 l0 = 10 then (hR M2 2000 l0).bind fun a4 => if hT M2 a4 = 2 then bI (f_Input_take G a4 M2) fun v8 M7 => (if hT M7 l0 = 10 then (hR M7 2000 l0).bind fun a10 => if hT M7 a10 = 2 then if hI M7 410 a10 = 0 then (b_PF_begin_56 G l0 v8 M7) else (hb (sI M7 2009 l0 (hI M7 405 a10)) fun M14 => hb (sI M14 2010 l0 (hI M14 406 a10)) fun M19 => b_PF_begin_56 G l0 v8 M19) else none else none) else none else none) else none
set_option maxRecDepth 100000 in
set_option maxHeartbeats 4000000 in
theorem t_PF_begin_13 {G : GT} (l0 : Nat) (s0 : Nat) (s1 : Int32) (M : PH) : VX G mi_PF_begin 7 94 13 [some (.ref l0), none, none] [.int s1, .ref s0] M qT (b_PF_begin_13 G l0 s0 s1 M) := by
  unfold b_PF_begin_13
  refine V_open ok_PF_begin_13 ?_
  refine B_chk (fun t1 => ?_)
  refine C_T (vs := [.ref s0, .int s1]) (st := []) rfl (ci_V lv_PF_130 rfl rfl t1) rfl rfl rfl (s_PF_may s0 s1 M) (fun M2 => ?_)
  refine B_aload_n rfl ?_
  refine B_chk (fun t3 => ?_)
  refine K_getR 10 0 2000 lf_PF_10 rfl rfl t3 (fun a4 r5 => ?_)
  refine B_chk (fun t6 => ?_)
  refine C_I (vs := [.ref a4]) (st := []) (ci_V lv_PF_134 rfl rfl t6) rfl rfl rfl (s_Input_take a4 M2) (fun v8 M7 => ?_)
  refine S_in [some (.ref l0), some (.int v8), none] (by decide) rfl ?_
  refine B_aload_n rfl ?_
  refine B_chk (fun t9 => ?_)
  refine K_getR 10 0 2000 lf_PF_10 rfl rfl t9 (fun a10 r11 => ?_)
  refine B_chk (fun t12 => ?_)
  refine K_getI 2 10 410 lf_PF_138 rfl rfl t12 ?_
  refine B_eq (tgt := 56) (by decide) ?_ ?_
  · skip
    exact V_weak (ls' := [some (.ref l0), some (.int v8), none]) ⟨rfl, ⟨rfl, trivial⟩⟩ (t_PF_begin_56 l0 v8 M7)
  · skip
    refine B_aload_n rfl ?_
    refine B_aload_n rfl ?_
    refine K_getRk 10 0 2000 lf_PF_10 rfl rfl t9 r11 ?_
    refine K_getI 2 5 405 lf_PF_141 rfl rfl t12 ?_
    refine K_putI 10 9 2009 lf_PF_144 rfl (Or.inl rfl) rfl t9 (fun M14 e13 => ?_)
    refine B_aload_n rfl ?_
    refine B_aload_n rfl ?_
    have h15 : hT M14 l0 = 10 := by rw [e13]; exact t9
    have h16 : hR M14 2000 l0 = some a10 := by rw [e13]; exact r11
    refine K_getRk 10 0 2000 lf_PF_10 rfl rfl h15 h16 ?_
    have h17 : hT M14 a10 = 2 := by rw [e13]; exact t12
    refine K_getI 2 6 406 lf_PF_147 rfl rfl h17 ?_
    refine K_putI 10 10 2010 lf_PF_150 rfl (Or.inl rfl) rfl h15 (fun M19 e18 => ?_)
    refine V_close ?_
    exact V_weak (ls' := [some (.ref l0), some (.int v8), none]) ⟨rfl, ⟨rfl, trivial⟩⟩ (t_PF_begin_56 l0 v8 M19)
set_option maxRecDepth 100000 in
def f_PF_begin (G : GT) (l0 : Nat) (M : PH) : Option (Nat × Int32 × PH) :=
  if hT M l0 = 10 then if ¬ hI M 2007 l0 = 0 then (b_PF_begin_13 G l0 l0 (0 : Int32) M) else (b_PF_begin_13 G l0 l0 (1 : Int32) M) else none
set_option maxRecDepth 100000 in
set_option maxHeartbeats 4000000 in
theorem s_PF_begin {G : GT} (l0 : Nat) (M : PH) : VX G mi_PF_begin 7 94 0 [some (.ref l0), none, none] [] M qT (f_PF_begin G l0 M) := by
  unfold f_PF_begin
  refine V_open ok_PF_begin_0 ?_
  refine B_aload_n rfl ?_
  refine B_aload_n rfl ?_
  refine B_chk (fun t1 => ?_)
  refine K_getI 10 7 2007 lf_PF_104 rfl rfl t1 ?_
  refine B_ne (tgt := 12) (by decide) ?_ ?_
  · skip
    refine V_open ok_PF_begin_12 ?_
    refine B_iconst (0 : Int32) ic_0 ?_
    refine V_close ?_
    exact V_weak (ls' := [some (.ref l0), none, none]) ⟨rfl, trivial⟩ (t_PF_begin_13 l0 l0 (0 : Int32) M)
  · skip
    refine B_iconst (1 : Int32) ic_1 ?_
    refine B_goto (tgt := 13) (by decide) ?_
    exact V_weak (ls' := [some (.ref l0), none, none]) ⟨rfl, trivial⟩ (t_PF_begin_13 l0 l0 (1 : Int32) M)

-- Law_begin
theorem ok_Law_begin_0 : okb method_3_code 0 [(.aload_n 1, 1), (.iconst 0, 1), (.aload_n 0, 1), (.invokevirtual 7, 3), (.i2l, 1), (.lastore, 1), (.goto 6, 3)] = true := by decide +kernel
theorem ok_Law_begin_11 : okb method_3_code 11 [(.astore_n 2, 1), (.iconst 1, 1), (.ireturn, 1)] = true := by decide +kernel
theorem ok_Law_begin_14 : okb method_3_code 14 [(.iconst 0, 1), (.ireturn, 1)] = true := by decide +kernel
set_option maxRecDepth 100000 in
def f_Law_begin (G : GT) (l0 : Nat) (l1 : Nat) (M : PH) : Option (Int32 × PH) :=
  if hT M l0 = 10 then bH1 (f_PF_begin G l0 M) (fun v3 M2 => if hT M2 l1 = 19 then if 0 < hN M2 l1 then hb (sL M2 l1 0 v3.toInt64) fun M6 => (some ((0 : Int32), M6)) else none else none) (fun M2 => some ((1 : Int32), M2)) else none
set_option maxRecDepth 100000 in
set_option maxHeartbeats 4000000 in
theorem s_Law_begin {G : GT} (l0 : Nat) (l1 : Nat) (M : PH) : VX G mi_Law_begin 8 110 0 [some (.ref l0), some (.ref l1), none] [] M qI (f_Law_begin G l0 l1 M) := by
  unfold f_Law_begin
  refine V_open ok_Law_begin_0 ?_
  refine B_aload_n rfl ?_
  refine B_iconst (0 : Int32) ic_0 ?_
  refine B_aload_n rfl ?_
  refine B_chk (fun t1 => ?_)
  refine C_H1 (vs := [.ref l0]) (st := [.int (0 : Int32), .ref l1]) 8 11 13 (by decide) rfl lh_Law_13 (ci_V lv_Law_7 rfl rfl t1) rfl rfl rfl (s_PF_begin l0 M) (fun v3 M2 => ?_) (fun ah M2 => ?_)
  · skip
    refine B_i2l ?_
    refine B_chk (fun t4 => ?_)
    refine K_lastc 0 rfl t4 (fun M6 e5 => ?_)
    refine B_goto (tgt := 14) (by decide) ?_
    refine V_open ok_Law_begin_14 ?_
    refine B_iconst (0 : Int32) ic_0 ?_
    exact B_iret rfl
  · skip
    refine V_open ok_Law_begin_11 ?_
    refine S_an [some (.ref l0), some (.ref l1), some (.ref ah)] (by decide) rfl ?_
    refine B_iconst (1 : Int32) ic_1 ?_
    exact B_iret rfl

-- Mo_fails
theorem ok_Mo_fails_0 : okb prog_13_method_19_code 0 [(.aload_n 0, 1), (.iload_n 1, 1), (.putfield 175, 3), (.aload_n 0, 1), (.getfield 236, 3), (.ifCond .ne 5, 3), (.iconst 0, 1), (.ireturn, 1)] = true := by decide +kernel
theorem ok_Mo_fails_14 : okb prog_13_method_19_code 14 [(.aload_n 0, 1), (.iconst 0, 1), (.putfield 236, 3), (.aload_n 0, 1), (.iconst 0, 1), (.putfield 255, 3), (.aload_n 0, 1), (.iconst 0, 1), (.putfield 264, 3), (.aload_n 0, 1), (.iconst 0, 1), (.putfield 291, 3), (.aload_n 0, 1), (.iconst 0, 1), (.putfield 294, 3), (.aload_n 0, 1), (.iconst (-1), 1), (.putfield 26, 3), (.aload_n 0, 1), (.iconst (-1), 1), (.putfield 69, 3), (.aload_n 0, 1), (.iconst 0, 1), (.putfield 246, 3), (.aload_n 0, 1), (.iconst 0, 1), (.putfield 279, 3), (.aload_n 0, 1), (.iconst 0, 1), (.putfield 282, 3), (.aload_n 0, 1), (.iconst 0, 1), (.putfield 285, 3), (.aload_n 0, 1), (.iconst (-1), 1), (.putfield 144, 3), (.iconst 0, 1), (.istore_n 2, 1)] = true := by decide +kernel
theorem ok_Mo_fails_76 : okb prog_13_method_19_code 76 [(.iload_n 2, 1), (.bipush 9, 2), (.if_icmp .ge 16, 3), (.aload_n 0, 1), (.getfield 60, 3), (.iload_n 2, 1), (.iconst 0, 1), (.bastore, 1), (.iinc 2 1, 3), (.goto (-16), 3)] = true := by decide +kernel
theorem ok_Mo_fails_95 : okb prog_13_method_19_code 95 [(.iconst 0, 1), (.ireturn, 1)] = true := by decide +kernel
set_option maxRecDepth 100000 in
def b_Mo_fails_76 (G : GT) (k76 : Nat → Int32 → PH → Option (Int32 × PH)) (l0 : Nat) (l2 : Int32) (M : PH) : Option (Int32 × PH) :=
  if (9 : Int32) ≤ l2 then (some ((0 : Int32), M)) else (if hT M l0 = 11 then (hR M 2237 l0).bind fun a2 => if hT M a2 = 17 then if ib l2 (hN M a2) = true then hb (sA M a2 l2.toNatClampNeg (0 : Int32)) fun M6 => (k76 l0 (l2 + (1 : Int32)) M6) else none else none else none)
set_option maxRecDepth 100000 in
set_option maxHeartbeats 4000000 in
theorem t_Mo_fails_76 {G : GT} {k76 : Nat → Int32 → PH → Option (Int32 × PH)} (hk76 : ∀ (l0 : Nat) (l2 : Int32) (M : PH), VX G mi_Mo_fails 0 0 76 [some (.ref l0), none, some (.int l2)] [] M qI (k76 l0 l2 M)) (l0 : Nat) (l2 : Int32) (M : PH) : VX G mi_Mo_fails 0 0 76 [some (.ref l0), none, some (.int l2)] [] M qI (b_Mo_fails_76 G k76 l0 l2 M) := by
  unfold b_Mo_fails_76
  refine V_open ok_Mo_fails_76 ?_
  refine B_iload_n rfl ?_
  refine B_bipush (9 : Int32) bp_9 ?_
  refine B_ige (tgt := 95) (by decide) ?_ ?_
  · skip
    refine V_open ok_Mo_fails_95 ?_
    refine B_iconst (0 : Int32) ic_0 ?_
    exact B_iret rfl
  · skip
    refine B_aload_n rfl ?_
    refine B_chk (fun t1 => ?_)
    refine K_getR 11 37 2237 lf_Mo_60 rfl rfl t1 (fun a2 r3 => ?_)
    refine B_iload_n rfl ?_
    refine B_iconst (0 : Int32) ic_0 ?_
    refine B_chk (fun t4 => ?_)
    refine K_zast t4 (Or.inl rfl) (fun M6 e5 => ?_)
    refine S_inc (1 : Int32) [some (.ref l0), none, some (.int (l2 + (1 : Int32)))] ic_1 rfl (by decide) rfl ?_
    refine B_goto (tgt := 76) (by decide) ?_
    exact V_weak (ls' := [some (.ref l0), none, some (.int (l2 + (1 : Int32)))]) ⟨rfl, ⟨rfl, trivial⟩⟩ (hk76 l0 (l2 + (1 : Int32)) M6)
set_option maxRecDepth 100000 in
def w_Mo_fails_76 (G : GT) : Nat → Nat → Int32 → PH → Option (Int32 × PH)
  | 0 => fun _ _ _ => none
  | n + 1 => b_Mo_fails_76 G (w_Mo_fails_76 G n)
set_option maxRecDepth 100000 in
set_option maxHeartbeats 4000000 in
theorem tw_Mo_fails_76 {G : GT} : ∀ (n : Nat) (l0 : Nat) (l2 : Int32) (M : PH), VX G mi_Mo_fails 0 0 76 [some (.ref l0), none, some (.int l2)] [] M qI (w_Mo_fails_76 G n l0 l2 M)
  | 0, _, _, _ => X_none
  | n + 1, l0, l2, M => t_Mo_fails_76 (tw_Mo_fails_76 n) l0 l2 M
set_option maxRecDepth 100000 in
def f_Mo_fails (G : GT) (l0 : Nat) (l1 : Int32) (M : PH) : Option (Int32 × PH) :=
  if hT M l0 = 11 then hb (sI M 2200 l0 l1) fun M3 => if ¬ hI M3 2218 l0 = 0 then (hb (sI M3 2218 l0 (0 : Int32)) fun M6 => hb (sI M6 2219 l0 (0 : Int32)) fun M9 => hb (sI M9 2220 l0 (0 : Int32)) fun M12 => hb (sI M12 2222 l0 (0 : Int32)) fun M15 => hb (sI M15 2221 l0 (0 : Int32)) fun M18 => hb (sI M18 2223 l0 (-1 : Int32)) fun M21 => hb (sI M21 2240 l0 (-1 : Int32)) fun M24 => hb (sI M24 2248 l0 (0 : Int32)) fun M27 => hb (sI M27 2256 l0 (0 : Int32)) fun M30 => hb (sI M30 2258 l0 (0 : Int32)) fun M33 => hb (sI M33 2270 l0 (0 : Int32)) fun M36 => hb (sI M36 2271 l0 (-1 : Int32)) fun M39 => w_Mo_fails_76 G FU l0 (0 : Int32) M39) else (some ((0 : Int32), M3)) else none
set_option maxRecDepth 100000 in
set_option maxHeartbeats 4000000 in
theorem s_Mo_fails {G : GT} (l0 : Nat) (l1 : Int32) (M : PH) : VX G mi_Mo_fails 0 0 0 [some (.ref l0), some (.int l1), none] [] M qI (f_Mo_fails G l0 l1 M) := by
  unfold f_Mo_fails
  refine V_open ok_Mo_fails_0 ?_
  refine B_aload_n rfl ?_
  refine B_iload_n rfl ?_
  refine B_chk (fun t1 => ?_)
  refine K_putI 11 0 2200 lf_Mo_175 rfl (Or.inl rfl) rfl t1 (fun M3 e2 => ?_)
  refine B_aload_n rfl ?_
  have h4 : hT M3 l0 = 11 := by rw [e2]; exact t1
  refine K_getI 11 18 2218 lf_Mo_236 rfl rfl h4 ?_
  refine B_ne (tgt := 14) (by decide) ?_ ?_
  · skip
    refine V_open ok_Mo_fails_14 ?_
    refine B_aload_n rfl ?_
    refine B_iconst (0 : Int32) ic_0 ?_
    refine K_putZ 11 18 2218 lf_Mo_236 rfl (Or.inl rfl) rfl h4 (Or.inl rfl) (fun M6 e5 => ?_)
    refine B_aload_n rfl ?_
    refine B_iconst (0 : Int32) ic_0 ?_
    have h7 : hT M6 l0 = 11 := by rw [e5]; exact h4
    refine K_putI 11 19 2219 lf_Mo_255 rfl (Or.inl rfl) rfl h7 (fun M9 e8 => ?_)
    refine B_aload_n rfl ?_
    refine B_iconst (0 : Int32) ic_0 ?_
    have h10 : hT M9 l0 = 11 := by rw [e8]; exact h7
    refine K_putI 11 20 2220 lf_Mo_264 rfl (Or.inl rfl) rfl h10 (fun M12 e11 => ?_)
    refine B_aload_n rfl ?_
    refine B_iconst (0 : Int32) ic_0 ?_
    have h13 : hT M12 l0 = 11 := by rw [e11]; exact h10
    refine K_putI 11 22 2222 lf_Mo_291 rfl (Or.inl rfl) rfl h13 (fun M15 e14 => ?_)
    refine B_aload_n rfl ?_
    refine B_iconst (0 : Int32) ic_0 ?_
    have h16 : hT M15 l0 = 11 := by rw [e14]; exact h13
    refine K_putI 11 21 2221 lf_Mo_294 rfl (Or.inl rfl) rfl h16 (fun M18 e17 => ?_)
    refine B_aload_n rfl ?_
    refine B_iconst (-1 : Int32) ic_m1 ?_
    have h19 : hT M18 l0 = 11 := by rw [e17]; exact h16
    refine K_putI 11 23 2223 lf_Mo_26 rfl (Or.inl rfl) rfl h19 (fun M21 e20 => ?_)
    refine B_aload_n rfl ?_
    refine B_iconst (-1 : Int32) ic_m1 ?_
    have h22 : hT M21 l0 = 11 := by rw [e20]; exact h19
    refine K_putI 11 40 2240 lf_Mo_69 rfl (Or.inl rfl) rfl h22 (fun M24 e23 => ?_)
    refine B_aload_n rfl ?_
    refine B_iconst (0 : Int32) ic_0 ?_
    have h25 : hT M24 l0 = 11 := by rw [e23]; exact h22
    refine K_putI 11 48 2248 lf_Mo_246 rfl (Or.inl rfl) rfl h25 (fun M27 e26 => ?_)
    refine B_aload_n rfl ?_
    refine B_iconst (0 : Int32) ic_0 ?_
    have h28 : hT M27 l0 = 11 := by rw [e26]; exact h25
    refine K_putI 11 56 2256 lf_Mo_279 rfl (Or.inl rfl) rfl h28 (fun M30 e29 => ?_)
    refine B_aload_n rfl ?_
    refine B_iconst (0 : Int32) ic_0 ?_
    have h31 : hT M30 l0 = 11 := by rw [e29]; exact h28
    refine K_putI 11 58 2258 lf_Mo_282 rfl (Or.inl rfl) rfl h31 (fun M33 e32 => ?_)
    refine B_aload_n rfl ?_
    refine B_iconst (0 : Int32) ic_0 ?_
    have h34 : hT M33 l0 = 11 := by rw [e32]; exact h31
    refine K_putI 11 70 2270 lf_Mo_285 rfl (Or.inl rfl) rfl h34 (fun M36 e35 => ?_)
    refine B_aload_n rfl ?_
    refine B_iconst (-1 : Int32) ic_m1 ?_
    have h37 : hT M36 l0 = 11 := by rw [e35]; exact h34
    refine K_putI 11 71 2271 lf_Mo_144 rfl (Or.inl rfl) rfl h37 (fun M39 e38 => ?_)
    refine B_iconst (0 : Int32) ic_0 ?_
    refine S_in [some (.ref l0), some (.int l1), some (.int (0 : Int32))] (by decide) rfl ?_
    refine V_close ?_
    exact V_weak (ls' := [some (.ref l0), none, some (.int (0 : Int32))]) ⟨rfl, ⟨rfl, trivial⟩⟩ (tw_Mo_fails_76 FU l0 (0 : Int32) M39)
  · skip
    refine B_iconst (0 : Int32) ic_0 ?_
    exact B_iret rfl

-- Mo_breaks
theorem ok_Mo_breaks_0 : okb prog_13_method_20_code 0 [(.aload_n 0, 1), (.iconst 1, 1), (.invokevirtual 297, 3), (.ireturn, 1)] = true := by decide +kernel
set_option maxRecDepth 100000 in
def f_Mo_breaks (G : GT) (l0 : Nat) (M : PH) : Option (Int32 × PH) :=
  if hT M l0 = 11 then bI (f_Mo_fails G l0 (1 : Int32) M) fun v3 M2 => (some (v3, M2)) else none
set_option maxRecDepth 100000 in
set_option maxHeartbeats 4000000 in
theorem s_Mo_breaks {G : GT} (l0 : Nat) (M : PH) : VX G mi_Mo_breaks 1 14 0 [some (.ref l0)] [] M qI (f_Mo_breaks G l0 M) := by
  unfold f_Mo_breaks
  refine V_open ok_Mo_breaks_0 ?_
  refine B_aload_n rfl ?_
  refine B_iconst (1 : Int32) ic_1 ?_
  refine B_chk (fun t1 => ?_)
  refine C_I (vs := [.ref l0, .int (1 : Int32)]) (st := []) (ci_V lv_Mo_297 rfl rfl t1) rfl rfl rfl (s_Mo_fails l0 (1 : Int32) M) (fun v3 M2 => ?_)
  exact B_iret rfl
