-- Mo_place
theorem ok_Mo_place_0 : okb prog_13_method_63_code 0 [(.aload_n 0, 1), (.iconst 0, 1), (.putfield 175, 3), (.iload_n 1, 1), (.ifCond .lt 9, 3), (.iload_n 1, 1), (.bipush 8, 2), (.if_icmp .le 5, 3), (.iconst (-1), 1), (.ireturn, 1)] = true := by decide +kernel
theorem ok_Mo_place_15 : okb prog_13_method_63_code 15 [(.iconst (-1), 1), (.ireturn, 1)] = true := by decide +kernel
theorem ok_Mo_place_17 : okb prog_13_method_63_code 17 [(.iload_n 2, 1), (.tableswitch 155 0 8 #[50, 70, 90, 97, 104, 111, 118, 133, 140], 50)] = true := by decide +kernel
theorem ok_Mo_place_68 : okb prog_13_method_63_code 68 [(.aload_n 0, 1), (.getfield 66, 3), (.iload_n 1, 1), (.baload, 1), (.ifCond .eq 12, 3), (.aload_n 0, 1), (.getfield 36, 3), (.iload_n 1, 1), (.iaload, 1), (.goto 4, 3)] = true := by decide +kernel
theorem ok_Mo_place_86 : okb prog_13_method_63_code 86 [(.iconst 0, 1), (.ireturn, 1)] = true := by decide +kernel
theorem ok_Mo_place_87 : okb prog_13_method_63_code 87 [(.ireturn, 1)] = true := by decide +kernel
theorem ok_Mo_place_88 : okb prog_13_method_63_code 88 [(.aload_n 0, 1), (.getfield 66, 3), (.iload_n 1, 1), (.baload, 1), (.ifCond .eq 12, 3), (.aload_n 0, 1), (.getfield 39, 3), (.iload_n 1, 1), (.iaload, 1), (.goto 4, 3)] = true := by decide +kernel
theorem ok_Mo_place_106 : okb prog_13_method_63_code 106 [(.iconst 0, 1), (.ireturn, 1)] = true := by decide +kernel
theorem ok_Mo_place_107 : okb prog_13_method_63_code 107 [(.ireturn, 1)] = true := by decide +kernel
theorem ok_Mo_place_108 : okb prog_13_method_63_code 108 [(.aload_n 0, 1), (.getfield 42, 3), (.iload_n 1, 1), (.iaload, 1), (.ireturn, 1)] = true := by decide +kernel
theorem ok_Mo_place_115 : okb prog_13_method_63_code 115 [(.aload_n 0, 1), (.getfield 45, 3), (.iload_n 1, 1), (.iaload, 1), (.ireturn, 1)] = true := by decide +kernel
theorem ok_Mo_place_122 : okb prog_13_method_63_code 122 [(.aload_n 0, 1), (.getfield 48, 3), (.iload_n 1, 1), (.iaload, 1), (.ireturn, 1)] = true := by decide +kernel
theorem ok_Mo_place_129 : okb prog_13_method_63_code 129 [(.aload_n 0, 1), (.getfield 51, 3), (.iload_n 1, 1), (.iaload, 1), (.ireturn, 1)] = true := by decide +kernel
theorem ok_Mo_place_136 : okb prog_13_method_63_code 136 [(.aload_n 0, 1), (.getfield 57, 3), (.iload_n 1, 1), (.baload, 1), (.ifCond .eq 7, 3), (.iconst 1, 1), (.goto 4, 3)] = true := by decide +kernel
theorem ok_Mo_place_149 : okb prog_13_method_63_code 149 [(.iconst 0, 1), (.ireturn, 1)] = true := by decide +kernel
theorem ok_Mo_place_150 : okb prog_13_method_63_code 150 [(.ireturn, 1)] = true := by decide +kernel
theorem ok_Mo_place_151 : okb prog_13_method_63_code 151 [(.aload_n 0, 1), (.getfield 54, 3), (.iload_n 1, 1), (.iaload, 1), (.ireturn, 1)] = true := by decide +kernel
theorem ok_Mo_place_158 : okb prog_13_method_63_code 158 [(.aload_n 0, 1), (.getfield 60, 3), (.iload_n 1, 1), (.baload, 1), (.ifCond .eq 7, 3), (.iconst 1, 1), (.goto 4, 3)] = true := by decide +kernel
theorem ok_Mo_place_171 : okb prog_13_method_63_code 171 [(.iconst 0, 1), (.ireturn, 1)] = true := by decide +kernel
theorem ok_Mo_place_172 : okb prog_13_method_63_code 172 [(.ireturn, 1)] = true := by decide +kernel
theorem ok_Mo_place_173 : okb prog_13_method_63_code 173 [(.iconst (-1), 1), (.ireturn, 1)] = true := by decide +kernel
set_option maxRecDepth 100000 in
def f_Mo_place (G : GT) (l0 : Nat) (l1 : Int32) (l2 : Int32) (M : PH) : Option (Int32 × PH) :=
  if hT M l0 = 11 then hb (sI M 2200 l0 (0 : Int32)) fun M3 => if l1 < 0 then (some ((-1 : Int32), M3)) else (if l1 ≤ (8 : Int32) then (sw l2 0 [(hR M3 2239 l0).bind fun a5 => if hT M3 a5 = 17 then if ib l1 (hN M3 a5) = true then if hA M3 a5 l1.toNatClampNeg = 0 then (some ((0 : Int32), M3)) else ((hR M3 2229 l0).bind fun a8 => if hT M3 a8 = 16 then if ib l1 (hN M3 a8) = true then some (hA M3 a8 l1.toNatClampNeg, M3) else none else none) else none else none, (hR M3 2239 l0).bind fun a12 => if hT M3 a12 = 17 then if ib l1 (hN M3 a12) = true then if hA M3 a12 l1.toNatClampNeg = 0 then (some ((0 : Int32), M3)) else ((hR M3 2230 l0).bind fun a15 => if hT M3 a15 = 16 then if ib l1 (hN M3 a15) = true then some (hA M3 a15 l1.toNatClampNeg, M3) else none else none) else none else none, (hR M3 2231 l0).bind fun a19 => if hT M3 a19 = 16 then if ib l1 (hN M3 a19) = true then some (hA M3 a19 l1.toNatClampNeg, M3) else none else none, (hR M3 2232 l0).bind fun a23 => if hT M3 a23 = 16 then if ib l1 (hN M3 a23) = true then some (hA M3 a23 l1.toNatClampNeg, M3) else none else none, (hR M3 2233 l0).bind fun a27 => if hT M3 a27 = 16 then if ib l1 (hN M3 a27) = true then some (hA M3 a27 l1.toNatClampNeg, M3) else none else none, (hR M3 2234 l0).bind fun a31 => if hT M3 a31 = 16 then if ib l1 (hN M3 a31) = true then some (hA M3 a31 l1.toNatClampNeg, M3) else none else none, (hR M3 2236 l0).bind fun a35 => if hT M3 a35 = 17 then if ib l1 (hN M3 a35) = true then if hA M3 a35 l1.toNatClampNeg = 0 then (some ((0 : Int32), M3)) else (some ((1 : Int32), M3)) else none else none, (hR M3 2235 l0).bind fun a39 => if hT M3 a39 = 16 then if ib l1 (hN M3 a39) = true then some (hA M3 a39 l1.toNatClampNeg, M3) else none else none, (hR M3 2237 l0).bind fun a43 => if hT M3 a43 = 17 then if ib l1 (hN M3 a43) = true then if hA M3 a43 l1.toNatClampNeg = 0 then (some ((0 : Int32), M3)) else (some ((1 : Int32), M3)) else none else none] (some ((-1 : Int32), M3))) else (some ((-1 : Int32), M3))) else none
set_option maxRecDepth 100000 in
set_option maxHeartbeats 4000000 in
theorem s_Mo_place {G : GT} (l0 : Nat) (l1 : Int32) (l2 : Int32) (M : PH) : VX G mi_Mo_place 0 0 0 [some (.ref l0), some (.int l1), some (.int l2)] [] M qI (f_Mo_place G l0 l1 l2 M) := by
  unfold f_Mo_place
  refine V_open ok_Mo_place_0 ?_
  refine B_aload_n rfl ?_
  refine B_iconst (0 : Int32) ic_0 ?_
  refine B_chk (fun t1 => ?_)
  refine K_putI 11 0 2200 lf_Mo_175 rfl (Or.inl rfl) rfl t1 (fun M3 e2 => ?_)
  refine B_iload_n rfl ?_
  refine B_lt (tgt := 15) (by decide) ?_ ?_
  · skip
    refine V_open ok_Mo_place_15 ?_
    refine B_iconst (-1 : Int32) ic_m1 ?_
    exact B_iret rfl
  · skip
    refine B_iload_n rfl ?_
    refine B_bipush (8 : Int32) bp_8 ?_
    refine B_ile (tgt := 17) (by decide) ?_ ?_
    · skip
      refine V_open ok_Mo_place_17 ?_
      refine B_iload_n rfl ?_
      refine B_tsw [68, 88, 108, 115, 122, 129, 136, 151, 158] 173 (by decide) (by decide) (by decide) ?_ ⟨?_, ?_, ?_, ?_, ?_, ?_, ?_, ?_, ?_, trivial⟩
      · skip
        refine V_open ok_Mo_place_173 ?_
        refine B_iconst (-1 : Int32) ic_m1 ?_
        exact B_iret rfl
      · skip
        refine V_open ok_Mo_place_68 ?_
        refine B_aload_n rfl ?_
        have h4 : hT M3 l0 = 11 := by rw [e2]; exact t1
        refine K_getR 11 39 2239 lf_Mo_66 rfl rfl h4 (fun a5 r6 => ?_)
        refine B_iload_n rfl ?_
        refine B_chk (fun t7 => ?_)
        refine K_zald t7 ?_
        refine B_eq (tgt := 86) (by decide) ?_ ?_
        · skip
          refine V_open ok_Mo_place_86 ?_
          refine B_iconst (0 : Int32) ic_0 ?_
          exact B_iret rfl
        · skip
          refine B_aload_n rfl ?_
          refine K_getR 11 29 2229 lf_Mo_36 rfl rfl h4 (fun a8 r9 => ?_)
          refine B_iload_n rfl ?_
          refine B_chk (fun t10 => ?_)
          refine K_iald t10 ?_
          refine B_goto (tgt := 87) (by decide) ?_
          refine V_open ok_Mo_place_87 ?_
          exact B_iret rfl
      · skip
        refine V_open ok_Mo_place_88 ?_
        refine B_aload_n rfl ?_
        have h11 : hT M3 l0 = 11 := by rw [e2]; exact t1
        refine K_getR 11 39 2239 lf_Mo_66 rfl rfl h11 (fun a12 r13 => ?_)
        refine B_iload_n rfl ?_
        refine B_chk (fun t14 => ?_)
        refine K_zald t14 ?_
        refine B_eq (tgt := 106) (by decide) ?_ ?_
        · skip
          refine V_open ok_Mo_place_106 ?_
          refine B_iconst (0 : Int32) ic_0 ?_
          exact B_iret rfl
        · skip
          refine B_aload_n rfl ?_
          refine K_getR 11 30 2230 lf_Mo_39 rfl rfl h11 (fun a15 r16 => ?_)
          refine B_iload_n rfl ?_
          refine B_chk (fun t17 => ?_)
          refine K_iald t17 ?_
          refine B_goto (tgt := 107) (by decide) ?_
          refine V_open ok_Mo_place_107 ?_
          exact B_iret rfl
      · skip
        refine V_open ok_Mo_place_108 ?_
        refine B_aload_n rfl ?_
        have h18 : hT M3 l0 = 11 := by rw [e2]; exact t1
        refine K_getR 11 31 2231 lf_Mo_42 rfl rfl h18 (fun a19 r20 => ?_)
        refine B_iload_n rfl ?_
        refine B_chk (fun t21 => ?_)
        refine K_iald t21 ?_
        exact B_iret rfl
      · skip
        refine V_open ok_Mo_place_115 ?_
        refine B_aload_n rfl ?_
        have h22 : hT M3 l0 = 11 := by rw [e2]; exact t1
        refine K_getR 11 32 2232 lf_Mo_45 rfl rfl h22 (fun a23 r24 => ?_)
        refine B_iload_n rfl ?_
        refine B_chk (fun t25 => ?_)
        refine K_iald t25 ?_
        exact B_iret rfl
      · skip
        refine V_open ok_Mo_place_122 ?_
        refine B_aload_n rfl ?_
        have h26 : hT M3 l0 = 11 := by rw [e2]; exact t1
        refine K_getR 11 33 2233 lf_Mo_48 rfl rfl h26 (fun a27 r28 => ?_)
        refine B_iload_n rfl ?_
        refine B_chk (fun t29 => ?_)
        refine K_iald t29 ?_
        exact B_iret rfl
      · skip
        refine V_open ok_Mo_place_129 ?_
        refine B_aload_n rfl ?_
        have h30 : hT M3 l0 = 11 := by rw [e2]; exact t1
        refine K_getR 11 34 2234 lf_Mo_51 rfl rfl h30 (fun a31 r32 => ?_)
        refine B_iload_n rfl ?_
        refine B_chk (fun t33 => ?_)
        refine K_iald t33 ?_
        exact B_iret rfl
      · skip
        refine V_open ok_Mo_place_136 ?_
        refine B_aload_n rfl ?_
        have h34 : hT M3 l0 = 11 := by rw [e2]; exact t1
        refine K_getR 11 36 2236 lf_Mo_57 rfl rfl h34 (fun a35 r36 => ?_)
        refine B_iload_n rfl ?_
        refine B_chk (fun t37 => ?_)
        refine K_zald t37 ?_
        refine B_eq (tgt := 149) (by decide) ?_ ?_
        · skip
          refine V_open ok_Mo_place_149 ?_
          refine B_iconst (0 : Int32) ic_0 ?_
          exact B_iret rfl
        · skip
          refine B_iconst (1 : Int32) ic_1 ?_
          refine B_goto (tgt := 150) (by decide) ?_
          refine V_open ok_Mo_place_150 ?_
          exact B_iret rfl
      · skip
        refine V_open ok_Mo_place_151 ?_
        refine B_aload_n rfl ?_
        have h38 : hT M3 l0 = 11 := by rw [e2]; exact t1
        refine K_getR 11 35 2235 lf_Mo_54 rfl rfl h38 (fun a39 r40 => ?_)
        refine B_iload_n rfl ?_
        refine B_chk (fun t41 => ?_)
        refine K_iald t41 ?_
        exact B_iret rfl
      · skip
        refine V_open ok_Mo_place_158 ?_
        refine B_aload_n rfl ?_
        have h42 : hT M3 l0 = 11 := by rw [e2]; exact t1
        refine K_getR 11 37 2237 lf_Mo_60 rfl rfl h42 (fun a43 r44 => ?_)
        refine B_iload_n rfl ?_
        refine B_chk (fun t45 => ?_)
        refine K_zald t45 ?_
        refine B_eq (tgt := 171) (by decide) ?_ ?_
        · skip
          refine V_open ok_Mo_place_171 ?_
          refine B_iconst (0 : Int32) ic_0 ?_
          exact B_iret rfl
        · skip
          refine B_iconst (1 : Int32) ic_1 ?_
          refine B_goto (tgt := 172) (by decide) ?_
          refine V_open ok_Mo_place_172 ?_
          exact B_iret rfl
    · skip
      refine B_iconst (-1 : Int32) ic_m1 ?_
      exact B_iret rfl

-- PF_kept
theorem ok_PF_kept_0 : okb prog_1_method_48_code 0 [(.aload_n 0, 1), (.getfield 19, 3), (.iload_n 1, 1), (.invokevirtual 391, 3), (.ireturn, 1)] = true := by decide +kernel
set_option maxRecDepth 100000 in
def f_PF_kept (G : GT) (l0 : Nat) (l1 : Int32) (M : PH) : Option (Int32 × PH) :=
  if hT M l0 = 10 then (hR M 2001 l0).bind fun a2 => if hT M a2 = 3 then bI (f_Store_number G a2 l1 M) fun v6 M5 => (some (v6, M5)) else none else none
set_option maxRecDepth 100000 in
set_option maxHeartbeats 4000000 in
theorem s_PF_kept {G : GT} (l0 : Nat) (l1 : Int32) (M : PH) : VX G mi_PF_kept 3 42 0 [some (.ref l0), some (.int l1)] [] M qI (f_PF_kept G l0 l1 M) := by
  unfold f_PF_kept
  refine V_open ok_PF_kept_0 ?_
  refine B_aload_n rfl ?_
  refine B_chk (fun t1 => ?_)
  refine K_getR 10 1 2001 lf_PF_19 rfl rfl t1 (fun a2 r3 => ?_)
  refine B_iload_n rfl ?_
  refine B_chk (fun t4 => ?_)
  refine C_I (vs := [.ref a2, .int l1]) (st := []) (ci_V lv_PF_391 rfl rfl t4) rfl rfl rfl (s_Store_number a2 l1 M) (fun v6 M5 => ?_)
  exact B_iret rfl

-- Mo_kept
theorem ok_Mo_kept_0 : okb prog_13_method_64_code 0 [(.aload_n 0, 1), (.iconst 0, 1), (.putfield 175, 3), (.aload_n 0, 1), (.iload_n 1, 1), (.invokevirtual 387, 3), (.ireturn, 1)] = true := by decide +kernel
set_option maxRecDepth 100000 in
def f_Mo_kept (G : GT) (l0 : Nat) (l1 : Int32) (M : PH) : Option (Int32 × PH) :=
  if hT M l0 = 11 then hb (sI M 2200 l0 (0 : Int32)) fun M3 => bI (f_Mo_numberOf G l0 l1 M3) fun v6 M5 => (some (v6, M5)) else none
set_option maxRecDepth 100000 in
set_option maxHeartbeats 4000000 in
theorem s_Mo_kept {G : GT} (l0 : Nat) (l1 : Int32) (M : PH) : VX G mi_Mo_kept 2 28 0 [some (.ref l0), some (.int l1)] [] M qI (f_Mo_kept G l0 l1 M) := by
  unfold f_Mo_kept
  refine V_open ok_Mo_kept_0 ?_
  refine B_aload_n rfl ?_
  refine B_iconst (0 : Int32) ic_0 ?_
  refine B_chk (fun t1 => ?_)
  refine K_putI 11 0 2200 lf_Mo_175 rfl (Or.inl rfl) rfl t1 (fun M3 e2 => ?_)
  refine B_aload_n rfl ?_
  refine B_iload_n rfl ?_
  have h4 : hT M3 l0 = 11 := by rw [e2]; exact t1
  refine C_I (vs := [.ref l0, .int l1]) (st := []) (ci_V lv_Mo_387 rfl rfl h4) rfl rfl rfl (s_Mo_numberOf l0 l1 M3) (fun v6 M5 => ?_)
  exact B_iret rfl

-- PF_text
theorem ok_PF_text_0 : okb prog_1_method_49_code 0 [(.aload_n 0, 1), (.getfield 19, 3), (.iload_n 1, 1), (.invokevirtual 411, 3), (.istore_n 3, 1), (.iload_n 3, 1), (.ifCond .ge 15, 3), (.iload_n 2, 1), (.bipush 12, 2), (.if_icmp .ne 7, 3), (.iconst 0, 1), (.goto 4, 3)] = true := by decide +kernel
theorem ok_PF_text_23 : okb prog_1_method_49_code 23 [(.iconst (-1), 1), (.ireturn, 1)] = true := by decide +kernel
theorem ok_PF_text_24 : okb prog_1_method_49_code 24 [(.ireturn, 1)] = true := by decide +kernel
theorem ok_PF_text_25 : okb prog_1_method_49_code 25 [(.iload_n 2, 1), (.bipush 12, 2), (.if_icmp .ne 15, 3), (.aload_n 0, 1), (.getfield 19, 3), (.getfield 440, 3), (.iload_n 3, 1), (.iaload, 1), (.goto 38, 3)] = true := by decide +kernel
theorem ok_PF_text_43 : okb prog_1_method_49_code 43 [(.iload_n 2, 1), (.ifCond .lt 33, 3), (.iload_n 2, 1), (.aload_n 0, 1), (.getfield 19, 3), (.getfield 414, 3), (.iload_n 3, 1), (.iaload, 1), (.if_icmp .ge 20, 3), (.aload_n 0, 1), (.getfield 19, 3), (.getfield 417, 3), (.bipush 12, 2), (.iload_n 3, 1), (.imul, 1), (.iload_n 2, 1), (.iadd, 1), (.baload, 1), (.goto 4, 3)] = true := by decide +kernel
theorem ok_PF_text_77 : okb prog_1_method_49_code 77 [(.iconst (-1), 1), (.ireturn, 1)] = true := by decide +kernel
theorem ok_PF_text_78 : okb prog_1_method_49_code 78 [(.ireturn, 1)] = true := by decide +kernel
set_option maxRecDepth 100000 in
def f_PF_text (G : GT) (l0 : Nat) (l1 : Int32) (l2 : Int32) (M : PH) : Option (Int32 × PH) :=
  if hT M l0 = 10 then (hR M 2001 l0).bind fun a2 => if hT M a2 = 3 then bI (f_Store_find G a2 l1 M) fun v6 M5 => (if 0 ≤ v6 then (if ¬ l2 = (12 : Int32) then (if l2 < 0 then (some ((-1 : Int32), M5)) else (if hT M5 l0 = 10 then (hR M5 2001 l0).bind fun a8 => if hT M5 a8 = 3 then (hR M5 602 a8).bind fun a11 => if hT M5 a11 = 16 then if ib v6 (hN M5 a11) = true then if hA M5 a11 v6.toNatClampNeg ≤ l2 then (some ((-1 : Int32), M5)) else ((hR M5 604 a8).bind fun a14 => if hT M5 a14 = 18 then if ib (((12 : Int32) * v6) + l2) (hN M5 a14) = true then some (hA M5 a14 (((12 : Int32) * v6) + l2).toNatClampNeg, M5) else none else none) else none else none else none else none)) else (if hT M5 l0 = 10 then (hR M5 2001 l0).bind fun a18 => if hT M5 a18 = 3 then (hR M5 603 a18).bind fun a21 => if hT M5 a21 = 16 then if ib v6 (hN M5 a21) = true then some (hA M5 a21 v6.toNatClampNeg, M5) else none else none else none else none)) else (if ¬ l2 = (12 : Int32) then (some ((-1 : Int32), M5)) else (some ((0 : Int32), M5)))) else none else none
set_option maxRecDepth 100000 in
set_option maxHeartbeats 4000000 in
theorem s_PF_text {G : GT} (l0 : Nat) (l1 : Int32) (l2 : Int32) (M : PH) : VX G mi_PF_text 2 28 0 [some (.ref l0), some (.int l1), some (.int l2), none] [] M qI (f_PF_text G l0 l1 l2 M) := by
  unfold f_PF_text
  refine V_open ok_PF_text_0 ?_
  refine B_aload_n rfl ?_
  refine B_chk (fun t1 => ?_)
  refine K_getR 10 1 2001 lf_PF_19 rfl rfl t1 (fun a2 r3 => ?_)
  refine B_iload_n rfl ?_
  refine B_chk (fun t4 => ?_)
  refine C_I (vs := [.ref a2, .int l1]) (st := []) (ci_V lv_PF_411 rfl rfl t4) rfl rfl rfl (s_Store_find a2 l1 M) (fun v6 M5 => ?_)
  refine S_in [some (.ref l0), some (.int l1), some (.int l2), some (.int v6)] (by decide) rfl ?_
  refine B_iload_n rfl ?_
  refine B_ge (tgt := 25) (by decide) ?_ ?_
  · skip
    refine V_open ok_PF_text_25 ?_
    refine B_iload_n rfl ?_
    refine B_bipush (12 : Int32) bp_12 ?_
    refine B_ine (tgt := 43) (by decide) ?_ ?_
    · skip
      refine V_open ok_PF_text_43 ?_
      refine B_iload_n rfl ?_
      refine B_lt (tgt := 77) (by decide) ?_ ?_
      · skip
        refine V_open ok_PF_text_77 ?_
        refine B_iconst (-1 : Int32) ic_m1 ?_
        exact B_iret rfl
      · skip
        refine B_iload_n rfl ?_
        refine B_aload_n rfl ?_
        refine B_chk (fun t7 => ?_)
        refine K_getR 10 1 2001 lf_PF_19 rfl rfl t7 (fun a8 r9 => ?_)
        refine B_chk (fun t10 => ?_)
        refine K_getR 3 2 602 lf_PF_414 rfl rfl t10 (fun a11 r12 => ?_)
        refine B_iload_n rfl ?_
        refine B_chk (fun t13 => ?_)
        refine K_iald t13 ?_
        refine B_ige (tgt := 77) (by decide) ?_ ?_
        · skip
          refine V_open ok_PF_text_77 ?_
          refine B_iconst (-1 : Int32) ic_m1 ?_
          exact B_iret rfl
        · skip
          refine B_aload_n rfl ?_
          refine K_getRk 10 1 2001 lf_PF_19 rfl rfl t7 r9 ?_
          refine K_getR 3 4 604 lf_PF_417 rfl rfl t10 (fun a14 r15 => ?_)
          refine B_bipush (12 : Int32) bp_12 ?_
          refine B_iload_n rfl ?_
          refine B_imul ?_
          refine B_iload_n rfl ?_
          refine B_iadd ?_
          refine B_chk (fun t16 => ?_)
          refine K_bald t16 ?_
          refine B_goto (tgt := 78) (by decide) ?_
          refine V_open ok_PF_text_78 ?_
          exact B_iret rfl
    · skip
      refine B_aload_n rfl ?_
      refine B_chk (fun t17 => ?_)
      refine K_getR 10 1 2001 lf_PF_19 rfl rfl t17 (fun a18 r19 => ?_)
      refine B_chk (fun t20 => ?_)
      refine K_getR 3 3 603 lf_PF_440 rfl rfl t20 (fun a21 r22 => ?_)
      refine B_iload_n rfl ?_
      refine B_chk (fun t23 => ?_)
      refine K_iald t23 ?_
      refine B_goto (tgt := 78) (by decide) ?_
      refine V_open ok_PF_text_78 ?_
      exact B_iret rfl
  · skip
    refine B_iload_n rfl ?_
    refine B_bipush (12 : Int32) bp_12 ?_
    refine B_ine (tgt := 23) (by decide) ?_ ?_
    · skip
      refine V_open ok_PF_text_23 ?_
      refine B_iconst (-1 : Int32) ic_m1 ?_
      exact B_iret rfl
    · skip
      refine B_iconst (0 : Int32) ic_0 ?_
      refine B_goto (tgt := 24) (by decide) ?_
      refine V_open ok_PF_text_24 ?_
      exact B_iret rfl

-- Mo_text
theorem ok_Mo_text_0 : okb prog_13_method_65_code 0 [(.aload_n 0, 1), (.iconst 0, 1), (.putfield 175, 3), (.aload_n 0, 1), (.iload_n 1, 1), (.invokevirtual 365, 3), (.istore_n 3, 1), (.iload_n 2, 1), (.bipush 12, 2), (.if_icmp .ne 19, 3), (.iload_n 3, 1), (.iconst (-1), 1), (.if_icmp .ne 7, 3), (.iconst 0, 1), (.goto 9, 3)] = true := by decide +kernel
theorem ok_Mo_text_26 : okb prog_13_method_65_code 26 [(.aload_n 0, 1), (.getfield 165, 3), (.iload_n 3, 1), (.iaload, 1), (.ireturn, 1)] = true := by decide +kernel
theorem ok_Mo_text_32 : okb prog_13_method_65_code 32 [(.ireturn, 1)] = true := by decide +kernel
theorem ok_Mo_text_33 : okb prog_13_method_65_code 33 [(.iload_n 3, 1), (.iconst (-1), 1), (.if_icmp .eq 17, 3), (.iload_n 2, 1), (.ifCond .lt 13, 3), (.iload_n 2, 1), (.aload_n 0, 1), (.getfield 162, 3), (.iload_n 3, 1), (.iaload, 1), (.if_icmp .lt 7, 3)] = true := by decide +kernel
theorem ok_Mo_text_52 : okb prog_13_method_65_code 52 [(.iconst (-1), 1), (.goto 14, 3)] = true := by decide +kernel
theorem ok_Mo_text_56 : okb prog_13_method_65_code 56 [(.aload_n 0, 1), (.getfield 159, 3), (.bipush 12, 2), (.iload_n 3, 1), (.imul, 1), (.iload_n 2, 1), (.iadd, 1), (.iaload, 1), (.ireturn, 1)] = true := by decide +kernel
theorem ok_Mo_text_67 : okb prog_13_method_65_code 67 [(.ireturn, 1)] = true := by decide +kernel
set_option maxRecDepth 100000 in
def b_Mo_text_52 (G : GT)  (M : PH) : Option (Int32 × PH) :=
  some ((-1 : Int32), M)
set_option maxRecDepth 100000 in
set_option maxHeartbeats 4000000 in
theorem t_Mo_text_52 {G : GT}  (M : PH) : VX G mi_Mo_text 1 14 52 [none, none, none, none] [] M qI (b_Mo_text_52 G  M) := by
  unfold b_Mo_text_52
  refine V_open ok_Mo_text_52 ?_
  refine B_iconst (-1 : Int32) ic_m1 ?_
  refine B_goto (tgt := 67) (by decide) ?_
  refine V_open ok_Mo_text_67 ?_
  exact B_iret rfl
set_option maxRecDepth 100000 in
def f_Mo_text (G : GT) (l0 : Nat) (l1 : Int32) (l2 : Int32) (M : PH) : Option (Int32 × PH) :=
  if hT M l0 = 11 then hb (sI M 2200 l0 (0 : Int32)) fun M3 => bI (f_Mo_find G l0 l1 M3) fun v6 M5 => (if ¬ l2 = (12 : Int32) then (if v6 = (-1 : Int32) then (b_Mo_text_52 G M5) else (if l2 < 0 then (b_Mo_text_52 G M5) else (if hT M5 l0 = 11 then (hR M5 2277 l0).bind fun a8 => if hT M5 a8 = 16 then if ib v6 (hN M5 a8) = true then if l2 < hA M5 a8 v6.toNatClampNeg then ((hR M5 2276 l0).bind fun a11 => if hT M5 a11 = 16 then if ib (((12 : Int32) * v6) + l2) (hN M5 a11) = true then some (hA M5 a11 (((12 : Int32) * v6) + l2).toNatClampNeg, M5) else none else none) else (b_Mo_text_52 G M5) else none else none else none))) else (if ¬ v6 = (-1 : Int32) then (if hT M5 l0 = 11 then (hR M5 2278 l0).bind fun a15 => if hT M5 a15 = 16 then if ib v6 (hN M5 a15) = true then some (hA M5 a15 v6.toNatClampNeg, M5) else none else none else none) else (some ((0 : Int32), M5)))) else none
set_option maxRecDepth 100000 in
set_option maxHeartbeats 4000000 in
theorem s_Mo_text {G : GT} (l0 : Nat) (l1 : Int32) (l2 : Int32) (M : PH) : VX G mi_Mo_text 1 14 0 [some (.ref l0), some (.int l1), some (.int l2), none] [] M qI (f_Mo_text G l0 l1 l2 M) := by
  unfold f_Mo_text
  refine V_open ok_Mo_text_0 ?_
  refine B_aload_n rfl ?_
  refine B_iconst (0 : Int32) ic_0 ?_
  refine B_chk (fun t1 => ?_)
  refine K_putI 11 0 2200 lf_Mo_175 rfl (Or.inl rfl) rfl t1 (fun M3 e2 => ?_)
  refine B_aload_n rfl ?_
  refine B_iload_n rfl ?_
  have h4 : hT M3 l0 = 11 := by rw [e2]; exact t1
  refine C_I (vs := [.ref l0, .int l1]) (st := []) (ci_V lv_Mo_365 rfl rfl h4) rfl rfl rfl (s_Mo_find l0 l1 M3) (fun v6 M5 => ?_)
  refine S_in [some (.ref l0), some (.int l1), some (.int l2), some (.int v6)] (by decide) rfl ?_
  refine B_iload_n rfl ?_
  refine B_bipush (12 : Int32) bp_12 ?_
  refine B_ine (tgt := 33) (by decide) ?_ ?_
  · skip
    refine V_open ok_Mo_text_33 ?_
    refine B_iload_n rfl ?_
    refine B_iconst (-1 : Int32) ic_m1 ?_
    refine B_ieq (tgt := 52) (by decide) ?_ ?_
    · skip
      exact V_weak (ls' := [none, none, none, none]) trivial (t_Mo_text_52 M5)
    · skip
      refine B_iload_n rfl ?_
      refine B_lt (tgt := 52) (by decide) ?_ ?_
      · skip
        exact V_weak (ls' := [none, none, none, none]) trivial (t_Mo_text_52 M5)
      · skip
        refine B_iload_n rfl ?_
        refine B_aload_n rfl ?_
        refine B_chk (fun t7 => ?_)
        refine K_getR 11 77 2277 lf_Mo_162 rfl rfl t7 (fun a8 r9 => ?_)
        refine B_iload_n rfl ?_
        refine B_chk (fun t10 => ?_)
        refine K_iald t10 ?_
        refine B_ilt (tgt := 56) (by decide) ?_ ?_
        · skip
          refine V_open ok_Mo_text_56 ?_
          refine B_aload_n rfl ?_
          refine K_getR 11 76 2276 lf_Mo_159 rfl rfl t7 (fun a11 r12 => ?_)
          refine B_bipush (12 : Int32) bp_12 ?_
          refine B_iload_n rfl ?_
          refine B_imul ?_
          refine B_iload_n rfl ?_
          refine B_iadd ?_
          refine B_chk (fun t13 => ?_)
          refine K_iald t13 ?_
          exact B_iret rfl
        · skip
          refine V_close ?_
          exact V_weak (ls' := [none, none, none, none]) trivial (t_Mo_text_52 M5)
  · skip
    refine B_iload_n rfl ?_
    refine B_iconst (-1 : Int32) ic_m1 ?_
    refine B_ine (tgt := 26) (by decide) ?_ ?_
    · skip
      refine V_open ok_Mo_text_26 ?_
      refine B_aload_n rfl ?_
      refine B_chk (fun t14 => ?_)
      refine K_getR 11 78 2278 lf_Mo_165 rfl rfl t14 (fun a15 r16 => ?_)
      refine B_iload_n rfl ?_
      refine B_chk (fun t17 => ?_)
      refine K_iald t17 ?_
      exact B_iret rfl
    · skip
      refine B_iconst (0 : Int32) ic_0 ?_
      refine B_goto (tgt := 32) (by decide) ?_
      refine V_open ok_Mo_text_32 ?_
      exact B_iret rfl

-- PF_drawn
theorem ok_PF_drawn_0 : okb prog_1_method_50_code 0 [(.iload_n 1, 1), (.ifCond .ne 19, 3), (.aload_n 0, 1), (.getfield 88, 3), (.getfield 216, 3), (.getfield 220, 3), (.bipush 8, 2), (.idiv, 1), (.goto 37, 3)] = true := by decide +kernel
theorem ok_PF_drawn_20 : okb prog_1_method_50_code 20 [(.iload_n 1, 1), (.iconst 1, 1), (.if_icmp .ne 16, 3), (.aload_n 0, 1), (.getfield 88, 3), (.getfield 443, 3), (.getfield 220, 3), (.goto 19, 3)] = true := by decide +kernel
theorem ok_PF_drawn_38 : okb prog_1_method_50_code 38 [(.iload_n 1, 1), (.iconst 2, 1), (.if_icmp .ne 13, 3), (.aload_n 0, 1), (.getfield 88, 3), (.invokevirtual 446, 3), (.goto 4, 3)] = true := by decide +kernel
theorem ok_PF_drawn_53 : okb prog_1_method_50_code 53 [(.iconst (-1), 1), (.ireturn, 1)] = true := by decide +kernel
theorem ok_PF_drawn_54 : okb prog_1_method_50_code 54 [(.ireturn, 1)] = true := by decide +kernel
set_option maxRecDepth 100000 in
def f_PF_drawn (G : GT) (l0 : Nat) (l1 : Int32) (M : PH) : Option (Int32 × PH) :=
  if ¬ l1 = 0 then (if ¬ l1 = (1 : Int32) then (if ¬ l1 = (2 : Int32) then (some ((-1 : Int32), M)) else (if hT M l0 = 10 then (hR M 2024 l0).bind fun a2 => if hT M a2 = 4 then bI (f_DrawList_made G a2 M) fun v6 M5 => (some (v6, M5)) else none else none)) else (if hT M l0 = 10 then (hR M 2024 l0).bind fun a8 => if hT M a8 = 4 then (hR M 801 a8).bind fun a11 => if hT M a11 = 0 then some (hI M 1 a11, M) else none else none else none)) else (if hT M l0 = 10 then (hR M 2024 l0).bind fun a15 => if hT M a15 = 4 then (hR M 800 a15).bind fun a18 => if hT M a18 = 0 then if (8 : Int32) = 0 then none else some ((hI M 1 a18) / (8 : Int32), M) else none else none else none)
set_option maxRecDepth 100000 in
set_option maxHeartbeats 4000000 in
theorem s_PF_drawn {G : GT} (l0 : Nat) (l1 : Int32) (M : PH) : VX G mi_PF_drawn 1 12 0 [some (.ref l0), some (.int l1)] [] M qI (f_PF_drawn G l0 l1 M) := by
  unfold f_PF_drawn
  refine V_open ok_PF_drawn_0 ?_
  refine B_iload_n rfl ?_
  refine B_ne (tgt := 20) (by decide) ?_ ?_
  · skip
    refine V_open ok_PF_drawn_20 ?_
    refine B_iload_n rfl ?_
    refine B_iconst (1 : Int32) ic_1 ?_
    refine B_ine (tgt := 38) (by decide) ?_ ?_
    · skip
      refine V_open ok_PF_drawn_38 ?_
      refine B_iload_n rfl ?_
      refine B_iconst (2 : Int32) ic_2 ?_
      refine B_ine (tgt := 53) (by decide) ?_ ?_
      · skip
        refine V_open ok_PF_drawn_53 ?_
        refine B_iconst (-1 : Int32) ic_m1 ?_
        exact B_iret rfl
      · skip
        refine B_aload_n rfl ?_
        refine B_chk (fun t1 => ?_)
        refine K_getR 10 24 2024 lf_PF_88 rfl rfl t1 (fun a2 r3 => ?_)
        refine B_chk (fun t4 => ?_)
        refine C_I (vs := [.ref a2]) (st := []) (ci_V lv_PF_446 rfl rfl t4) rfl rfl rfl (s_DrawList_made a2 M) (fun v6 M5 => ?_)
        refine B_goto (tgt := 54) (by decide) ?_
        refine V_open ok_PF_drawn_54 ?_
        exact B_iret rfl
    · skip
      refine B_aload_n rfl ?_
      refine B_chk (fun t7 => ?_)
      refine K_getR 10 24 2024 lf_PF_88 rfl rfl t7 (fun a8 r9 => ?_)
      refine B_chk (fun t10 => ?_)
      refine K_getR 4 1 801 lf_PF_443 rfl rfl t10 (fun a11 r12 => ?_)
      refine B_chk (fun t13 => ?_)
      refine K_getI 0 1 1 lf_PF_220 rfl rfl t13 ?_
      refine B_goto (tgt := 54) (by decide) ?_
      refine V_open ok_PF_drawn_54 ?_
      exact B_iret rfl
  · skip
    refine B_aload_n rfl ?_
    refine B_chk (fun t14 => ?_)
    refine K_getR 10 24 2024 lf_PF_88 rfl rfl t14 (fun a15 r16 => ?_)
    refine B_chk (fun t17 => ?_)
    refine K_getR 4 0 800 lf_PF_216 rfl rfl t17 (fun a18 r19 => ?_)
    refine B_chk (fun t20 => ?_)
    refine K_getI 0 1 1 lf_PF_220 rfl rfl t20 ?_
    refine B_bipush (8 : Int32) bp_8 ?_
    refine B_idiv ?_
    refine B_goto (tgt := 54) (by decide) ?_
    refine V_open ok_PF_drawn_54 ?_
    exact B_iret rfl

-- Mo_drawn
theorem ok_Mo_drawn_0 : okb prog_13_method_68_code 0 [(.aload_n 0, 1), (.iconst 0, 1), (.putfield 175, 3), (.aload_n 0, 1), (.iload_n 1, 1), (.invokevirtual 313, 3), (.ireturn, 1)] = true := by decide +kernel
set_option maxRecDepth 100000 in
def f_Mo_drawn (G : GT) (l0 : Nat) (l1 : Int32) (M : PH) : Option (Int32 × PH) :=
  if hT M l0 = 11 then hb (sI M 2200 l0 (0 : Int32)) fun M3 => bI (f_Mo_drawnCount G l0 l1 M3) fun v6 M5 => (some (v6, M5)) else none
set_option maxRecDepth 100000 in
set_option maxHeartbeats 4000000 in
theorem s_Mo_drawn {G : GT} (l0 : Nat) (l1 : Int32) (M : PH) : VX G mi_Mo_drawn 2 31 0 [some (.ref l0), some (.int l1)] [] M qI (f_Mo_drawn G l0 l1 M) := by
  unfold f_Mo_drawn
  refine V_open ok_Mo_drawn_0 ?_
  refine B_aload_n rfl ?_
  refine B_iconst (0 : Int32) ic_0 ?_
  refine B_chk (fun t1 => ?_)
  refine K_putI 11 0 2200 lf_Mo_175 rfl (Or.inl rfl) rfl t1 (fun M3 e2 => ?_)
  refine B_aload_n rfl ?_
  refine B_iload_n rfl ?_
  have h4 : hT M3 l0 = 11 := by rw [e2]; exact t1
  refine C_I (vs := [.ref l0, .int l1]) (st := []) (ci_V lv_Mo_313 rfl rfl h4) rfl rfl rfl (s_Mo_drawnCount l0 l1 M3) (fun v6 M5 => ?_)
  exact B_iret rfl

-- Row_get
theorem ok_Row_get_0 : okb prog_9_method_4_code 0 [(.iload_n 1, 1), (.ifCond .lt 20, 3), (.iload_n 1, 1), (.aload_n 0, 1), (.getfield 15, 3), (.if_icmp .ge 12, 3), (.aload_n 0, 1), (.getfield 9, 3), (.iload_n 1, 1), (.iaload, 1), (.goto 4, 3)] = true := by decide +kernel
theorem ok_Row_get_21 : okb prog_9_method_4_code 21 [(.iconst (-1), 1), (.ireturn, 1)] = true := by decide +kernel
theorem ok_Row_get_22 : okb prog_9_method_4_code 22 [(.ireturn, 1)] = true := by decide +kernel
set_option maxRecDepth 100000 in
def f_Row_get (G : GT) (l0 : Nat) (l1 : Int32) (M : PH) : Option (Int32 × PH) :=
  if l1 < 0 then (some ((-1 : Int32), M)) else (if hT M l0 = 0 then if hI M 1 l0 ≤ l1 then (some ((-1 : Int32), M)) else ((hR M 0 l0).bind fun a2 => if hT M a2 = 16 then if ib l1 (hN M a2) = true then some (hA M a2 l1.toNatClampNeg, M) else none else none) else none)
set_option maxRecDepth 100000 in
set_option maxHeartbeats 4000000 in
theorem s_Row_get {G : GT} (l0 : Nat) (l1 : Int32) (M : PH) : VX G mi_Row_get 0 0 0 [some (.ref l0), some (.int l1)] [] M qI (f_Row_get G l0 l1 M) := by
  unfold f_Row_get
  refine V_open ok_Row_get_0 ?_
  refine B_iload_n rfl ?_
  refine B_lt (tgt := 21) (by decide) ?_ ?_
  · skip
    refine V_open ok_Row_get_21 ?_
    refine B_iconst (-1 : Int32) ic_m1 ?_
    exact B_iret rfl
  · skip
    refine B_iload_n rfl ?_
    refine B_aload_n rfl ?_
    refine B_chk (fun t1 => ?_)
    refine K_getI 0 1 1 lf_Row_15 rfl rfl t1 ?_
    refine B_ige (tgt := 21) (by decide) ?_ ?_
    · skip
      refine V_open ok_Row_get_21 ?_
      refine B_iconst (-1 : Int32) ic_m1 ?_
      exact B_iret rfl
    · skip
      refine B_aload_n rfl ?_
      refine K_getR 0 0 0 lf_Row_9 rfl rfl t1 (fun a2 r3 => ?_)
      refine B_iload_n rfl ?_
      refine B_chk (fun t4 => ?_)
      refine K_iald t4 ?_
      refine B_goto (tgt := 22) (by decide) ?_
      refine V_open ok_Row_get_22 ?_
      exact B_iret rfl

-- PF_command
theorem ok_PF_command_0 : okb prog_1_method_51_code 0 [(.iload_n 2, 1), (.ifCond .lt 22, 3), (.iload_n 2, 1), (.bipush 8, 2), (.if_icmp .ge 16, 3), (.iload_n 1, 1), (.ifCond .lt 12, 3), (.iload_n 1, 1), (.aload_n 0, 1), (.iconst 0, 1), (.invokevirtual 449, 3), (.if_icmp .lt 7, 3)] = true := by decide +kernel
theorem ok_PF_command_23 : okb prog_1_method_51_code 23 [(.iconst (-1), 1), (.goto 19, 3)] = true := by decide +kernel
theorem ok_PF_command_27 : okb prog_1_method_51_code 27 [(.aload_n 0, 1), (.getfield 88, 3), (.getfield 216, 3), (.bipush 8, 2), (.iload_n 1, 1), (.imul, 1), (.iload_n 2, 1), (.iadd, 1), (.invokevirtual 452, 3), (.ireturn, 1)] = true := by decide +kernel
theorem ok_PF_command_43 : okb prog_1_method_51_code 43 [(.ireturn, 1)] = true := by decide +kernel
set_option maxRecDepth 100000 in
def b_PF_command_23 (G : GT)  (M : PH) : Option (Int32 × PH) :=
  some ((-1 : Int32), M)
set_option maxRecDepth 100000 in
set_option maxHeartbeats 4000000 in
theorem t_PF_command_23 {G : GT}  (M : PH) : VX G mi_PF_command 2 26 23 [none, none, none] [] M qI (b_PF_command_23 G  M) := by
  unfold b_PF_command_23
  refine V_open ok_PF_command_23 ?_
  refine B_iconst (-1 : Int32) ic_m1 ?_
  refine B_goto (tgt := 43) (by decide) ?_
  refine V_open ok_PF_command_43 ?_
  exact B_iret rfl
set_option maxRecDepth 100000 in
def f_PF_command (G : GT) (l0 : Nat) (l1 : Int32) (l2 : Int32) (M : PH) : Option (Int32 × PH) :=
  if l2 < 0 then (b_PF_command_23 G M) else (if (8 : Int32) ≤ l2 then (b_PF_command_23 G M) else (if l1 < 0 then (b_PF_command_23 G M) else (if hT M l0 = 10 then bI (f_PF_drawn G l0 (0 : Int32) M) fun v3 M2 => (if l1 < v3 then (if hT M2 l0 = 10 then (hR M2 2024 l0).bind fun a5 => if hT M2 a5 = 4 then (hR M2 800 a5).bind fun a8 => if hT M2 a8 = 0 then bI (f_Row_get G a8 (((8 : Int32) * l1) + l2) M2) fun v12 M11 => (some (v12, M11)) else none else none else none) else (b_PF_command_23 G M2)) else none)))
set_option maxRecDepth 100000 in
set_option maxHeartbeats 4000000 in
theorem s_PF_command {G : GT} (l0 : Nat) (l1 : Int32) (l2 : Int32) (M : PH) : VX G mi_PF_command 2 26 0 [some (.ref l0), some (.int l1), some (.int l2)] [] M qI (f_PF_command G l0 l1 l2 M) := by
  unfold f_PF_command
  refine V_open ok_PF_command_0 ?_
  refine B_iload_n rfl ?_
  refine B_lt (tgt := 23) (by decide) ?_ ?_
  · skip
    exact V_weak (ls' := [none, none, none]) trivial (t_PF_command_23 M)
  · skip
    refine B_iload_n rfl ?_
    refine B_bipush (8 : Int32) bp_8 ?_
    refine B_ige (tgt := 23) (by decide) ?_ ?_
    · skip
      exact V_weak (ls' := [none, none, none]) trivial (t_PF_command_23 M)
    · skip
      refine B_iload_n rfl ?_
      refine B_lt (tgt := 23) (by decide) ?_ ?_
      · skip
        exact V_weak (ls' := [none, none, none]) trivial (t_PF_command_23 M)
      · skip
        refine B_iload_n rfl ?_
        refine B_aload_n rfl ?_
        refine B_iconst (0 : Int32) ic_0 ?_
        refine B_chk (fun t1 => ?_)
        refine C_I (vs := [.ref l0, .int (0 : Int32)]) (st := [.int l1]) (ci_V lv_PF_449 rfl rfl t1) rfl rfl rfl (s_PF_drawn l0 (0 : Int32) M) (fun v3 M2 => ?_)
        refine B_ilt (tgt := 27) (by decide) ?_ ?_
        · skip
          refine V_open ok_PF_command_27 ?_
          refine B_aload_n rfl ?_
          refine B_chk (fun t4 => ?_)
          refine K_getR 10 24 2024 lf_PF_88 rfl rfl t4 (fun a5 r6 => ?_)
          refine B_chk (fun t7 => ?_)
          refine K_getR 4 0 800 lf_PF_216 rfl rfl t7 (fun a8 r9 => ?_)
          refine B_bipush (8 : Int32) bp_8 ?_
          refine B_iload_n rfl ?_
          refine B_imul ?_
          refine B_iload_n rfl ?_
          refine B_iadd ?_
          refine B_chk (fun t10 => ?_)
          refine C_I (vs := [.ref a8, .int (((8 : Int32) * l1) + l2)]) (st := []) (ci_V lv_PF_452 rfl rfl t10) rfl rfl rfl (s_Row_get a8 (((8 : Int32) * l1) + l2) M2) (fun v12 M11 => ?_)
          exact B_iret rfl
        · skip
          refine V_close ?_
          exact V_weak (ls' := [none, none, none]) trivial (t_PF_command_23 M2)

-- Mo_command
theorem ok_Mo_command_0 : okb prog_13_method_69_code 0 [(.aload_n 0, 1), (.iconst 0, 1), (.putfield 175, 3), (.iload_n 1, 1), (.ifCond .lt 13, 3), (.iload_n 2, 1), (.ifCond .lt 9, 3), (.iload_n 2, 1), (.bipush 7, 2), (.if_icmp .le 5, 3), (.iconst (-1), 1), (.ireturn, 1)] = true := by decide +kernel
theorem ok_Mo_command_19 : okb prog_13_method_69_code 19 [(.iconst (-1), 1), (.ireturn, 1)] = true := by decide +kernel
theorem ok_Mo_command_21 : okb prog_13_method_69_code 21 [(.iconst 0, 1), (.istore_n 3, 1)] = true := by decide +kernel
theorem ok_Mo_command_23 : okb prog_13_method_69_code 23 [(.iload_n 3, 1), (.aload_n 0, 1), (.getfield 307, 3), (.if_icmp .ge 138, 3), (.aload_n 0, 1), (.iload_n 3, 1), (.invokevirtual 409, 3), (.aload_n 0, 1), (.getfield 400, 3), (.iload_n 1, 1), (.if_icmp .eq 6, 3), (.goto 116, 3)] = true := by decide +kernel
theorem ok_Mo_command_47 : okb prog_13_method_69_code 47 [(.iload_n 2, 1), (.iconst 4, 1), (.if_icmp .ge 18, 3), (.aload_n 0, 1), (.getfield 172, 3), (.bipush 11, 2), (.iload_n 3, 1), (.imul, 1), (.bipush 7, 2), (.iadd, 1), (.iload_n 2, 1), (.iadd, 1), (.iaload, 1), (.ireturn, 1)] = true := by decide +kernel
theorem ok_Mo_command_67 : okb prog_13_method_69_code 67 [(.iload_n 2, 1), (.iconst 4, 1), (.if_icmp .ne 16, 3), (.aload_n 0, 1), (.getfield 172, 3), (.bipush 11, 2), (.iload_n 3, 1), (.imul, 1), (.bipush 6, 2), (.iadd, 1), (.iaload, 1), (.ireturn, 1)] = true := by decide +kernel
theorem ok_Mo_command_85 : okb prog_13_method_69_code 85 [(.iload_n 2, 1), (.iconst 5, 1), (.if_icmp .ne 13, 3), (.aload_n 0, 1), (.getfield 397, 3), (.aload_n 0, 1), (.getfield 403, 3), (.iadd, 1), (.ireturn, 1)] = true := by decide +kernel
theorem ok_Mo_command_100 : okb prog_13_method_69_code 100 [(.iload_n 2, 1), (.bipush 6, 2), (.if_icmp .ne 8, 3), (.aload_n 0, 1), (.getfield 406, 3), (.ireturn, 1)] = true := by decide +kernel
theorem ok_Mo_command_111 : okb prog_13_method_69_code 111 [(.iload_n 3, 1), (.istore 4, 2)] = true := by decide +kernel
theorem ok_Mo_command_114 : okb prog_13_method_69_code 114 [(.iload 4, 2), (.iconst 1, 1), (.iadd, 1), (.aload_n 0, 1), (.getfield 307, 3), (.if_icmp .ge 28, 3), (.aload_n 0, 1), (.iload 4, 2), (.iconst 1, 1), (.iadd, 1), (.invokevirtual 409, 3), (.aload_n 0, 1), (.getfield 400, 3), (.iload_n 1, 1), (.if_icmp .eq 6, 3), (.goto 9, 3)] = true := by decide +kernel
theorem ok_Mo_command_144 : okb prog_13_method_69_code 144 [(.iinc 4 1, 3), (.goto (-33), 3)] = true := by decide +kernel
theorem ok_Mo_command_150 : okb prog_13_method_69_code 150 [(.bipush 6, 2), (.iload 4, 2), (.iconst 1, 1), (.iadd, 1), (.iload_n 3, 1), (.isub, 1), (.imul, 1), (.ireturn, 1)] = true := by decide +kernel
theorem ok_Mo_command_160 : okb prog_13_method_69_code 160 [(.iinc 3 1, 3), (.goto (-140), 3)] = true := by decide +kernel
theorem ok_Mo_command_166 : okb prog_13_method_69_code 166 [(.iconst (-1), 1), (.ireturn, 1)] = true := by decide +kernel
set_option maxRecDepth 100000 in
def b_Mo_command_150 (G : GT) (l3 : Int32) (l4 : Int32) (M : PH) : Option (Int32 × PH) :=
  some ((6 : Int32) * ((l4 + (1 : Int32)) - l3), M)
set_option maxRecDepth 100000 in
set_option maxHeartbeats 4000000 in
theorem t_Mo_command_150 {G : GT} (l3 : Int32) (l4 : Int32) (M : PH) : VX G mi_Mo_command 1 18 150 [none, none, none, some (.int l3), some (.int l4)] [] M qI (b_Mo_command_150 G l3 l4 M) := by
  unfold b_Mo_command_150
  refine V_open ok_Mo_command_150 ?_
  refine B_bipush (6 : Int32) bp_6 ?_
  refine B_iload rfl ?_
  refine B_iconst (1 : Int32) ic_1 ?_
  refine B_iadd ?_
  refine B_iload_n rfl ?_
  refine B_isub ?_
  refine B_imul ?_
  exact B_iret rfl
set_option maxRecDepth 100000 in
def b_Mo_command_114 (G : GT) (k114 : Nat → Int32 → Int32 → Int32 → PH → Option (Int32 × PH)) (l0 : Nat) (l1 : Int32) (l3 : Int32) (l4 : Int32) (M : PH) : Option (Int32 × PH) :=
  if hT M l0 = 11 then if hI M 2283 l0 ≤ l4 + (1 : Int32) then (b_Mo_command_150 G l3 l4 M) else (bV (f_Mo_walk G l0 (l4 + (1 : Int32)) M) fun M2 => (if hT M2 l0 = 11 then if hI M2 2285 l0 = l1 then (k114 l0 l1 l3 (l4 + (1 : Int32)) M2) else (b_Mo_command_150 G l3 l4 M2) else none)) else none
set_option maxRecDepth 100000 in
set_option maxHeartbeats 4000000 in
theorem t_Mo_command_114 {G : GT} {k114 : Nat → Int32 → Int32 → Int32 → PH → Option (Int32 × PH)} (hk114 : ∀ (l0 : Nat) (l1 : Int32) (l3 : Int32) (l4 : Int32) (M : PH), VX G mi_Mo_command 1 18 114 [some (.ref l0), some (.int l1), none, some (.int l3), some (.int l4)] [] M qI (k114 l0 l1 l3 l4 M)) (l0 : Nat) (l1 : Int32) (l3 : Int32) (l4 : Int32) (M : PH) : VX G mi_Mo_command 1 18 114 [some (.ref l0), some (.int l1), none, some (.int l3), some (.int l4)] [] M qI (b_Mo_command_114 G k114 l0 l1 l3 l4 M) := by
  unfold b_Mo_command_114
  refine V_open ok_Mo_command_114 ?_
  refine B_iload rfl ?_
  refine B_iconst (1 : Int32) ic_1 ?_
  refine B_iadd ?_
  refine B_aload_n rfl ?_
  refine B_chk (fun t1 => ?_)
  refine K_getI 11 83 2283 lf_Mo_307 rfl rfl t1 ?_
  refine B_ige (tgt := 150) (by decide) ?_ ?_
  · skip
    exact V_weak (ls' := [none, none, none, some (.int l3), some (.int l4)]) ⟨rfl, ⟨rfl, trivial⟩⟩ (t_Mo_command_150 l3 l4 M)
  · skip
    refine B_aload_n rfl ?_
    refine B_iload rfl ?_
    refine B_iconst (1 : Int32) ic_1 ?_
    refine B_iadd ?_
    refine C_V (vs := [.ref l0, .int (l4 + (1 : Int32))]) (st := []) (ci_V lv_Mo_409 rfl rfl t1) rfl rfl rfl (s_Mo_walk l0 (l4 + (1 : Int32)) M) (fun M2 => ?_)
    refine B_aload_n rfl ?_
    refine B_chk (fun t3 => ?_)
    refine K_getI 11 85 2285 lf_Mo_400 rfl rfl t3 ?_
    refine B_iload_n rfl ?_
    refine B_ieq (tgt := 144) (by decide) ?_ ?_
    · skip
      refine V_open ok_Mo_command_144 ?_
      refine S_inc (1 : Int32) [some (.ref l0), some (.int l1), none, some (.int l3), some (.int (l4 + (1 : Int32)))] ic_1 rfl (by decide) rfl ?_
      refine B_goto (tgt := 114) (by decide) ?_
      exact V_weak (ls' := [some (.ref l0), some (.int l1), none, some (.int l3), some (.int (l4 + (1 : Int32)))]) ⟨rfl, ⟨rfl, ⟨rfl, ⟨rfl, trivial⟩⟩⟩⟩ (hk114 l0 l1 l3 (l4 + (1 : Int32)) M2)
    · skip
      refine B_goto (tgt := 150) (by decide) ?_
      exact V_weak (ls' := [none, none, none, some (.int l3), some (.int l4)]) ⟨rfl, ⟨rfl, trivial⟩⟩ (t_Mo_command_150 l3 l4 M2)
set_option maxRecDepth 100000 in
def w_Mo_command_114 (G : GT) : Nat → Nat → Int32 → Int32 → Int32 → PH → Option (Int32 × PH)
  | 0 => fun _ _ _ _ _ => none
  | n + 1 => b_Mo_command_114 G (w_Mo_command_114 G n)
set_option maxRecDepth 100000 in
set_option maxHeartbeats 4000000 in
theorem tw_Mo_command_114 {G : GT} : ∀ (n : Nat) (l0 : Nat) (l1 : Int32) (l3 : Int32) (l4 : Int32) (M : PH), VX G mi_Mo_command 1 18 114 [some (.ref l0), some (.int l1), none, some (.int l3), some (.int l4)] [] M qI (w_Mo_command_114 G n l0 l1 l3 l4 M)
  | 0, _, _, _, _, _ => X_none
  | n + 1, l0, l1, l3, l4, M => t_Mo_command_114 (tw_Mo_command_114 n) l0 l1 l3 l4 M
set_option maxRecDepth 100000 in
def b_Mo_command_23 (G : GT) (k23 : Nat → Int32 → Int32 → Int32 → PH → Option (Int32 × PH)) (l0 : Nat) (l1 : Int32) (l2 : Int32) (l3 : Int32) (M : PH) : Option (Int32 × PH) :=
  if hT M l0 = 11 then if hI M 2283 l0 ≤ l3 then (some ((-1 : Int32), M)) else (bV (f_Mo_walk G l0 l3 M) fun M2 => (if hT M2 l0 = 11 then if hI M2 2285 l0 = l1 then (if (4 : Int32) ≤ l2 then (if ¬ l2 = (4 : Int32) then (if ¬ l2 = (5 : Int32) then (if ¬ l2 = (6 : Int32) then (w_Mo_command_114 G FU l0 l1 l3 l3 M2) else (some (hI M2 2287 l0, M2))) else (some ((hI M2 2284 l0) + (hI M2 2286 l0), M2))) else ((hR M2 2281 l0).bind fun a4 => if hT M2 a4 = 16 then if ib (((11 : Int32) * l3) + (6 : Int32)) (hN M2 a4) = true then some (hA M2 a4 (((11 : Int32) * l3) + (6 : Int32)).toNatClampNeg, M2) else none else none)) else ((hR M2 2281 l0).bind fun a7 => if hT M2 a7 = 16 then if ib ((((11 : Int32) * l3) + (7 : Int32)) + l2) (hN M2 a7) = true then some (hA M2 a7 ((((11 : Int32) * l3) + (7 : Int32)) + l2).toNatClampNeg, M2) else none else none)) else (k23 l0 l1 l2 (l3 + (1 : Int32)) M2) else none)) else none
set_option maxRecDepth 100000 in
set_option maxHeartbeats 4000000 in
theorem t_Mo_command_23 {G : GT} {k23 : Nat → Int32 → Int32 → Int32 → PH → Option (Int32 × PH)} (hk23 : ∀ (l0 : Nat) (l1 : Int32) (l2 : Int32) (l3 : Int32) (M : PH), VX G mi_Mo_command 1 18 23 [some (.ref l0), some (.int l1), some (.int l2), some (.int l3), none] [] M qI (k23 l0 l1 l2 l3 M)) (l0 : Nat) (l1 : Int32) (l2 : Int32) (l3 : Int32) (M : PH) : VX G mi_Mo_command 1 18 23 [some (.ref l0), some (.int l1), some (.int l2), some (.int l3), none] [] M qI (b_Mo_command_23 G k23 l0 l1 l2 l3 M) := by
  unfold b_Mo_command_23
  refine V_open ok_Mo_command_23 ?_
  refine B_iload_n rfl ?_
  refine B_aload_n rfl ?_
  refine B_chk (fun t1 => ?_)
  refine K_getI 11 83 2283 lf_Mo_307 rfl rfl t1 ?_
  refine B_ige (tgt := 166) (by decide) ?_ ?_
  · skip
    refine V_open ok_Mo_command_166 ?_
    refine B_iconst (-1 : Int32) ic_m1 ?_
    exact B_iret rfl
  · skip
    refine B_aload_n rfl ?_
    refine B_iload_n rfl ?_
    refine C_V (vs := [.ref l0, .int l3]) (st := []) (ci_V lv_Mo_409 rfl rfl t1) rfl rfl rfl (s_Mo_walk l0 l3 M) (fun M2 => ?_)
    refine B_aload_n rfl ?_
    refine B_chk (fun t3 => ?_)
    refine K_getI 11 85 2285 lf_Mo_400 rfl rfl t3 ?_
    refine B_iload_n rfl ?_
    refine B_ieq (tgt := 47) (by decide) ?_ ?_
    · skip
      refine V_open ok_Mo_command_47 ?_
      refine B_iload_n rfl ?_
      refine B_iconst (4 : Int32) ic_4 ?_
      refine B_ige (tgt := 67) (by decide) ?_ ?_
      · skip
        refine V_open ok_Mo_command_67 ?_
        refine B_iload_n rfl ?_
        refine B_iconst (4 : Int32) ic_4 ?_
        refine B_ine (tgt := 85) (by decide) ?_ ?_
        · skip
          refine V_open ok_Mo_command_85 ?_
          refine B_iload_n rfl ?_
          refine B_iconst (5 : Int32) ic_5 ?_
          refine B_ine (tgt := 100) (by decide) ?_ ?_
          · skip
            refine V_open ok_Mo_command_100 ?_
            refine B_iload_n rfl ?_
            refine B_bipush (6 : Int32) bp_6 ?_
            refine B_ine (tgt := 111) (by decide) ?_ ?_
            · skip
              refine V_open ok_Mo_command_111 ?_
              refine B_iload_n rfl ?_
              refine S_i [some (.ref l0), some (.int l1), some (.int l2), some (.int l3), some (.int l3)] (by decide) rfl ?_
              refine V_close ?_
              exact V_weak (ls' := [some (.ref l0), some (.int l1), none, some (.int l3), some (.int l3)]) ⟨rfl, ⟨rfl, ⟨rfl, ⟨rfl, trivial⟩⟩⟩⟩ (tw_Mo_command_114 FU l0 l1 l3 l3 M2)
            · skip
              refine B_aload_n rfl ?_
              refine K_getI 11 87 2287 lf_Mo_406 rfl rfl t3 ?_
              exact B_iret rfl
          · skip
            refine B_aload_n rfl ?_
            refine K_getI 11 84 2284 lf_Mo_397 rfl rfl t3 ?_
            refine B_aload_n rfl ?_
            refine K_getI 11 86 2286 lf_Mo_403 rfl rfl t3 ?_
            refine B_iadd ?_
            exact B_iret rfl
        · skip
          refine B_aload_n rfl ?_
          refine K_getR 11 81 2281 lf_Mo_172 rfl rfl t3 (fun a4 r5 => ?_)
          refine B_bipush (11 : Int32) bp_11 ?_
          refine B_iload_n rfl ?_
          refine B_imul ?_
          refine B_bipush (6 : Int32) bp_6 ?_
          refine B_iadd ?_
          refine B_chk (fun t6 => ?_)
          refine K_iald t6 ?_
          exact B_iret rfl
      · skip
        refine B_aload_n rfl ?_
        refine K_getR 11 81 2281 lf_Mo_172 rfl rfl t3 (fun a7 r8 => ?_)
        refine B_bipush (11 : Int32) bp_11 ?_
        refine B_iload_n rfl ?_
        refine B_imul ?_
        refine B_bipush (7 : Int32) bp_7 ?_
        refine B_iadd ?_
        refine B_iload_n rfl ?_
        refine B_iadd ?_
        refine B_chk (fun t9 => ?_)
        refine K_iald t9 ?_
        exact B_iret rfl
    · skip
      refine B_goto (tgt := 160) (by decide) ?_
      refine V_open ok_Mo_command_160 ?_
      refine S_inc (1 : Int32) [some (.ref l0), some (.int l1), some (.int l2), some (.int (l3 + (1 : Int32))), none] ic_1 rfl (by decide) rfl ?_
      refine B_goto (tgt := 23) (by decide) ?_
      exact V_weak (ls' := [some (.ref l0), some (.int l1), some (.int l2), some (.int (l3 + (1 : Int32))), none]) ⟨rfl, ⟨rfl, ⟨rfl, ⟨rfl, trivial⟩⟩⟩⟩ (hk23 l0 l1 l2 (l3 + (1 : Int32)) M2)
set_option maxRecDepth 100000 in
def w_Mo_command_23 (G : GT) : Nat → Nat → Int32 → Int32 → Int32 → PH → Option (Int32 × PH)
  | 0 => fun _ _ _ _ _ => none
  | n + 1 => b_Mo_command_23 G (w_Mo_command_23 G n)
set_option maxRecDepth 100000 in
set_option maxHeartbeats 4000000 in
theorem tw_Mo_command_23 {G : GT} : ∀ (n : Nat) (l0 : Nat) (l1 : Int32) (l2 : Int32) (l3 : Int32) (M : PH), VX G mi_Mo_command 1 18 23 [some (.ref l0), some (.int l1), some (.int l2), some (.int l3), none] [] M qI (w_Mo_command_23 G n l0 l1 l2 l3 M)
  | 0, _, _, _, _, _ => X_none
  | n + 1, l0, l1, l2, l3, M => t_Mo_command_23 (tw_Mo_command_23 n) l0 l1 l2 l3 M
set_option maxRecDepth 100000 in
def f_Mo_command (G : GT) (l0 : Nat) (l1 : Int32) (l2 : Int32) (M : PH) : Option (Int32 × PH) :=
  if hT M l0 = 11 then hb (sI M 2200 l0 (0 : Int32)) fun M3 => if l1 < 0 then (some ((-1 : Int32), M3)) else (if l2 < 0 then (some ((-1 : Int32), M3)) else (if l2 ≤ (7 : Int32) then (w_Mo_command_23 G FU l0 l1 l2 (0 : Int32) M3) else (some ((-1 : Int32), M3)))) else none
set_option maxRecDepth 100000 in
set_option maxHeartbeats 4000000 in
theorem s_Mo_command {G : GT} (l0 : Nat) (l1 : Int32) (l2 : Int32) (M : PH) : VX G mi_Mo_command 1 18 0 [some (.ref l0), some (.int l1), some (.int l2), none, none] [] M qI (f_Mo_command G l0 l1 l2 M) := by
  unfold f_Mo_command
  refine V_open ok_Mo_command_0 ?_
  refine B_aload_n rfl ?_
  refine B_iconst (0 : Int32) ic_0 ?_
  refine B_chk (fun t1 => ?_)
  refine K_putI 11 0 2200 lf_Mo_175 rfl (Or.inl rfl) rfl t1 (fun M3 e2 => ?_)
  refine B_iload_n rfl ?_
  refine B_lt (tgt := 19) (by decide) ?_ ?_
  · skip
    refine V_open ok_Mo_command_19 ?_
    refine B_iconst (-1 : Int32) ic_m1 ?_
    exact B_iret rfl
  · skip
    refine B_iload_n rfl ?_
    refine B_lt (tgt := 19) (by decide) ?_ ?_
    · skip
      refine V_open ok_Mo_command_19 ?_
      refine B_iconst (-1 : Int32) ic_m1 ?_
      exact B_iret rfl
    · skip
      refine B_iload_n rfl ?_
      refine B_bipush (7 : Int32) bp_7 ?_
      refine B_ile (tgt := 21) (by decide) ?_ ?_
      · skip
        refine V_open ok_Mo_command_21 ?_
        refine B_iconst (0 : Int32) ic_0 ?_
        refine S_in [some (.ref l0), some (.int l1), some (.int l2), some (.int (0 : Int32)), none] (by decide) rfl ?_
        refine V_close ?_
        exact V_weak (ls' := [some (.ref l0), some (.int l1), some (.int l2), some (.int (0 : Int32)), none]) ⟨rfl, ⟨rfl, ⟨rfl, ⟨rfl, trivial⟩⟩⟩⟩ (tw_Mo_command_23 FU l0 l1 l2 (0 : Int32) M3)
      · skip
        refine B_iconst (-1 : Int32) ic_m1 ?_
        exact B_iret rfl

-- PF_index
theorem ok_PF_index_0 : okb prog_1_method_52_code 0 [(.aload_n 0, 1), (.getfield 88, 3), (.getfield 443, 3), (.iload_n 1, 1), (.invokevirtual 452, 3), (.ireturn, 1)] = true := by decide +kernel
set_option maxRecDepth 100000 in
def f_PF_index (G : GT) (l0 : Nat) (l1 : Int32) (M : PH) : Option (Int32 × PH) :=
  if hT M l0 = 10 then (hR M 2024 l0).bind fun a2 => if hT M a2 = 4 then (hR M 801 a2).bind fun a5 => if hT M a5 = 0 then bI (f_Row_get G a5 l1 M) fun v9 M8 => (some (v9, M8)) else none else none else none
set_option maxRecDepth 100000 in
set_option maxHeartbeats 4000000 in
theorem s_PF_index {G : GT} (l0 : Nat) (l1 : Int32) (M : PH) : VX G mi_PF_index 1 13 0 [some (.ref l0), some (.int l1)] [] M qI (f_PF_index G l0 l1 M) := by
  unfold f_PF_index
  refine V_open ok_PF_index_0 ?_
  refine B_aload_n rfl ?_
  refine B_chk (fun t1 => ?_)
  refine K_getR 10 24 2024 lf_PF_88 rfl rfl t1 (fun a2 r3 => ?_)
  refine B_chk (fun t4 => ?_)
  refine K_getR 4 1 801 lf_PF_443 rfl rfl t4 (fun a5 r6 => ?_)
  refine B_iload_n rfl ?_
  refine B_chk (fun t7 => ?_)
  refine C_I (vs := [.ref a5, .int l1]) (st := []) (ci_V lv_PF_452 rfl rfl t7) rfl rfl rfl (s_Row_get a5 l1 M) (fun v9 M8 => ?_)
  exact B_iret rfl

-- Mo_index
theorem ok_Mo_index_0 : okb prog_13_method_70_code 0 [(.aload_n 0, 1), (.iconst 0, 1), (.putfield 175, 3), (.iload_n 1, 1), (.ifCond .lt 14, 3), (.iload_n 1, 1), (.bipush 6, 2), (.aload_n 0, 1), (.getfield 307, 3), (.imul, 1), (.if_icmp .lt 5, 3), (.iconst (-1), 1), (.ireturn, 1)] = true := by decide +kernel
theorem ok_Mo_index_20 : okb prog_13_method_70_code 20 [(.iconst (-1), 1), (.ireturn, 1)] = true := by decide +kernel
theorem ok_Mo_index_22 : okb prog_13_method_70_code 22 [(.aload_n 0, 1), (.iload_n 1, 1), (.bipush 6, 2), (.idiv, 1), (.invokevirtual 409, 3), (.iload_n 1, 1), (.bipush 6, 2), (.irem, 1), (.istore_n 2, 1), (.iconst 4, 1), (.iload_n 1, 1), (.bipush 6, 2), (.idiv, 1), (.imul, 1), (.aload_n 0, 1), (.getfield 397, 3), (.isub, 1), (.aload_n 0, 1), (.getfield 403, 3), (.isub, 1), (.iload_n 2, 1), (.iconst 3, 1), (.if_icmp .ge 7, 3), (.iload_n 2, 1), (.goto 15, 3)] = true := by decide +kernel
theorem ok_Mo_index_60 : okb prog_13_method_70_code 60 [(.iload_n 2, 1), (.iconst 3, 1), (.if_icmp .ne 7, 3), (.iconst 0, 1), (.goto 6, 3)] = true := by decide +kernel
theorem ok_Mo_index_69 : okb prog_13_method_70_code 69 [(.iload_n 2, 1), (.iconst 2, 1), (.isub, 1), (.iadd, 1), (.ireturn, 1)] = true := by decide +kernel
theorem ok_Mo_index_72 : okb prog_13_method_70_code 72 [(.iadd, 1), (.ireturn, 1)] = true := by decide +kernel
set_option maxRecDepth 100000 in
def f_Mo_index (G : GT) (l0 : Nat) (l1 : Int32) (M : PH) : Option (Int32 × PH) :=
  if hT M l0 = 11 then hb (sI M 2200 l0 (0 : Int32)) fun M3 => if l1 < 0 then (some ((-1 : Int32), M3)) else (if l1 < (6 : Int32) * (hI M3 2283 l0) then (if (6 : Int32) = 0 then none else bV (f_Mo_walk G l0 (l1 / (6 : Int32)) M3) fun M5 => (if (6 : Int32) = 0 then none else vb (l1 - l1 / (6 : Int32) * (6 : Int32)) fun v6 => if (6 : Int32) = 0 then none else if hT M5 l0 = 11 then if (3 : Int32) ≤ v6 then (if ¬ v6 = (3 : Int32) then (some (((((4 : Int32) * (l1 / (6 : Int32))) - (hI M5 2284 l0)) - (hI M5 2286 l0)) + (v6 - (2 : Int32)), M5)) else (some (((((4 : Int32) * (l1 / (6 : Int32))) - (hI M5 2284 l0)) - (hI M5 2286 l0)) + (0 : Int32), M5))) else (some (((((4 : Int32) * (l1 / (6 : Int32))) - (hI M5 2284 l0)) - (hI M5 2286 l0)) + v6, M5)) else none)) else (some ((-1 : Int32), M3))) else none
set_option maxRecDepth 100000 in
set_option maxHeartbeats 4000000 in
theorem s_Mo_index {G : GT} (l0 : Nat) (l1 : Int32) (M : PH) : VX G mi_Mo_index 1 18 0 [some (.ref l0), some (.int l1), none] [] M qI (f_Mo_index G l0 l1 M) := by
  unfold f_Mo_index
  refine V_open ok_Mo_index_0 ?_
  refine B_aload_n rfl ?_
  refine B_iconst (0 : Int32) ic_0 ?_
  refine B_chk (fun t1 => ?_)
  refine K_putI 11 0 2200 lf_Mo_175 rfl (Or.inl rfl) rfl t1 (fun M3 e2 => ?_)
  refine B_iload_n rfl ?_
  refine B_lt (tgt := 20) (by decide) ?_ ?_
  · skip
    refine V_open ok_Mo_index_20 ?_
    refine B_iconst (-1 : Int32) ic_m1 ?_
    exact B_iret rfl
  · skip
    refine B_iload_n rfl ?_
    refine B_bipush (6 : Int32) bp_6 ?_
    refine B_aload_n rfl ?_
    have h4 : hT M3 l0 = 11 := by rw [e2]; exact t1
    refine K_getI 11 83 2283 lf_Mo_307 rfl rfl h4 ?_
    refine B_imul ?_
    refine B_ilt (tgt := 22) (by decide) ?_ ?_
    · skip
      refine V_open ok_Mo_index_22 ?_
      refine B_aload_n rfl ?_
      refine B_iload_n rfl ?_
      refine B_bipush (6 : Int32) bp_6 ?_
      refine B_idiv ?_
      refine C_V (vs := [.ref l0, .int (l1 / (6 : Int32))]) (st := []) (ci_V lv_Mo_409 rfl rfl h4) rfl rfl rfl (s_Mo_walk l0 (l1 / (6 : Int32)) M3) (fun M5 => ?_)
      refine B_iload_n rfl ?_
      refine B_bipush (6 : Int32) bp_6 ?_
      refine B_irem ?_
      refine B_vb (fun v6 => ?_)
      refine S_in [some (.ref l0), some (.int l1), some (.int v6)] (by decide) rfl ?_
      refine B_iconst (4 : Int32) ic_4 ?_
      refine B_iload_n rfl ?_
      refine B_bipush (6 : Int32) bp_6 ?_
      refine B_idiv ?_
      refine B_imul ?_
      refine B_aload_n rfl ?_
      refine B_chk (fun t7 => ?_)
      refine K_getI 11 84 2284 lf_Mo_397 rfl rfl t7 ?_
      refine B_isub ?_
      refine B_aload_n rfl ?_
      refine K_getI 11 86 2286 lf_Mo_403 rfl rfl t7 ?_
      refine B_isub ?_
      refine B_iload_n rfl ?_
      refine B_iconst (3 : Int32) ic_3 ?_
      refine B_ige (tgt := 60) (by decide) ?_ ?_
      · skip
        refine V_open ok_Mo_index_60 ?_
        refine B_iload_n rfl ?_
        refine B_iconst (3 : Int32) ic_3 ?_
        refine B_ine (tgt := 69) (by decide) ?_ ?_
        · skip
          refine V_open ok_Mo_index_69 ?_
          refine B_iload_n rfl ?_
          refine B_iconst (2 : Int32) ic_2 ?_
          refine B_isub ?_
          refine B_iadd ?_
          exact B_iret rfl
        · skip
          refine B_iconst (0 : Int32) ic_0 ?_
          refine B_goto (tgt := 72) (by decide) ?_
          refine V_open ok_Mo_index_72 ?_
          refine B_iadd ?_
          exact B_iret rfl
      · skip
        refine B_iload_n rfl ?_
        refine B_goto (tgt := 72) (by decide) ?_
        refine V_open ok_Mo_index_72 ?_
        refine B_iadd ?_
        exact B_iret rfl
    · skip
      refine B_iconst (-1 : Int32) ic_m1 ?_
      exact B_iret rfl

-- PF_vertex
theorem ok_PF_vertex_0 : okb prog_1_method_53_code 0 [(.iload_n 1, 1), (.ifCond .lt 23, 3), (.iload_n 1, 1), (.aload_n 0, 1), (.getfield 88, 3), (.invokevirtual 446, 3), (.if_icmp .ge 12, 3), (.iload_n 2, 1), (.ifCond .lt 8, 3), (.iload_n 2, 1), (.iconst 2, 1), (.if_icmp .le 9, 3)] = true := by decide +kernel
theorem ok_PF_vertex_24 : okb prog_1_method_53_code 24 [(.sipush (-10000), 3), (.goto 19, 3)] = true := by decide +kernel
theorem ok_PF_vertex_30 : okb prog_1_method_53_code 30 [(.aload_n 0, 1), (.getfield 88, 3), (.getfield 455, 3), (.getfield 458, 3), (.iconst 3, 1), (.iload_n 1, 1), (.imul, 1), (.iload_n 2, 1), (.iadd, 1), (.iaload, 1), (.ireturn, 1)] = true := by decide +kernel
theorem ok_PF_vertex_46 : okb prog_1_method_53_code 46 [(.ireturn, 1)] = true := by decide +kernel
set_option maxRecDepth 100000 in
def b_PF_vertex_24 (G : GT)  (M : PH) : Option (Int32 × PH) :=
  some ((-10000 : Int32), M)
set_option maxRecDepth 100000 in
set_option maxHeartbeats 4000000 in
theorem t_PF_vertex_24 {G : GT}  (M : PH) : VX G mi_PF_vertex 1 13 24 [none, none, none] [] M qI (b_PF_vertex_24 G  M) := by
  unfold b_PF_vertex_24
  refine V_open ok_PF_vertex_24 ?_
  refine B_sipush (-10000 : Int32) sp_m10000 ?_
  refine B_goto (tgt := 46) (by decide) ?_
  refine V_open ok_PF_vertex_46 ?_
  exact B_iret rfl
set_option maxRecDepth 100000 in
def f_PF_vertex (G : GT) (l0 : Nat) (l1 : Int32) (l2 : Int32) (M : PH) : Option (Int32 × PH) :=
  if l1 < 0 then (b_PF_vertex_24 G M) else (if hT M l0 = 10 then (hR M 2024 l0).bind fun a2 => if hT M a2 = 4 then bI (f_DrawList_made G a2 M) fun v6 M5 => (if v6 ≤ l1 then (b_PF_vertex_24 G M5) else (if l2 < 0 then (b_PF_vertex_24 G M5) else (if l2 ≤ (2 : Int32) then (if hT M5 l0 = 10 then (hR M5 2024 l0).bind fun a8 => if hT M5 a8 = 4 then (hR M5 802 a8).bind fun a11 => if hT M5 a11 = 0 then (hR M5 0 a11).bind fun a14 => if hT M5 a14 = 16 then if ib (((3 : Int32) * l1) + l2) (hN M5 a14) = true then some (hA M5 a14 (((3 : Int32) * l1) + l2).toNatClampNeg, M5) else none else none else none else none else none) else (b_PF_vertex_24 G M5)))) else none else none)
set_option maxRecDepth 100000 in
set_option maxHeartbeats 4000000 in
theorem s_PF_vertex {G : GT} (l0 : Nat) (l1 : Int32) (l2 : Int32) (M : PH) : VX G mi_PF_vertex 1 13 0 [some (.ref l0), some (.int l1), some (.int l2)] [] M qI (f_PF_vertex G l0 l1 l2 M) := by
  unfold f_PF_vertex
  refine V_open ok_PF_vertex_0 ?_
  refine B_iload_n rfl ?_
  refine B_lt (tgt := 24) (by decide) ?_ ?_
  · skip
    exact V_weak (ls' := [none, none, none]) trivial (t_PF_vertex_24 M)
  · skip
    refine B_iload_n rfl ?_
    refine B_aload_n rfl ?_
    refine B_chk (fun t1 => ?_)
    refine K_getR 10 24 2024 lf_PF_88 rfl rfl t1 (fun a2 r3 => ?_)
    refine B_chk (fun t4 => ?_)
    refine C_I (vs := [.ref a2]) (st := [.int l1]) (ci_V lv_PF_446 rfl rfl t4) rfl rfl rfl (s_DrawList_made a2 M) (fun v6 M5 => ?_)
    refine B_ige (tgt := 24) (by decide) ?_ ?_
    · skip
      exact V_weak (ls' := [none, none, none]) trivial (t_PF_vertex_24 M5)
    · skip
      refine B_iload_n rfl ?_
      refine B_lt (tgt := 24) (by decide) ?_ ?_
      · skip
        exact V_weak (ls' := [none, none, none]) trivial (t_PF_vertex_24 M5)
      · skip
        refine B_iload_n rfl ?_
        refine B_iconst (2 : Int32) ic_2 ?_
        refine B_ile (tgt := 30) (by decide) ?_ ?_
        · skip
          refine V_open ok_PF_vertex_30 ?_
          refine B_aload_n rfl ?_
          refine B_chk (fun t7 => ?_)
          refine K_getR 10 24 2024 lf_PF_88 rfl rfl t7 (fun a8 r9 => ?_)
          refine B_chk (fun t10 => ?_)
          refine K_getR 4 2 802 lf_PF_455 rfl rfl t10 (fun a11 r12 => ?_)
          refine B_chk (fun t13 => ?_)
          refine K_getR 0 0 0 lf_PF_458 rfl rfl t13 (fun a14 r15 => ?_)
          refine B_iconst (3 : Int32) ic_3 ?_
          refine B_iload_n rfl ?_
          refine B_imul ?_
          refine B_iload_n rfl ?_
          refine B_iadd ?_
          refine B_chk (fun t16 => ?_)
          refine K_iald t16 ?_
          exact B_iret rfl
        · skip
          refine V_close ?_
          exact V_weak (ls' := [none, none, none]) trivial (t_PF_vertex_24 M5)

-- Mo_vertex
theorem ok_Mo_vertex_0 : okb prog_13_method_71_code 0 [(.aload_n 0, 1), (.iconst 0, 1), (.putfield 175, 3), (.iload_n 1, 1), (.ifCond .lt 22, 3), (.iload_n 1, 1), (.iconst 4, 1), (.aload_n 0, 1), (.getfield 307, 3), (.imul, 1), (.if_icmp .ge 12, 3), (.iload_n 2, 1), (.ifCond .lt 8, 3), (.iload_n 2, 1), (.iconst 2, 1), (.if_icmp .le 7, 3), (.sipush (-10000), 3), (.ireturn, 1)] = true := by decide +kernel
theorem ok_Mo_vertex_28 : okb prog_13_method_71_code 28 [(.sipush (-10000), 3), (.ireturn, 1)] = true := by decide +kernel
theorem ok_Mo_vertex_32 : okb prog_13_method_71_code 32 [(.bipush 11, 2), (.iload_n 1, 1), (.iconst 4, 1), (.idiv, 1), (.imul, 1), (.istore_n 3, 1), (.iload_n 1, 1), (.iconst 4, 1), (.irem, 1), (.istore 4, 2), (.iload_n 2, 1), (.iconst 2, 1), (.if_icmp .ne 12, 3), (.aload_n 0, 1), (.getfield 172, 3), (.iload_n 3, 1), (.iconst 5, 1), (.iadd, 1), (.iaload, 1), (.ireturn, 1)] = true := by decide +kernel
theorem ok_Mo_vertex_58 : okb prog_13_method_71_code 58 [(.iload_n 2, 1), (.ifCond .ne 28, 3), (.aload_n 0, 1), (.getfield 172, 3), (.iload_n 3, 1), (.iload 4, 2), (.iconst 1, 1), (.if_icmp .eq 9, 3), (.iload 4, 2), (.iconst 2, 1), (.if_icmp .ne 7, 3)] = true := by decide +kernel
theorem ok_Mo_vertex_79 : okb prog_13_method_71_code 79 [(.iconst 3, 1), (.goto 4, 3)] = true := by decide +kernel
theorem ok_Mo_vertex_83 : okb prog_13_method_71_code 83 [(.iconst 1, 1), (.iadd, 1), (.iaload, 1), (.ireturn, 1)] = true := by decide +kernel
theorem ok_Mo_vertex_84 : okb prog_13_method_71_code 84 [(.iadd, 1), (.iaload, 1), (.ireturn, 1)] = true := by decide +kernel
theorem ok_Mo_vertex_87 : okb prog_13_method_71_code 87 [(.aload_n 0, 1), (.getfield 172, 3), (.iload_n 3, 1), (.iload 4, 2), (.iconst 2, 1), (.if_icmp .ge 7, 3), (.iconst 2, 1), (.goto 4, 3)] = true := by decide +kernel
theorem ok_Mo_vertex_102 : okb prog_13_method_71_code 102 [(.iconst 4, 1), (.iadd, 1), (.iaload, 1), (.ireturn, 1)] = true := by decide +kernel
theorem ok_Mo_vertex_103 : okb prog_13_method_71_code 103 [(.iadd, 1), (.iaload, 1), (.ireturn, 1)] = true := by decide +kernel
set_option maxRecDepth 100000 in
def b_Mo_vertex_79 (G : GT) (s0 : Nat) (s1 : Int32) (M : PH) : Option (Int32 × PH) :=
  if hT M s0 = 16 then if ib (s1 + (3 : Int32)) (hN M s0) = true then some (hA M s0 (s1 + (3 : Int32)).toNatClampNeg, M) else none else none
set_option maxRecDepth 100000 in
set_option maxHeartbeats 4000000 in
theorem t_Mo_vertex_79 {G : GT} (s0 : Nat) (s1 : Int32) (M : PH) : VX G mi_Mo_vertex 0 0 79 [none, none, none, none, none] [.int s1, .ref s0] M qI (b_Mo_vertex_79 G s0 s1 M) := by
  unfold b_Mo_vertex_79
  refine V_open ok_Mo_vertex_79 ?_
  refine B_iconst (3 : Int32) ic_3 ?_
  refine B_goto (tgt := 84) (by decide) ?_
  refine V_open ok_Mo_vertex_84 ?_
  refine B_iadd ?_
  refine B_chk (fun t1 => ?_)
  refine K_iald t1 ?_
  exact B_iret rfl
set_option maxRecDepth 100000 in
def f_Mo_vertex (G : GT) (l0 : Nat) (l1 : Int32) (l2 : Int32) (M : PH) : Option (Int32 × PH) :=
  if hT M l0 = 11 then hb (sI M 2200 l0 (0 : Int32)) fun M3 => if l1 < 0 then (some ((-10000 : Int32), M3)) else (if (4 : Int32) * (hI M3 2283 l0) ≤ l1 then (some ((-10000 : Int32), M3)) else (if l2 < 0 then (some ((-10000 : Int32), M3)) else (if l2 ≤ (2 : Int32) then (if (4 : Int32) = 0 then none else vb ((11 : Int32) * (l1 / (4 : Int32))) fun v5 => if (4 : Int32) = 0 then none else vb (l1 - l1 / (4 : Int32) * (4 : Int32)) fun v6 => if ¬ l2 = (2 : Int32) then (if ¬ l2 = 0 then ((hR M3 2281 l0).bind fun a7 => if (2 : Int32) ≤ v6 then (if hT M3 a7 = 16 then if ib (v5 + (4 : Int32)) (hN M3 a7) = true then some (hA M3 a7 (v5 + (4 : Int32)).toNatClampNeg, M3) else none else none) else (if hT M3 a7 = 16 then if ib (v5 + (2 : Int32)) (hN M3 a7) = true then some (hA M3 a7 (v5 + (2 : Int32)).toNatClampNeg, M3) else none else none)) else ((hR M3 2281 l0).bind fun a11 => if v6 = (1 : Int32) then (b_Mo_vertex_79 G a11 v5 M3) else (if ¬ v6 = (2 : Int32) then (if hT M3 a11 = 16 then if ib (v5 + (1 : Int32)) (hN M3 a11) = true then some (hA M3 a11 (v5 + (1 : Int32)).toNatClampNeg, M3) else none else none) else (b_Mo_vertex_79 G a11 v5 M3)))) else ((hR M3 2281 l0).bind fun a14 => if hT M3 a14 = 16 then if ib (v5 + (5 : Int32)) (hN M3 a14) = true then some (hA M3 a14 (v5 + (5 : Int32)).toNatClampNeg, M3) else none else none)) else (some ((-10000 : Int32), M3))))) else none
set_option maxRecDepth 100000 in
set_option maxHeartbeats 4000000 in
theorem s_Mo_vertex {G : GT} (l0 : Nat) (l1 : Int32) (l2 : Int32) (M : PH) : VX G mi_Mo_vertex 0 0 0 [some (.ref l0), some (.int l1), some (.int l2), none, none] [] M qI (f_Mo_vertex G l0 l1 l2 M) := by
  unfold f_Mo_vertex
  refine V_open ok_Mo_vertex_0 ?_
  refine B_aload_n rfl ?_
  refine B_iconst (0 : Int32) ic_0 ?_
  refine B_chk (fun t1 => ?_)
  refine K_putI 11 0 2200 lf_Mo_175 rfl (Or.inl rfl) rfl t1 (fun M3 e2 => ?_)
  refine B_iload_n rfl ?_
  refine B_lt (tgt := 28) (by decide) ?_ ?_
  · skip
    refine V_open ok_Mo_vertex_28 ?_
    refine B_sipush (-10000 : Int32) sp_m10000 ?_
    exact B_iret rfl
  · skip
    refine B_iload_n rfl ?_
    refine B_iconst (4 : Int32) ic_4 ?_
    refine B_aload_n rfl ?_
    have h4 : hT M3 l0 = 11 := by rw [e2]; exact t1
    refine K_getI 11 83 2283 lf_Mo_307 rfl rfl h4 ?_
    refine B_imul ?_
    refine B_ige (tgt := 28) (by decide) ?_ ?_
    · skip
      refine V_open ok_Mo_vertex_28 ?_
      refine B_sipush (-10000 : Int32) sp_m10000 ?_
      exact B_iret rfl
    · skip
      refine B_iload_n rfl ?_
      refine B_lt (tgt := 28) (by decide) ?_ ?_
      · skip
        refine V_open ok_Mo_vertex_28 ?_
        refine B_sipush (-10000 : Int32) sp_m10000 ?_
        exact B_iret rfl
      · skip
        refine B_iload_n rfl ?_
        refine B_iconst (2 : Int32) ic_2 ?_
        refine B_ile (tgt := 32) (by decide) ?_ ?_
        · skip
          refine V_open ok_Mo_vertex_32 ?_
          refine B_bipush (11 : Int32) bp_11 ?_
          refine B_iload_n rfl ?_
          refine B_iconst (4 : Int32) ic_4 ?_
          refine B_idiv ?_
          refine B_imul ?_
          refine B_vb (fun v5 => ?_)
          refine S_in [some (.ref l0), some (.int l1), some (.int l2), some (.int v5), none] (by decide) rfl ?_
          refine B_iload_n rfl ?_
          refine B_iconst (4 : Int32) ic_4 ?_
          refine B_irem ?_
          refine B_vb (fun v6 => ?_)
          refine S_i [some (.ref l0), some (.int l1), some (.int l2), some (.int v5), some (.int v6)] (by decide) rfl ?_
          refine B_iload_n rfl ?_
          refine B_iconst (2 : Int32) ic_2 ?_
          refine B_ine (tgt := 58) (by decide) ?_ ?_
          · skip
            refine V_open ok_Mo_vertex_58 ?_
            refine B_iload_n rfl ?_
            refine B_ne (tgt := 87) (by decide) ?_ ?_
            · skip
              refine V_open ok_Mo_vertex_87 ?_
              refine B_aload_n rfl ?_
              refine K_getR 11 81 2281 lf_Mo_172 rfl rfl h4 (fun a7 r8 => ?_)
              refine B_iload_n rfl ?_
              refine B_iload rfl ?_
              refine B_iconst (2 : Int32) ic_2 ?_
              refine B_ige (tgt := 102) (by decide) ?_ ?_
              · skip
                refine V_open ok_Mo_vertex_102 ?_
                refine B_iconst (4 : Int32) ic_4 ?_
                refine B_iadd ?_
                refine B_chk (fun t9 => ?_)
                refine K_iald t9 ?_
                exact B_iret rfl
              · skip
                refine B_iconst (2 : Int32) ic_2 ?_
                refine B_goto (tgt := 103) (by decide) ?_
                refine V_open ok_Mo_vertex_103 ?_
                refine B_iadd ?_
                refine B_chk (fun t10 => ?_)
                refine K_iald t10 ?_
                exact B_iret rfl
            · skip
              refine B_aload_n rfl ?_
              refine K_getR 11 81 2281 lf_Mo_172 rfl rfl h4 (fun a11 r12 => ?_)
              refine B_iload_n rfl ?_
              refine B_iload rfl ?_
              refine B_iconst (1 : Int32) ic_1 ?_
              refine B_ieq (tgt := 79) (by decide) ?_ ?_
              · skip
                exact V_weak (ls' := [none, none, none, none, none]) trivial (t_Mo_vertex_79 a11 v5 M3)
              · skip
                refine B_iload rfl ?_
                refine B_iconst (2 : Int32) ic_2 ?_
                refine B_ine (tgt := 83) (by decide) ?_ ?_
                · skip
                  refine V_open ok_Mo_vertex_83 ?_
                  refine B_iconst (1 : Int32) ic_1 ?_
                  refine B_iadd ?_
                  refine B_chk (fun t13 => ?_)
                  refine K_iald t13 ?_
                  exact B_iret rfl
                · skip
                  refine V_close ?_
                  exact V_weak (ls' := [none, none, none, none, none]) trivial (t_Mo_vertex_79 a11 v5 M3)
          · skip
            refine B_aload_n rfl ?_
            refine K_getR 11 81 2281 lf_Mo_172 rfl rfl h4 (fun a14 r15 => ?_)
            refine B_iload_n rfl ?_
            refine B_iconst (5 : Int32) ic_5 ?_
            refine B_iadd ?_
            refine B_chk (fun t16 => ?_)
            refine K_iald t16 ?_
            exact B_iret rfl
        · skip
          refine B_sipush (-10000 : Int32) sp_m10000 ?_
          exact B_iret rfl
