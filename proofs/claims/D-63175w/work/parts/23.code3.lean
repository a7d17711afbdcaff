-- DrawList_append
theorem ok_DrawList_append_0 : okb prog_3_method_7_code 0 [(.aload_n 0, 1), (.invokevirtual 52, 3), (.istore_n 2, 1), (.aload_n 0, 1), (.getfield 16, 3), (.getfield 22, 3), (.istore_n 3, 1), (.iconst 0, 1), (.istore 4, 2)] = true := by decide +kernel
theorem ok_DrawList_append_16 : okb prog_3_method_7_code 16 [(.iload 4, 2), (.aload_n 1, 1), (.getfield 10, 3), (.getfield 22, 3), (.if_icmp .ge 55, 3), (.aload_n 0, 1), (.getfield 10, 3), (.aload_n 1, 1), (.getfield 10, 3), (.getfield 48, 3), (.iload 4, 2), (.iaload, 1), (.iload 4, 2), (.bipush 8, 2), (.irem, 1), (.iconst 5, 1), (.if_icmp .ne 7, 3), (.iload_n 2, 1), (.goto 18, 3)] = true := by decide +kernel
theorem ok_DrawList_append_55 : okb prog_3_method_7_code 55 [(.iload 4, 2), (.bipush 8, 2), (.irem, 1), (.bipush 6, 2), (.if_icmp .ne 7, 3), (.iload_n 3, 1), (.goto 4, 3)] = true := by decide +kernel
theorem ok_DrawList_append_69 : okb prog_3_method_7_code 69 [(.iconst 0, 1)] = true := by decide +kernel
theorem ok_DrawList_append_70 : okb prog_3_method_7_code 70 [(.iadd, 1), (.invokevirtual 26, 3), (.iinc 4 1, 3), (.goto (-61), 3)] = true := by decide +kernel
theorem ok_DrawList_append_80 : okb prog_3_method_7_code 80 [(.aload_n 0, 1), (.getfield 16, 3), (.aload_n 1, 1), (.getfield 16, 3), (.iconst 0, 1), (.invokevirtual 64, 3), (.aload_n 0, 1), (.getfield 19, 3), (.aload_n 1, 1), (.getfield 19, 3), (.iconst 0, 1), (.invokevirtual 64, 3), (.return_, 1)] = true := by decide +kernel
set_option maxRecDepth 100000 in
def b_DrawList_append_70 (G : GT) (k16 : Nat → Nat → Int32 → Int32 → Int32 → PH → Option (PH)) (l0 : Nat) (l1 : Nat) (l2 : Int32) (l3 : Int32) (l4 : Int32) (s0 : Nat) (s1 : Int32) (s2 : Int32) (M : PH) : Option (PH) :=
  if hT M s0 = 0 then bV (f_Row_add G s0 (s1 + s2) M) fun M2 => (k16 l0 l1 l2 l3 (l4 + (1 : Int32)) M2) else none
set_option maxRecDepth 100000 in
set_option maxHeartbeats 4000000 in
theorem t_DrawList_append_70 {G : GT} {k16 : Nat → Nat → Int32 → Int32 → Int32 → PH → Option (PH)} (hk16 : ∀ (l0 : Nat) (l1 : Nat) (l2 : Int32) (l3 : Int32) (l4 : Int32) (M : PH), VX G mi_DrawList_append 3 47 16 [some (.ref l0), some (.ref l1), some (.int l2), some (.int l3), some (.int l4)] [] M qV (k16 l0 l1 l2 l3 l4 M)) (l0 : Nat) (l1 : Nat) (l2 : Int32) (l3 : Int32) (l4 : Int32) (s0 : Nat) (s1 : Int32) (s2 : Int32) (M : PH) : VX G mi_DrawList_append 3 47 70 [some (.ref l0), some (.ref l1), some (.int l2), some (.int l3), some (.int l4)] [.int s2, .int s1, .ref s0] M qV (b_DrawList_append_70 G k16 l0 l1 l2 l3 l4 s0 s1 s2 M) := by
  unfold b_DrawList_append_70
  refine V_open ok_DrawList_append_70 ?_
  refine B_iadd ?_
  refine B_chk (fun t1 => ?_)
  refine C_V (vs := [.ref s0, .int (s1 + s2)]) (st := []) (ci_V lv_DrawList_26 rfl rfl t1) rfl rfl rfl (s_Row_add s0 (s1 + s2) M) (fun M2 => ?_)
  refine S_inc (1 : Int32) [some (.ref l0), some (.ref l1), some (.int l2), some (.int l3), some (.int (l4 + (1 : Int32)))] ic_1 rfl (by decide) rfl ?_
  refine B_goto (tgt := 16) (by decide) ?_
  exact V_weak (ls' := [some (.ref l0), some (.ref l1), some (.int l2), some (.int l3), some (.int (l4 + (1 : Int32)))]) ⟨rfl, ⟨rfl, ⟨rfl, ⟨rfl, ⟨rfl, trivial⟩⟩⟩⟩⟩ (hk16 l0 l1 l2 l3 (l4 + (1 : Int32)) M2)
set_option maxRecDepth 100000 in
def b_DrawList_append_16 (G : GT) (k16 : Nat → Nat → Int32 → Int32 → Int32 → PH → Option (PH)) (l0 : Nat) (l1 : Nat) (l2 : Int32) (l3 : Int32) (l4 : Int32) (M : PH) : Option (PH) :=
  if hT M l1 = 4 then (hR M 800 l1).bind fun a2 => if hT M a2 = 0 then if hI M 1 a2 ≤ l4 then (if hT M l0 = 4 then (hR M 801 l0).bind fun a6 => (hR M 801 l1).bind fun a8 => if hT M a6 = 0 then bV (f_Row_addAll G a6 a8 (0 : Int32) M) fun M11 => (if hT M11 l0 = 4 then (hR M11 802 l0).bind fun a13 => if hT M11 l1 = 4 then (hR M11 802 l1).bind fun a16 => if hT M11 a13 = 0 then bV (f_Row_addAll G a13 a16 (0 : Int32) M11) fun M19 => (some M19) else none else none else none) else none else none) else (if hT M l0 = 4 then (hR M 800 l0).bind fun a21 => (hR M 0 a2).bind fun a23 => if hT M a23 = 16 then if ib l4 (hN M a23) = true then if (8 : Int32) = 0 then none else if ¬ l4 - l4 / (8 : Int32) * (8 : Int32) = (5 : Int32) then (if (8 : Int32) = 0 then none else if ¬ l4 - l4 / (8 : Int32) * (8 : Int32) = (6 : Int32) then (b_DrawList_append_70 G k16 l0 l1 l2 l3 l4 a21 (hA M a23 l4.toNatClampNeg) (0 : Int32) M) else (b_DrawList_append_70 G k16 l0 l1 l2 l3 l4 a21 (hA M a23 l4.toNatClampNeg) l3 M)) else (b_DrawList_append_70 G k16 l0 l1 l2 l3 l4 a21 (hA M a23 l4.toNatClampNeg) l2 M) else none else none else none) else none else none
set_option maxRecDepth 100000 in
set_option maxHeartbeats 4000000 in
theorem t_DrawList_append_16 {G : GT} {k16 : Nat → Nat → Int32 → Int32 → Int32 → PH → Option (PH)} (hk16 : ∀ (l0 : Nat) (l1 : Nat) (l2 : Int32) (l3 : Int32) (l4 : Int32) (M : PH), VX G mi_DrawList_append 3 47 16 [some (.ref l0), some (.ref l1), some (.int l2), some (.int l3), some (.int l4)] [] M qV (k16 l0 l1 l2 l3 l4 M)) (l0 : Nat) (l1 : Nat) (l2 : Int32) (l3 : Int32) (l4 : Int32) (M : PH) : VX G mi_DrawList_append 3 47 16 [some (.ref l0), some (.ref l1), some (.int l2), some (.int l3), some (.int l4)] [] M qV (b_DrawList_append_16 G k16 l0 l1 l2 l3 l4 M) := by
  unfold b_DrawList_append_16
  refine V_open ok_DrawList_append_16 ?_
  refine B_iload rfl ?_
  refine B_aload_n rfl ?_
  refine B_chk (fun t1 => ?_)
  refine K_getR 4 0 800 lf_DrawList_10 rfl rfl t1 (fun a2 r3 => ?_)
  refine B_chk (fun t4 => ?_)
  refine K_getI 0 1 1 lf_DrawList_22 rfl rfl t4 ?_
  refine B_ige (tgt := 80) (by decide) ?_ ?_
  · skip
    refine V_open ok_DrawList_append_80 ?_
    refine B_aload_n rfl ?_
    refine B_chk (fun t5 => ?_)
    refine K_getR 4 1 801 lf_DrawList_16 rfl rfl t5 (fun a6 r7 => ?_)
    refine B_aload_n rfl ?_
    refine K_getR 4 1 801 lf_DrawList_16 rfl rfl t1 (fun a8 r9 => ?_)
    refine B_iconst (0 : Int32) ic_0 ?_
    refine B_chk (fun t10 => ?_)
    refine C_V (vs := [.ref a6, .ref a8, .int (0 : Int32)]) (st := []) (ci_V lv_DrawList_64 rfl rfl t10) rfl rfl rfl (s_Row_addAll a6 a8 (0 : Int32) M) (fun M11 => ?_)
    refine B_aload_n rfl ?_
    refine B_chk (fun t12 => ?_)
    refine K_getR 4 2 802 lf_DrawList_19 rfl rfl t12 (fun a13 r14 => ?_)
    refine B_aload_n rfl ?_
    refine B_chk (fun t15 => ?_)
    refine K_getR 4 2 802 lf_DrawList_19 rfl rfl t15 (fun a16 r17 => ?_)
    refine B_iconst (0 : Int32) ic_0 ?_
    refine B_chk (fun t18 => ?_)
    refine C_V (vs := [.ref a13, .ref a16, .int (0 : Int32)]) (st := []) (ci_V lv_DrawList_64 rfl rfl t18) rfl rfl rfl (s_Row_addAll a13 a16 (0 : Int32) M11) (fun M19 => ?_)
    exact B_vret rfl
  · skip
    refine B_aload_n rfl ?_
    refine B_chk (fun t20 => ?_)
    refine K_getR 4 0 800 lf_DrawList_10 rfl rfl t20 (fun a21 r22 => ?_)
    refine B_aload_n rfl ?_
    refine K_getRk 4 0 800 lf_DrawList_10 rfl rfl t1 r3 ?_
    refine K_getR 0 0 0 lf_DrawList_48 rfl rfl t4 (fun a23 r24 => ?_)
    refine B_iload rfl ?_
    refine B_chk (fun t25 => ?_)
    refine K_iald t25 ?_
    refine B_iload rfl ?_
    refine B_bipush (8 : Int32) bp_8 ?_
    refine B_irem ?_
    refine B_iconst (5 : Int32) ic_5 ?_
    refine B_ine (tgt := 55) (by decide) ?_ ?_
    · skip
      refine V_open ok_DrawList_append_55 ?_
      refine B_iload rfl ?_
      refine B_bipush (8 : Int32) bp_8 ?_
      refine B_irem ?_
      refine B_bipush (6 : Int32) bp_6 ?_
      refine B_ine (tgt := 69) (by decide) ?_ ?_
      · skip
        refine V_open ok_DrawList_append_69 ?_
        refine B_iconst (0 : Int32) ic_0 ?_
        refine V_close ?_
        exact V_weak (ls' := [some (.ref l0), some (.ref l1), some (.int l2), some (.int l3), some (.int l4)]) ⟨rfl, ⟨rfl, ⟨rfl, ⟨rfl, ⟨rfl, trivial⟩⟩⟩⟩⟩ (t_DrawList_append_70 hk16 l0 l1 l2 l3 l4 a21 (hA M a23 l4.toNatClampNeg) (0 : Int32) M)
      · skip
        refine B_iload_n rfl ?_
        refine B_goto (tgt := 70) (by decide) ?_
        exact V_weak (ls' := [some (.ref l0), some (.ref l1), some (.int l2), some (.int l3), some (.int l4)]) ⟨rfl, ⟨rfl, ⟨rfl, ⟨rfl, ⟨rfl, trivial⟩⟩⟩⟩⟩ (t_DrawList_append_70 hk16 l0 l1 l2 l3 l4 a21 (hA M a23 l4.toNatClampNeg) l3 M)
    · skip
      refine B_iload_n rfl ?_
      refine B_goto (tgt := 70) (by decide) ?_
      exact V_weak (ls' := [some (.ref l0), some (.ref l1), some (.int l2), some (.int l3), some (.int l4)]) ⟨rfl, ⟨rfl, ⟨rfl, ⟨rfl, ⟨rfl, trivial⟩⟩⟩⟩⟩ (t_DrawList_append_70 hk16 l0 l1 l2 l3 l4 a21 (hA M a23 l4.toNatClampNeg) l2 M)
set_option maxRecDepth 100000 in
def w_DrawList_append_16 (G : GT) : Nat → Nat → Nat → Int32 → Int32 → Int32 → PH → Option (PH)
  | 0 => fun _ _ _ _ _ _ => none
  | n + 1 => b_DrawList_append_16 G (w_DrawList_append_16 G n)
set_option maxRecDepth 100000 in
set_option maxHeartbeats 4000000 in
theorem tw_DrawList_append_16 {G : GT} : ∀ (n : Nat) (l0 : Nat) (l1 : Nat) (l2 : Int32) (l3 : Int32) (l4 : Int32) (M : PH), VX G mi_DrawList_append 3 47 16 [some (.ref l0), some (.ref l1), some (.int l2), some (.int l3), some (.int l4)] [] M qV (w_DrawList_append_16 G n l0 l1 l2 l3 l4 M)
  | 0, _, _, _, _, _, _ => X_none
  | n + 1, l0, l1, l2, l3, l4, M => t_DrawList_append_16 (tw_DrawList_append_16 n) l0 l1 l2 l3 l4 M
set_option maxRecDepth 100000 in
def f_DrawList_append (G : GT) (l0 : Nat) (l1 : Nat) (M : PH) : Option (PH) :=
  if hT M l0 = 4 then bI (f_DrawList_made G l0 M) fun v3 M2 => (if hT M2 l0 = 4 then (hR M2 801 l0).bind fun a5 => if hT M2 a5 = 0 then vb (hI M2 1 a5) fun v8 => w_DrawList_append_16 G FU l0 l1 v3 v8 (0 : Int32) M2 else none else none) else none
set_option maxRecDepth 100000 in
set_option maxHeartbeats 4000000 in
theorem s_DrawList_append {G : GT} (l0 : Nat) (l1 : Nat) (M : PH) : VX G mi_DrawList_append 3 47 0 [some (.ref l0), some (.ref l1), none, none, none] [] M qV (f_DrawList_append G l0 l1 M) := by
  unfold f_DrawList_append
  refine V_open ok_DrawList_append_0 ?_
  refine B_aload_n rfl ?_
  refine B_chk (fun t1 => ?_)
  refine C_I (vs := [.ref l0]) (st := []) (ci_V lv_DrawList_52 rfl rfl t1) rfl rfl rfl (s_DrawList_made l0 M) (fun v3 M2 => ?_)
  refine S_in [some (.ref l0), some (.ref l1), some (.int v3), none, none] (by decide) rfl ?_
  refine B_aload_n rfl ?_
  refine B_chk (fun t4 => ?_)
  refine K_getR 4 1 801 lf_DrawList_16 rfl rfl t4 (fun a5 r6 => ?_)
  refine B_chk (fun t7 => ?_)
  refine K_getI 0 1 1 lf_DrawList_22 rfl rfl t7 ?_
  refine B_vb (fun v8 => ?_)
  refine S_in [some (.ref l0), some (.ref l1), some (.int v3), some (.int v8), none] (by decide) rfl ?_
  refine B_iconst (0 : Int32) ic_0 ?_
  refine S_i [some (.ref l0), some (.ref l1), some (.int v3), some (.int v8), some (.int (0 : Int32))] (by decide) rfl ?_
  refine V_close ?_
  exact V_weak (ls' := [some (.ref l0), some (.ref l1), some (.int v3), some (.int v8), some (.int (0 : Int32))]) ⟨rfl, ⟨rfl, ⟨rfl, ⟨rfl, ⟨rfl, trivial⟩⟩⟩⟩⟩ (tw_DrawList_append_16 FU l0 l1 v3 v8 (0 : Int32) M2)

-- PF_end
theorem ok_PF_end_0 : okb prog_1_method_14_code 0 [(.aload_n 0, 1), (.aload_n 0, 1), (.getfield 104, 3), (.ifCond .eq 14, 3), (.aload_n 0, 1), (.getfield 114, 3), (.ifCond .ne 7, 3), (.iconst 1, 1), (.goto 4, 3)] = true := by decide +kernel
theorem ok_PF_end_19 : okb prog_1_method_14_code 19 [(.iconst 0, 1)] = true := by decide +kernel
theorem ok_PF_end_20 : okb prog_1_method_14_code 20 [(.invokevirtual 130, 3), (.aload_n 0, 1), (.getfield 26, 3), (.invokevirtual 203, 3), (.aload_n 0, 1), (.getfield 32, 3), (.bipush 8, 2), (.aaload, 1), (.getfield 123, 3), (.ifCond .ne 15, 3), (.aload_n 0, 1), (.getfield 179, 3), (.ifCond .ne 8, 3), (.aload_n 0, 1), (.iconst (-1), 1), (.putfield 50, 3)] = true := by decide +kernel
theorem ok_PF_end_55 : okb prog_1_method_14_code 55 [(.aload_n 0, 1), (.getfield 88, 3), (.invokevirtual 206, 3), (.iconst 0, 1), (.istore_n 1, 1)] = true := by decide +kernel
theorem ok_PF_end_64 : okb prog_1_method_14_code 64 [(.iload_n 1, 1), (.bipush 8, 2), (.if_icmp .gt 50, 3), (.aload_n 0, 1), (.getfield 32, 3), (.iload_n 1, 1), (.bipush 8, 2), (.if_icmp .ge 12, 3), (.aload_n 0, 1), (.getfield 36, 3), (.iload_n 1, 1), (.iaload, 1), (.goto 5, 3)] = true := by decide +kernel
theorem ok_PF_end_89 : okb prog_1_method_14_code 89 [(.bipush 8, 2)] = true := by decide +kernel
theorem ok_PF_end_91 : okb prog_1_method_14_code 91 [(.aaload, 1), (.astore_n 2, 1), (.aload_n 2, 1), (.getfield 123, 3), (.ifCond .eq 14, 3), (.aload_n 0, 1), (.getfield 88, 3), (.aload_n 2, 1), (.getfield 209, 3), (.invokevirtual 212, 3)] = true := by decide +kernel
theorem ok_PF_end_111 : okb prog_1_method_14_code 111 [(.iinc 1 1, 3), (.goto (-50), 3)] = true := by decide +kernel
theorem ok_PF_end_117 : okb prog_1_method_14_code 117 [(.aload_n 0, 1), (.iconst 0, 1), (.putfield 104, 3), (.aload_n 0, 1), (.getfield 88, 3), (.getfield 216, 3), (.getfield 220, 3), (.bipush 8, 2), (.idiv, 1), (.ireturn, 1)] = true := by decide +kernel
set_option maxRecDepth 100000 in
def b_PF_end_111 (G : GT) (k64 : Nat → Int32 → PH → Option (Nat × Int32 × PH)) (l0 : Nat) (l1 : Int32) (M : PH) : Option (Nat × Int32 × PH) :=
  k64 l0 (l1 + (1 : Int32)) M
set_option maxRecDepth 100000 in
set_option maxHeartbeats 4000000 in
theorem t_PF_end_111 {G : GT} {k64 : Nat → Int32 → PH → Option (Nat × Int32 × PH)} (hk64 : ∀ (l0 : Nat) (l1 : Int32) (M : PH), VX G mi_PF_end 7 94 64 [some (.ref l0), some (.int l1), none] [] M qT (k64 l0 l1 M)) (l0 : Nat) (l1 : Int32) (M : PH) : VX G mi_PF_end 7 94 111 [some (.ref l0), some (.int l1), none] [] M qT (b_PF_end_111 G k64 l0 l1 M) := by
  unfold b_PF_end_111
  refine V_open ok_PF_end_111 ?_
  refine S_inc (1 : Int32) [some (.ref l0), some (.int (l1 + (1 : Int32))), none] ic_1 rfl (by decide) rfl ?_
  refine B_goto (tgt := 64) (by decide) ?_
  exact V_weak (ls' := [some (.ref l0), some (.int (l1 + (1 : Int32))), none]) ⟨rfl, ⟨rfl, trivial⟩⟩ (hk64 l0 (l1 + (1 : Int32)) M)
set_option maxRecDepth 100000 in
def b_PF_end_91 (G : GT) (k64 : Nat → Int32 → PH → Option (Nat × Int32 × PH)) (l0 : Nat) (l1 : Int32) (s0 : Nat) (s1 : Int32) (M : PH) : Option (Nat × Int32 × PH) :=
  if hT M s0 = 20 then if ib s1 (hN M s0) = true then (hX M s0 s1.toNatClampNeg).bind fun a2 => (if hT M a2 = 7 then if hI M 1409 a2 = 0 then (b_PF_end_111 G k64 l0 l1 M) else (if hT M l0 = 10 then (hR M 2024 l0).bind fun a5 => (hR M 1403 a2).bind fun a7 => if hT M a5 = 4 then bV (f_DrawList_append G a5 a7 M) fun M10 => (b_PF_end_111 G k64 l0 l1 M10) else none else none) else none) else none else none
set_option maxRecDepth 100000 in
set_option maxHeartbeats 4000000 in
theorem t_PF_end_91 {G : GT} {k64 : Nat → Int32 → PH → Option (Nat × Int32 × PH)} (hk64 : ∀ (l0 : Nat) (l1 : Int32) (M : PH), VX G mi_PF_end 7 94 64 [some (.ref l0), some (.int l1), none] [] M qT (k64 l0 l1 M)) (l0 : Nat) (l1 : Int32) (s0 : Nat) (s1 : Int32) (M : PH) : VX G mi_PF_end 7 94 91 [some (.ref l0), some (.int l1), none] [.int s1, .ref s0] M qT (b_PF_end_91 G k64 l0 l1 s0 s1 M) := by
  unfold b_PF_end_91
  refine V_open ok_PF_end_91 ?_
  refine B_chk (fun t1 => ?_)
  refine K_aald 20 rfl t1 (fun a2 => ?_)
  refine S_an [some (.ref l0), some (.int l1), some (.ref a2)] (by decide) rfl ?_
  refine B_aload_n rfl ?_
  refine B_chk (fun t3 => ?_)
  refine K_getI 7 9 1409 lf_PF_123 rfl rfl t3 ?_
  refine B_eq (tgt := 111) (by decide) ?_ ?_
  · skip
    exact V_weak (ls' := [some (.ref l0), some (.int l1), none]) ⟨rfl, ⟨rfl, trivial⟩⟩ (t_PF_end_111 hk64 l0 l1 M)
  · skip
    refine B_aload_n rfl ?_
    refine B_chk (fun t4 => ?_)
    refine K_getR 10 24 2024 lf_PF_88 rfl rfl t4 (fun a5 r6 => ?_)
    refine B_aload_n rfl ?_
    refine K_getR 7 3 1403 lf_PF_209 rfl rfl t3 (fun a7 r8 => ?_)
    refine B_chk (fun t9 => ?_)
    refine C_V (vs := [.ref a5, .ref a7]) (st := []) (ci_V lv_PF_212 rfl rfl t9) rfl rfl rfl (s_DrawList_append a5 a7 M) (fun M10 => ?_)
    refine V_close ?_
    exact V_weak (ls' := [some (.ref l0), some (.int l1), none]) ⟨rfl, ⟨rfl, trivial⟩⟩ (t_PF_end_111 hk64 l0 l1 M10)
set_option maxRecDepth 100000 in
def b_PF_end_64 (G : GT) (k64 : Nat → Int32 → PH → Option (Nat × Int32 × PH)) (l0 : Nat) (l1 : Int32) (M : PH) : Option (Nat × Int32 × PH) :=
  if (8 : Int32) < l1 then (if hT M l0 = 10 then hb (sI M 2007 l0 (0 : Int32)) fun M3 => (hR M3 2024 l0).bind fun a5 => if hT M3 a5 = 4 then (hR M3 800 a5).bind fun a8 => if hT M3 a8 = 0 then if (8 : Int32) = 0 then none else some (0, (hI M3 1 a8) / (8 : Int32), M3) else none else none else none) else (if hT M l0 = 10 then (hR M 2003 l0).bind fun a12 => if (8 : Int32) ≤ l1 then (b_PF_end_91 G k64 l0 l1 a12 (8 : Int32) M) else ((hR M 2004 l0).bind fun a14 => if hT M a14 = 16 then if ib l1 (hN M a14) = true then b_PF_end_91 G k64 l0 l1 a12 (hA M a14 l1.toNatClampNeg) M else none else none) else none)
set_option maxRecDepth 100000 in
set_option maxHeartbeats 4000000 in
theorem t_PF_end_64 {G : GT} {k64 : Nat → Int32 → PH → Option (Nat × Int32 × PH)} (hk64 : ∀ (l0 : Nat) (l1 : Int32) (M : PH), VX G mi_PF_end 7 94 64 [some (.ref l0), some (.int l1), none] [] M qT (k64 l0 l1 M)) (l0 : Nat) (l1 : Int32) (M : PH) : VX G mi_PF_end 7 94 64 [some (.ref l0), some (.int l1), none] [] M qT (b_PF_end_64 G k64 l0 l1 M) := by
  unfold b_PF_end_64
  refine V_open ok_PF_end_64 ?_
  refine B_iload_n rfl ?_
  refine B_bipush (8 : Int32) bp_8 ?_
  refine B_igt (tgt := 117) (by decide) ?_ ?_
  · skip
    refine V_open ok_PF_end_117 ?_
    refine B_aload_n rfl ?_
    refine B_iconst (0 : Int32) ic_0 ?_
    refine B_chk (fun t1 => ?_)
    refine K_putZ 10 7 2007 lf_PF_104 rfl (Or.inl rfl) rfl t1 (Or.inl rfl) (fun M3 e2 => ?_)
    refine B_aload_n rfl ?_
    have h4 : hT M3 l0 = 10 := by rw [e2]; exact t1
    refine K_getR 10 24 2024 lf_PF_88 rfl rfl h4 (fun a5 r6 => ?_)
    refine B_chk (fun t7 => ?_)
    refine K_getR 4 0 800 lf_PF_216 rfl rfl t7 (fun a8 r9 => ?_)
    refine B_chk (fun t10 => ?_)
    refine K_getI 0 1 1 lf_PF_220 rfl rfl t10 ?_
    refine B_bipush (8 : Int32) bp_8 ?_
    refine B_idiv ?_
    exact B_tret rfl
  · skip
    refine B_aload_n rfl ?_
    refine B_chk (fun t11 => ?_)
    refine K_getR 10 3 2003 lf_PF_32 rfl rfl t11 (fun a12 r13 => ?_)
    refine B_iload_n rfl ?_
    refine B_bipush (8 : Int32) bp_8 ?_
    refine B_ige (tgt := 89) (by decide) ?_ ?_
    · skip
      refine V_open ok_PF_end_89 ?_
      refine B_bipush (8 : Int32) bp_8 ?_
      refine V_close ?_
      exact V_weak (ls' := [some (.ref l0), some (.int l1), none]) ⟨rfl, ⟨rfl, trivial⟩⟩ (t_PF_end_91 hk64 l0 l1 a12 (8 : Int32) M)
    · skip
      refine B_aload_n rfl ?_
      refine K_getR 10 4 2004 lf_PF_36 rfl rfl t11 (fun a14 r15 => ?_)
      refine B_iload_n rfl ?_
      refine B_chk (fun t16 => ?_)
      refine K_iald t16 ?_
      refine B_goto (tgt := 91) (by decide) ?_
      exact V_weak (ls' := [some (.ref l0), some (.int l1), none]) ⟨rfl, ⟨rfl, trivial⟩⟩ (t_PF_end_91 hk64 l0 l1 a12 (hA M a14 l1.toNatClampNeg) M)
set_option maxRecDepth 100000 in
def w_PF_end_64 (G : GT) : Nat → Nat → Int32 → PH → Option (Nat × Int32 × PH)
  | 0 => fun _ _ _ => none
  | n + 1 => b_PF_end_64 G (w_PF_end_64 G n)
set_option maxRecDepth 100000 in
set_option maxHeartbeats 4000000 in
theorem tw_PF_end_64 {G : GT} : ∀ (n : Nat) (l0 : Nat) (l1 : Int32) (M : PH), VX G mi_PF_end 7 94 64 [some (.ref l0), some (.int l1), none] [] M qT (w_PF_end_64 G n l0 l1 M)
  | 0, _, _, _ => X_none
  | n + 1, l0, l1, M => t_PF_end_64 (tw_PF_end_64 n) l0 l1 M
set_option maxRecDepth 100000 in
def b_PF_end_55 (G : GT) (l0 : Nat) (M : PH) : Option (Nat × Int32 × PH) :=
  if hT M l0 = 10 then (hR M 2024 l0).bind fun a2 => if hT M a2 = 4 then bV (f_DrawList_clear G a2 M) fun M5 => (w_PF_end_64 G FU l0 (0 : Int32) M5) else none else none
set_option maxRecDepth 100000 in
set_option maxHeartbeats 4000000 in
theorem t_PF_end_55 {G : GT} (l0 : Nat) (M : PH) : VX G mi_PF_end 7 94 55 [some (.ref l0), none, none] [] M qT (b_PF_end_55 G l0 M) := by
  unfold b_PF_end_55
  refine V_open ok_PF_end_55 ?_
  refine B_aload_n rfl ?_
  refine B_chk (fun t1 => ?_)
  refine K_getR 10 24 2024 lf_PF_88 rfl rfl t1 (fun a2 r3 => ?_)
  refine B_chk (fun t4 => ?_)
  refine C_V (vs := [.ref a2]) (st := []) (ci_V lv_PF_206 rfl rfl t4) rfl rfl rfl (s_DrawList_clear a2 M) (fun M5 => ?_)
  refine B_iconst (0 : Int32) ic_0 ?_
  refine S_in [some (.ref l0), some (.int (0 : Int32)), none] (by decide) rfl ?_
  refine V_close ?_
  exact V_weak (ls' := [some (.ref l0), some (.int (0 : Int32)), none]) ⟨rfl, ⟨rfl, trivial⟩⟩ (tw_PF_end_64 FU l0 (0 : Int32) M5)
set_option maxRecDepth 100000 in
def b_PF_end_20 (G : GT) (l0 : Nat) (s0 : Nat) (s1 : Int32) (M : PH) : Option (Nat × Int32 × PH) :=
  if hT M s0 = 10 then bT (f_PF_may G s0 s1 M) fun M2 => (if hT M2 l0 = 10 then (hR M2 2002 l0).bind fun a4 => if hT M2 a4 = 9 then bV (f_Att_end G a4 M2) fun M7 => (if hT M7 l0 = 10 then (hR M7 2003 l0).bind fun a9 => if hT M7 a9 = 20 then if 8 < hN M7 a9 then (hX M7 a9 8).bind fun a12 => (if hT M7 a12 = 7 then if ¬ hI M7 1409 a12 = 0 then (b_PF_end_55 G l0 M7) else (if ¬ hI M7 2014 l0 = 0 then (b_PF_end_55 G l0 M7) else (hb (sI M7 2013 l0 (-1 : Int32)) fun M15 => b_PF_end_55 G l0 M15)) else none) else none else none else none) else none else none) else none
set_option maxRecDepth 100000 in
set_option maxHeartbeats 4000000 in
theorem t_PF_end_20 {G : GT} (l0 : Nat) (s0 : Nat) (s1 : Int32) (M : PH) : VX G mi_PF_end 7 94 20 [some (.ref l0), none, none] [.int s1, .ref s0] M qT (b_PF_end_20 G l0 s0 s1 M) := by
  unfold b_PF_end_20
  refine V_open ok_PF_end_20 ?_
  refine B_chk (fun t1 => ?_)
  refine C_T (vs := [.ref s0, .int s1]) (st := []) rfl (ci_V lv_PF_130 rfl rfl t1) rfl rfl rfl (s_PF_may s0 s1 M) (fun M2 => ?_)
  refine B_aload_n rfl ?_
  refine B_chk (fun t3 => ?_)
  refine K_getR 10 2 2002 lf_PF_26 rfl rfl t3 (fun a4 r5 => ?_)
  refine B_chk (fun t6 => ?_)
  refine C_V (vs := [.ref a4]) (st := []) (ci_V lv_PF_203 rfl rfl t6) rfl rfl rfl (s_Att_end a4 M2) (fun M7 => ?_)
  refine B_aload_n rfl ?_
  refine B_chk (fun t8 => ?_)
  refine K_getR 10 3 2003 lf_PF_32 rfl rfl t8 (fun a9 r10 => ?_)
  refine B_bipush (8 : Int32) bp_8 ?_
  refine B_chk (fun t11 => ?_)
  refine K_aaldc 20 8 rfl rfl t11 (fun a12 => ?_)
  refine B_chk (fun t13 => ?_)
  refine K_getI 7 9 1409 lf_PF_123 rfl rfl t13 ?_
  refine B_ne (tgt := 55) (by decide) ?_ ?_
  · skip
    exact V_weak (ls' := [some (.ref l0), none, none]) ⟨rfl, trivial⟩ (t_PF_end_55 l0 M7)
  · skip
    refine B_aload_n rfl ?_
    refine K_getI 10 14 2014 lf_PF_179 rfl rfl t8 ?_
    refine B_ne (tgt := 55) (by decide) ?_ ?_
    · skip
      exact V_weak (ls' := [some (.ref l0), none, none]) ⟨rfl, trivial⟩ (t_PF_end_55 l0 M7)
    · skip
      refine B_aload_n rfl ?_
      refine B_iconst (-1 : Int32) ic_m1 ?_
      refine K_putI 10 13 2013 lf_PF_50 rfl (Or.inl rfl) rfl t8 (fun M15 e14 => ?_)
      refine V_close ?_
      exact V_weak (ls' := [some (.ref l0), none, none]) ⟨rfl, trivial⟩ (t_PF_end_55 l0 M15)
set_option maxRecDepth 100000 in
def b_PF_end_19 (G : GT) (l0 : Nat) (s0 : Nat) (M : PH) : Option (Nat × Int32 × PH) :=
  b_PF_end_20 G l0 s0 (0 : Int32) M
set_option maxRecDepth 100000 in
set_option maxHeartbeats 4000000 in
theorem t_PF_end_19 {G : GT} (l0 : Nat) (s0 : Nat) (M : PH) : VX G mi_PF_end 7 94 19 [some (.ref l0), none, none] [.ref s0] M qT (b_PF_end_19 G l0 s0 M) := by
  unfold b_PF_end_19
  refine V_open ok_PF_end_19 ?_
  refine B_iconst (0 : Int32) ic_0 ?_
  refine V_close ?_
  exact V_weak (ls' := [some (.ref l0), none, none]) ⟨rfl, trivial⟩ (t_PF_end_20 l0 s0 (0 : Int32) M)
set_option maxRecDepth 100000 in
def f_PF_end (G : GT) (l0 : Nat) (M : PH) : Option (Nat × Int32 × PH) :=
  if hT M l0 = 10 then if hI M 2007 l0 = 0 then (b_PF_end_19 G l0 l0 M) else (if ¬ hI M 2006 l0 = 0 then (b_PF_end_19 G l0 l0 M) else (b_PF_end_20 G l0 l0 (1 : Int32) M)) else none
set_option maxRecDepth 100000 in
set_option maxHeartbeats 4000000 in
theorem s_PF_end {G : GT} (l0 : Nat) (M : PH) : VX G mi_PF_end 7 94 0 [some (.ref l0), none, none] [] M qT (f_PF_end G l0 M) := by
  unfold f_PF_end
  refine V_open ok_PF_end_0 ?_
  refine B_aload_n rfl ?_
  refine B_aload_n rfl ?_
  refine B_chk (fun t1 => ?_)
  refine K_getI 10 7 2007 lf_PF_104 rfl rfl t1 ?_
  refine B_eq (tgt := 19) (by decide) ?_ ?_
  · skip
    exact V_weak (ls' := [some (.ref l0), none, none]) ⟨rfl, trivial⟩ (t_PF_end_19 l0 l0 M)
  · skip
    refine B_aload_n rfl ?_
    refine K_getI 10 6 2006 lf_PF_114 rfl rfl t1 ?_
    refine B_ne (tgt := 19) (by decide) ?_ ?_
    · skip
      exact V_weak (ls' := [some (.ref l0), none, none]) ⟨rfl, trivial⟩ (t_PF_end_19 l0 l0 M)
    · skip
      refine B_iconst (1 : Int32) ic_1 ?_
      refine B_goto (tgt := 20) (by decide) ?_
      exact V_weak (ls' := [some (.ref l0), none, none]) ⟨rfl, trivial⟩ (t_PF_end_20 l0 l0 (1 : Int32) M)

-- Law_end
theorem ok_Law_end_0 : okb method_4_code 0 [(.aload_n 1, 1), (.iconst 0, 1), (.aload_n 0, 1), (.invokevirtual 15, 3), (.i2l, 1), (.lastore, 1), (.goto 6, 3)] = true := by decide +kernel
theorem ok_Law_end_11 : okb method_4_code 11 [(.astore_n 2, 1), (.iconst 1, 1), (.ireturn, 1)] = true := by decide +kernel
theorem ok_Law_end_14 : okb method_4_code 14 [(.iconst 0, 1), (.ireturn, 1)] = true := by decide +kernel
set_option maxRecDepth 100000 in
def f_Law_end (G : GT) (l0 : Nat) (l1 : Nat) (M : PH) : Option (Int32 × PH) :=
  if hT M l0 = 10 then bH1 (f_PF_end G l0 M) (fun v3 M2 => if hT M2 l1 = 19 then if 0 < hN M2 l1 then hb (sL M2 l1 0 v3.toInt64) fun M6 => (some ((0 : Int32), M6)) else none else none) (fun M2 => some ((1 : Int32), M2)) else none
set_option maxRecDepth 100000 in
set_option maxHeartbeats 4000000 in
theorem s_Law_end {G : GT} (l0 : Nat) (l1 : Nat) (M : PH) : VX G mi_Law_end 8 110 0 [some (.ref l0), some (.ref l1), none] [] M qI (f_Law_end G l0 l1 M) := by
  unfold f_Law_end
  refine V_open ok_Law_end_0 ?_
  refine B_aload_n rfl ?_
  refine B_iconst (0 : Int32) ic_0 ?_
  refine B_aload_n rfl ?_
  refine B_chk (fun t1 => ?_)
  refine C_H1 (vs := [.ref l0]) (st := [.int (0 : Int32), .ref l1]) 8 11 13 (by decide) rfl lh_Law_13 (ci_V lv_Law_15 rfl rfl t1) rfl rfl rfl (s_PF_end l0 M) (fun v3 M2 => ?_) (fun ah M2 => ?_)
  · skip
    refine B_i2l ?_
    refine B_chk (fun t4 => ?_)
    refine K_lastc 0 rfl t4 (fun M6 e5 => ?_)
    refine B_goto (tgt := 14) (by decide) ?_
    refine V_open ok_Law_end_14 ?_
    refine B_iconst (0 : Int32) ic_0 ?_
    exact B_iret rfl
  · skip
    refine V_open ok_Law_end_11 ?_
    refine S_an [some (.ref l0), some (.ref l1), some (.ref ah)] (by decide) rfl ?_
    refine B_iconst (1 : Int32) ic_1 ?_
    exact B_iret rfl

-- Mo_give
theorem ok_Mo_give_0 : okb prog_13_method_23_code 0 [(.iload_n 1, 1), (.aload_n 0, 1), (.getfield 294, 3), (.if_icmp .ne 4, 3), (.return_, 1)] = true := by decide +kernel
theorem ok_Mo_give_9 : okb prog_13_method_23_code 9 [(.aload_n 0, 1), (.iload_n 1, 1), (.putfield 294, 3), (.aload_n 0, 1), (.iconst 0, 1), (.putfield 291, 3), (.return_, 1)] = true := by decide +kernel
set_option maxRecDepth 100000 in
def f_Mo_give (G : GT) (l0 : Nat) (l1 : Int32) (M : PH) : Option (PH) :=
  if hT M l0 = 11 then if ¬ l1 = hI M 2221 l0 then (hb (sI M 2221 l0 l1) fun M3 => hb (sI M3 2222 l0 (0 : Int32)) fun M6 => some M6) else (some M) else none
set_option maxRecDepth 100000 in
set_option maxHeartbeats 4000000 in
theorem s_Mo_give {G : GT} (l0 : Nat) (l1 : Int32) (M : PH) : VX G mi_Mo_give 0 0 0 [some (.ref l0), some (.int l1)] [] M qV (f_Mo_give G l0 l1 M) := by
  unfold f_Mo_give
  refine V_open ok_Mo_give_0 ?_
  refine B_iload_n rfl ?_
  refine B_aload_n rfl ?_
  refine B_chk (fun t1 => ?_)
  refine K_getI 11 21 2221 lf_Mo_294 rfl rfl t1 ?_
  refine B_ine (tgt := 9) (by decide) ?_ ?_
  · skip
    refine V_open ok_Mo_give_9 ?_
    refine B_aload_n rfl ?_
    refine B_iload_n rfl ?_
    refine K_putI 11 21 2221 lf_Mo_294 rfl (Or.inl rfl) rfl t1 (fun M3 e2 => ?_)
    refine B_aload_n rfl ?_
    refine B_iconst (0 : Int32) ic_0 ?_
    have h4 : hT M3 l0 = 11 := by rw [e2]; exact t1
    refine K_putI 11 22 2222 lf_Mo_291 rfl (Or.inl rfl) rfl h4 (fun M6 e5 => ?_)
    exact B_vret rfl
  · skip
    exact B_vret rfl

-- Mo_wasTold
theorem ok_Mo_wasTold_0 : okb prog_13_method_21_code 0 [(.iconst 0, 1), (.istore_n 2, 1), (.iconst 0, 1), (.istore_n 3, 1)] = true := by decide +kernel
theorem ok_Mo_wasTold_4 : okb prog_13_method_21_code 4 [(.iload_n 3, 1), (.aload_n 0, 1), (.getfield 267, 3), (.if_icmp .ge 29, 3), (.iload_n 2, 1), (.ifCond .ne 13, 3), (.aload_n 0, 1), (.getfield 30, 3), (.iload_n 3, 1), (.iaload, 1), (.iload_n 1, 1), (.if_icmp .ne 7, 3)] = true := by decide +kernel
theorem ok_Mo_wasTold_26 : okb prog_13_method_21_code 26 [(.iconst 1, 1), (.goto 4, 3)] = true := by decide +kernel
theorem ok_Mo_wasTold_30 : okb prog_13_method_21_code 30 [(.iconst 0, 1)] = true := by decide +kernel
theorem ok_Mo_wasTold_31 : okb prog_13_method_21_code 31 [(.istore_n 2, 1), (.iinc 3 1, 3), (.goto (-31), 3)] = true := by decide +kernel
theorem ok_Mo_wasTold_38 : okb prog_13_method_21_code 38 [(.iload_n 2, 1), (.ireturn, 1)] = true := by decide +kernel
set_option maxRecDepth 100000 in
def b_Mo_wasTold_31 (G : GT) (k4 : Nat → Int32 → Int32 → Int32 → PH → Option (Int32 × PH)) (l0 : Nat) (l1 : Int32) (l3 : Int32) (s0 : Int32) (M : PH) : Option (Int32 × PH) :=
  k4 l0 l1 s0 (l3 + (1 : Int32)) M
set_option maxRecDepth 100000 in
set_option maxHeartbeats 4000000 in
theorem t_Mo_wasTold_31 {G : GT} {k4 : Nat → Int32 → Int32 → Int32 → PH → Option (Int32 × PH)} (hk4 : ∀ (l0 : Nat) (l1 : Int32) (l2 : Int32) (l3 : Int32) (M : PH), VX G mi_Mo_wasTold 0 0 4 [some (.ref l0), some (.int l1), some (.int l2), some (.int l3)] [] M qI (k4 l0 l1 l2 l3 M)) (l0 : Nat) (l1 : Int32) (l3 : Int32) (s0 : Int32) (M : PH) : VX G mi_Mo_wasTold 0 0 31 [some (.ref l0), some (.int l1), none, some (.int l3)] [.int s0] M qI (b_Mo_wasTold_31 G k4 l0 l1 l3 s0 M) := by
  unfold b_Mo_wasTold_31
  refine V_open ok_Mo_wasTold_31 ?_
  refine S_in [some (.ref l0), some (.int l1), some (.int s0), some (.int l3)] (by decide) rfl ?_
  refine S_inc (1 : Int32) [some (.ref l0), some (.int l1), some (.int s0), some (.int (l3 + (1 : Int32)))] ic_1 rfl (by decide) rfl ?_
  refine B_goto (tgt := 4) (by decide) ?_
  exact V_weak (ls' := [some (.ref l0), some (.int l1), some (.int s0), some (.int (l3 + (1 : Int32)))]) ⟨rfl, ⟨rfl, ⟨rfl, ⟨rfl, trivial⟩⟩⟩⟩ (hk4 l0 l1 s0 (l3 + (1 : Int32)) M)
set_option maxRecDepth 100000 in
def b_Mo_wasTold_26 (G : GT) (k4 : Nat → Int32 → Int32 → Int32 → PH → Option (Int32 × PH)) (l0 : Nat) (l1 : Int32) (l3 : Int32) (M : PH) : Option (Int32 × PH) :=
  b_Mo_wasTold_31 G k4 l0 l1 l3 (1 : Int32) M
set_option maxRecDepth 100000 in
set_option maxHeartbeats 4000000 in
theorem t_Mo_wasTold_26 {G : GT} {k4 : Nat → Int32 → Int32 → Int32 → PH → Option (Int32 × PH)} (hk4 : ∀ (l0 : Nat) (l1 : Int32) (l2 : Int32) (l3 : Int32) (M : PH), VX G mi_Mo_wasTold 0 0 4 [some (.ref l0), some (.int l1), some (.int l2), some (.int l3)] [] M qI (k4 l0 l1 l2 l3 M)) (l0 : Nat) (l1 : Int32) (l3 : Int32) (M : PH) : VX G mi_Mo_wasTold 0 0 26 [some (.ref l0), some (.int l1), none, some (.int l3)] [] M qI (b_Mo_wasTold_26 G k4 l0 l1 l3 M) := by
  unfold b_Mo_wasTold_26
  refine V_open ok_Mo_wasTold_26 ?_
  refine B_iconst (1 : Int32) ic_1 ?_
  refine B_goto (tgt := 31) (by decide) ?_
  exact V_weak (ls' := [some (.ref l0), some (.int l1), none, some (.int l3)]) ⟨rfl, ⟨rfl, ⟨rfl, trivial⟩⟩⟩ (t_Mo_wasTold_31 hk4 l0 l1 l3 (1 : Int32) M)
set_option maxRecDepth 100000 in
def b_Mo_wasTold_4 (G : GT) (k4 : Nat → Int32 → Int32 → Int32 → PH → Option (Int32 × PH)) (l0 : Nat) (l1 : Int32) (l2 : Int32) (l3 : Int32) (M : PH) : Option (Int32 × PH) :=
  if hT M l0 = 11 then if hI M 2225 l0 ≤ l3 then (if l2 = 0 ∨ l2 = 1 then some (l2, M) else none) else (if ¬ l2 = 0 then (b_Mo_wasTold_26 G k4 l0 l1 l3 M) else ((hR M 2224 l0).bind fun a3 => if hT M a3 = 16 then if ib l3 (hN M a3) = true then if ¬ hA M a3 l3.toNatClampNeg = l1 then (b_Mo_wasTold_31 G k4 l0 l1 l3 (0 : Int32) M) else (b_Mo_wasTold_26 G k4 l0 l1 l3 M) else none else none)) else none
set_option maxRecDepth 100000 in
set_option maxHeartbeats 4000000 in
theorem t_Mo_wasTold_4 {G : GT} {k4 : Nat → Int32 → Int32 → Int32 → PH → Option (Int32 × PH)} (hk4 : ∀ (l0 : Nat) (l1 : Int32) (l2 : Int32) (l3 : Int32) (M : PH), VX G mi_Mo_wasTold 0 0 4 [some (.ref l0), some (.int l1), some (.int l2), some (.int l3)] [] M qI (k4 l0 l1 l2 l3 M)) (l0 : Nat) (l1 : Int32) (l2 : Int32) (l3 : Int32) (M : PH) : VX G mi_Mo_wasTold 0 0 4 [some (.ref l0), some (.int l1), some (.int l2), some (.int l3)] [] M qI (b_Mo_wasTold_4 G k4 l0 l1 l2 l3 M) := by
  unfold b_Mo_wasTold_4
  refine V_open ok_Mo_wasTold_4 ?_
  refine B_iload_n rfl ?_
  refine B_aload_n rfl ?_
  refine B_chk (fun t1 => ?_)
  refine K_getI 11 25 2225 lf_Mo_267 rfl rfl t1 ?_
  refine B_ige (tgt := 38) (by decide) ?_ ?_
  · skip
    refine V_open ok_Mo_wasTold_38 ?_
    refine B_iload_n rfl ?_
    refine B_chk (fun z2 => ?_)
    exact Z_ret rfl z2
  · skip
    refine B_iload_n rfl ?_
    refine B_ne (tgt := 26) (by decide) ?_ ?_
    · skip
      exact V_weak (ls' := [some (.ref l0), some (.int l1), none, some (.int l3)]) ⟨rfl, ⟨rfl, ⟨rfl, trivial⟩⟩⟩ (t_Mo_wasTold_26 hk4 l0 l1 l3 M)
    · skip
      refine B_aload_n rfl ?_
      refine K_getR 11 24 2224 lf_Mo_30 rfl rfl t1 (fun a3 r4 => ?_)
      refine B_iload_n rfl ?_
      refine B_chk (fun t5 => ?_)
      refine K_iald t5 ?_
      refine B_iload_n rfl ?_
      refine B_ine (tgt := 30) (by decide) ?_ ?_
      · skip
        refine V_open ok_Mo_wasTold_30 ?_
        refine B_iconst (0 : Int32) ic_0 ?_
        refine V_close ?_
        exact V_weak (ls' := [some (.ref l0), some (.int l1), none, some (.int l3)]) ⟨rfl, ⟨rfl, ⟨rfl, trivial⟩⟩⟩ (t_Mo_wasTold_31 hk4 l0 l1 l3 (0 : Int32) M)
      · skip
        refine V_close ?_
        exact V_weak (ls' := [some (.ref l0), some (.int l1), none, some (.int l3)]) ⟨rfl, ⟨rfl, ⟨rfl, trivial⟩⟩⟩ (t_Mo_wasTold_26 hk4 l0 l1 l3 M)
set_option maxRecDepth 100000 in
def w_Mo_wasTold_4 (G : GT) : Nat → Nat → Int32 → Int32 → Int32 → PH → Option (Int32 × PH)
  | 0 => fun _ _ _ _ _ => none
  | n + 1 => b_Mo_wasTold_4 G (w_Mo_wasTold_4 G n)
set_option maxRecDepth 100000 in
set_option maxHeartbeats 4000000 in
theorem tw_Mo_wasTold_4 {G : GT} : ∀ (n : Nat) (l0 : Nat) (l1 : Int32) (l2 : Int32) (l3 : Int32) (M : PH), VX G mi_Mo_wasTold 0 0 4 [some (.ref l0), some (.int l1), some (.int l2), some (.int l3)] [] M qI (w_Mo_wasTold_4 G n l0 l1 l2 l3 M)
  | 0, _, _, _, _, _ => X_none
  | n + 1, l0, l1, l2, l3, M => t_Mo_wasTold_4 (tw_Mo_wasTold_4 n) l0 l1 l2 l3 M
set_option maxRecDepth 100000 in
def f_Mo_wasTold (G : GT) (l0 : Nat) (l1 : Int32) (M : PH) : Option (Int32 × PH) :=
  w_Mo_wasTold_4 G FU l0 l1 (0 : Int32) (0 : Int32) M
set_option maxRecDepth 100000 in
set_option maxHeartbeats 4000000 in
theorem s_Mo_wasTold {G : GT} (l0 : Nat) (l1 : Int32) (M : PH) : VX G mi_Mo_wasTold 0 0 0 [some (.ref l0), some (.int l1), none, none] [] M qI (f_Mo_wasTold G l0 l1 M) := by
  unfold f_Mo_wasTold
  refine V_open ok_Mo_wasTold_0 ?_
  refine B_iconst (0 : Int32) ic_0 ?_
  refine S_in [some (.ref l0), some (.int l1), some (.int (0 : Int32)), none] (by decide) rfl ?_
  refine B_iconst (0 : Int32) ic_0 ?_
  refine S_in [some (.ref l0), some (.int l1), some (.int (0 : Int32)), some (.int (0 : Int32))] (by decide) rfl ?_
  refine V_close ?_
  exact V_weak (ls' := [some (.ref l0), some (.int l1), some (.int (0 : Int32)), some (.int (0 : Int32))]) ⟨rfl, ⟨rfl, ⟨rfl, ⟨rfl, trivial⟩⟩⟩⟩ (tw_Mo_wasTold_4 FU l0 l1 (0 : Int32) (0 : Int32) M)

-- Mo_copyList
theorem ok_Mo_copyList_0 : okb prog_13_method_25_code 0 [(.iconst 0, 1), (.istore_n 2, 1)] = true := by decide +kernel
theorem ok_Mo_copyList_2 : okb prog_13_method_25_code 2 [(.iload_n 2, 1), (.aload_n 0, 1), (.getfield 288, 3), (.if_icmp .ge 74, 3), (.aload_n 0, 1), (.getfield 169, 3), (.bipush 11, 2), (.iload_n 2, 1), (.imul, 1), (.iaload, 1), (.iload_n 1, 1), (.if_icmp .eq 6, 3), (.goto 52, 3)] = true := by decide +kernel
theorem ok_Mo_copyList_26 : okb prog_13_method_25_code 26 [(.iconst 0, 1), (.istore_n 3, 1)] = true := by decide +kernel
theorem ok_Mo_copyList_28 : okb prog_13_method_25_code 28 [(.iload_n 3, 1), (.bipush 11, 2), (.if_icmp .ge 34, 3), (.aload_n 0, 1), (.getfield 172, 3), (.bipush 11, 2), (.aload_n 0, 1), (.getfield 307, 3), (.imul, 1), (.iload_n 3, 1), (.iadd, 1), (.aload_n 0, 1), (.getfield 169, 3), (.bipush 11, 2), (.iload_n 2, 1), (.imul, 1), (.iload_n 3, 1), (.iadd, 1), (.iaload, 1), (.iastore, 1), (.iinc 3 1, 3), (.goto (-34), 3)] = true := by decide +kernel
theorem ok_Mo_copyList_65 : okb prog_13_method_25_code 65 [(.aload_n 0, 1), (.dup, 1), (.getfield 307, 3), (.iconst 1, 1), (.iadd, 1), (.putfield 307, 3)] = true := by decide +kernel
theorem ok_Mo_copyList_75 : okb prog_13_method_25_code 75 [(.iinc 2 1, 3), (.goto (-76), 3)] = true := by decide +kernel
theorem ok_Mo_copyList_81 : okb prog_13_method_25_code 81 [(.return_, 1)] = true := by decide +kernel
set_option maxRecDepth 100000 in
def b_Mo_copyList_75 (G : GT) (k2 : Nat → Int32 → Int32 → PH → Option (PH)) (l0 : Nat) (l1 : Int32) (l2 : Int32) (M : PH) : Option (PH) :=
  k2 l0 l1 (l2 + (1 : Int32)) M
set_option maxRecDepth 100000 in
set_option maxHeartbeats 4000000 in
theorem t_Mo_copyList_75 {G : GT} {k2 : Nat → Int32 → Int32 → PH → Option (PH)} (hk2 : ∀ (l0 : Nat) (l1 : Int32) (l2 : Int32) (M : PH), VX G mi_Mo_copyList 0 0 2 [some (.ref l0), some (.int l1), some (.int l2), none] [] M qV (k2 l0 l1 l2 M)) (l0 : Nat) (l1 : Int32) (l2 : Int32) (M : PH) : VX G mi_Mo_copyList 0 0 75 [some (.ref l0), some (.int l1), some (.int l2), none] [] M qV (b_Mo_copyList_75 G k2 l0 l1 l2 M) := by
  unfold b_Mo_copyList_75
  refine V_open ok_Mo_copyList_75 ?_
  refine S_inc (1 : Int32) [some (.ref l0), some (.int l1), some (.int (l2 + (1 : Int32))), none] ic_1 rfl (by decide) rfl ?_
  refine B_goto (tgt := 2) (by decide) ?_
  exact V_weak (ls' := [some (.ref l0), some (.int l1), some (.int (l2 + (1 : Int32))), none]) ⟨rfl, ⟨rfl, ⟨rfl, trivial⟩⟩⟩ (hk2 l0 l1 (l2 + (1 : Int32)) M)
set_option maxRecDepth 100000 in
def b_Mo_copyList_28 (G : GT) (k2 : Nat → Int32 → Int32 → PH → Option (PH)) (k28 : Nat → Int32 → Int32 → Int32 → PH → Option (PH)) (l0 : Nat) (l1 : Int32) (l2 : Int32) (l3 : Int32) (M : PH) : Option (PH) :=
  if (11 : Int32) ≤ l3 then (if hT M l0 = 11 then hb (sI M 2283 l0 ((hI M 2283 l0) + (1 : Int32))) fun M3 => b_Mo_copyList_75 G k2 l0 l1 l2 M3 else none) else (if hT M l0 = 11 then (hR M 2281 l0).bind fun a5 => (hR M 2280 l0).bind fun a7 => if hT M a7 = 16 then if ib (((11 : Int32) * l2) + l3) (hN M a7) = true then if hT M a5 = 16 then if ib (((11 : Int32) * (hI M 2283 l0)) + l3) (hN M a5) = true then hb (sA M a5 (((11 : Int32) * (hI M 2283 l0)) + l3).toNatClampNeg (hA M a7 (((11 : Int32) * l2) + l3).toNatClampNeg)) fun M12 => (k28 l0 l1 l2 (l3 + (1 : Int32)) M12) else none else none else none else none else none)
set_option maxRecDepth 100000 in
set_option maxHeartbeats 4000000 in
theorem t_Mo_copyList_28 {G : GT} {k2 : Nat → Int32 → Int32 → PH → Option (PH)} (hk2 : ∀ (l0 : Nat) (l1 : Int32) (l2 : Int32) (M : PH), VX G mi_Mo_copyList 0 0 2 [some (.ref l0), some (.int l1), some (.int l2), none] [] M qV (k2 l0 l1 l2 M)) {k28 : Nat → Int32 → Int32 → Int32 → PH → Option (PH)} (hk28 : ∀ (l0 : Nat) (l1 : Int32) (l2 : Int32) (l3 : Int32) (M : PH), VX G mi_Mo_copyList 0 0 28 [some (.ref l0), some (.int l1), some (.int l2), some (.int l3)] [] M qV (k28 l0 l1 l2 l3 M)) (l0 : Nat) (l1 : Int32) (l2 : Int32) (l3 : Int32) (M : PH) : VX G mi_Mo_copyList 0 0 28 [some (.ref l0), some (.int l1), some (.int l2), some (.int l3)] [] M qV (b_Mo_copyList_28 G k2 k28 l0 l1 l2 l3 M) := by
  unfold b_Mo_copyList_28
  refine V_open ok_Mo_copyList_28 ?_
  refine B_iload_n rfl ?_
  refine B_bipush (11 : Int32) bp_11 ?_
  refine B_ige (tgt := 65) (by decide) ?_ ?_
  · skip
    refine V_open ok_Mo_copyList_65 ?_
    refine B_aload_n rfl ?_
    refine B_dup rfl ?_
    refine B_chk (fun t1 => ?_)
    refine K_getI 11 83 2283 lf_Mo_307 rfl rfl t1 ?_
    refine B_iconst (1 : Int32) ic_1 ?_
    refine B_iadd ?_
    refine K_putI 11 83 2283 lf_Mo_307 rfl (Or.inl rfl) rfl t1 (fun M3 e2 => ?_)
    refine V_close ?_
    exact V_weak (ls' := [some (.ref l0), some (.int l1), some (.int l2), none]) ⟨rfl, ⟨rfl, ⟨rfl, trivial⟩⟩⟩ (t_Mo_copyList_75 hk2 l0 l1 l2 M3)
  · skip
    refine B_aload_n rfl ?_
    refine B_chk (fun t4 => ?_)
    refine K_getR 11 81 2281 lf_Mo_172 rfl rfl t4 (fun a5 r6 => ?_)
    refine B_bipush (11 : Int32) bp_11 ?_
    refine B_aload_n rfl ?_
    refine K_getI 11 83 2283 lf_Mo_307 rfl rfl t4 ?_
    refine B_imul ?_
    refine B_iload_n rfl ?_
    refine B_iadd ?_
    refine B_aload_n rfl ?_
    refine K_getR 11 80 2280 lf_Mo_169 rfl rfl t4 (fun a7 r8 => ?_)
    refine B_bipush (11 : Int32) bp_11 ?_
    refine B_iload_n rfl ?_
    refine B_imul ?_
    refine B_iload_n rfl ?_
    refine B_iadd ?_
    refine B_chk (fun t9 => ?_)
    refine K_iald t9 ?_
    refine B_chk (fun t10 => ?_)
    refine K_iast t10 (fun M12 e11 => ?_)
    refine S_inc (1 : Int32) [some (.ref l0), some (.int l1), some (.int l2), some (.int (l3 + (1 : Int32)))] ic_1 rfl (by decide) rfl ?_
    refine B_goto (tgt := 28) (by decide) ?_
    exact V_weak (ls' := [some (.ref l0), some (.int l1), some (.int l2), some (.int (l3 + (1 : Int32)))]) ⟨rfl, ⟨rfl, ⟨rfl, ⟨rfl, trivial⟩⟩⟩⟩ (hk28 l0 l1 l2 (l3 + (1 : Int32)) M12)
set_option maxRecDepth 100000 in
def w_Mo_copyList_28 (G : GT) (k2 : Nat → Int32 → Int32 → PH → Option (PH)) : Nat → Nat → Int32 → Int32 → Int32 → PH → Option (PH)
  | 0 => fun _ _ _ _ _ => none
  | n + 1 => b_Mo_copyList_28 G k2 (w_Mo_copyList_28 G k2 n)
set_option maxRecDepth 100000 in
set_option maxHeartbeats 4000000 in
theorem tw_Mo_copyList_28 {G : GT} {k2 : Nat → Int32 → Int32 → PH → Option (PH)} (hk2 : ∀ (l0 : Nat) (l1 : Int32) (l2 : Int32) (M : PH), VX G mi_Mo_copyList 0 0 2 [some (.ref l0), some (.int l1), some (.int l2), none] [] M qV (k2 l0 l1 l2 M)) : ∀ (n : Nat) (l0 : Nat) (l1 : Int32) (l2 : Int32) (l3 : Int32) (M : PH), VX G mi_Mo_copyList 0 0 28 [some (.ref l0), some (.int l1), some (.int l2), some (.int l3)] [] M qV (w_Mo_copyList_28 G k2 n l0 l1 l2 l3 M)
  | 0, _, _, _, _, _ => X_none
  | n + 1, l0, l1, l2, l3, M => t_Mo_copyList_28 hk2 (tw_Mo_copyList_28 hk2 n) l0 l1 l2 l3 M
set_option maxRecDepth 100000 in
def b_Mo_copyList_2 (G : GT) (k2 : Nat → Int32 → Int32 → PH → Option (PH)) (l0 : Nat) (l1 : Int32) (l2 : Int32) (M : PH) : Option (PH) :=
  if hT M l0 = 11 then if hI M 2282 l0 ≤ l2 then (some M) else ((hR M 2280 l0).bind fun a2 => if hT M a2 = 16 then if ib ((11 : Int32) * l2) (hN M a2) = true then if hA M a2 ((11 : Int32) * l2).toNatClampNeg = l1 then (w_Mo_copyList_28 G k2 FU l0 l1 l2 (0 : Int32) M) else (b_Mo_copyList_75 G k2 l0 l1 l2 M) else none else none) else none
set_option maxRecDepth 100000 in
set_option maxHeartbeats 4000000 in
theorem t_Mo_copyList_2 {G : GT} {k2 : Nat → Int32 → Int32 → PH → Option (PH)} (hk2 : ∀ (l0 : Nat) (l1 : Int32) (l2 : Int32) (M : PH), VX G mi_Mo_copyList 0 0 2 [some (.ref l0), some (.int l1), some (.int l2), none] [] M qV (k2 l0 l1 l2 M)) (l0 : Nat) (l1 : Int32) (l2 : Int32) (M : PH) : VX G mi_Mo_copyList 0 0 2 [some (.ref l0), some (.int l1), some (.int l2), none] [] M qV (b_Mo_copyList_2 G k2 l0 l1 l2 M) := by
  unfold b_Mo_copyList_2
  refine V_open ok_Mo_copyList_2 ?_
  refine B_iload_n rfl ?_
  refine B_aload_n rfl ?_
  refine B_chk (fun t1 => ?_)
  refine K_getI 11 82 2282 lf_Mo_288 rfl rfl t1 ?_
  refine B_ige (tgt := 81) (by decide) ?_ ?_
  · skip
    refine V_open ok_Mo_copyList_81 ?_
    exact B_vret rfl
  · skip
    refine B_aload_n rfl ?_
    refine K_getR 11 80 2280 lf_Mo_169 rfl rfl t1 (fun a2 r3 => ?_)
    refine B_bipush (11 : Int32) bp_11 ?_
    refine B_iload_n rfl ?_
    refine B_imul ?_
    refine B_chk (fun t4 => ?_)
    refine K_iald t4 ?_
    refine B_iload_n rfl ?_
    refine B_ieq (tgt := 26) (by decide) ?_ ?_
    · skip
      refine V_open ok_Mo_copyList_26 ?_
      refine B_iconst (0 : Int32) ic_0 ?_
      refine S_in [some (.ref l0), some (.int l1), some (.int l2), some (.int (0 : Int32))] (by decide) rfl ?_
      refine V_close ?_
      exact V_weak (ls' := [some (.ref l0), some (.int l1), some (.int l2), some (.int (0 : Int32))]) ⟨rfl, ⟨rfl, ⟨rfl, ⟨rfl, trivial⟩⟩⟩⟩ (tw_Mo_copyList_28 hk2 FU l0 l1 l2 (0 : Int32) M)
    · skip
      refine B_goto (tgt := 75) (by decide) ?_
      exact V_weak (ls' := [some (.ref l0), some (.int l1), some (.int l2), none]) ⟨rfl, ⟨rfl, ⟨rfl, trivial⟩⟩⟩ (t_Mo_copyList_75 hk2 l0 l1 l2 M)
set_option maxRecDepth 100000 in
def w_Mo_copyList_2 (G : GT) : Nat → Nat → Int32 → Int32 → PH → Option (PH)
  | 0 => fun _ _ _ _ => none
  | n + 1 => b_Mo_copyList_2 G (w_Mo_copyList_2 G n)
set_option maxRecDepth 100000 in
set_option maxHeartbeats 4000000 in
theorem tw_Mo_copyList_2 {G : GT} : ∀ (n : Nat) (l0 : Nat) (l1 : Int32) (l2 : Int32) (M : PH), VX G mi_Mo_copyList 0 0 2 [some (.ref l0), some (.int l1), some (.int l2), none] [] M qV (w_Mo_copyList_2 G n l0 l1 l2 M)
  | 0, _, _, _, _ => X_none
  | n + 1, l0, l1, l2, M => t_Mo_copyList_2 (tw_Mo_copyList_2 n) l0 l1 l2 M
set_option maxRecDepth 100000 in
def f_Mo_copyList (G : GT) (l0 : Nat) (l1 : Int32) (M : PH) : Option (PH) :=
  w_Mo_copyList_2 G FU l0 l1 (0 : Int32) M
set_option maxRecDepth 100000 in
set_option maxHeartbeats 4000000 in
theorem s_Mo_copyList {G : GT} (l0 : Nat) (l1 : Int32) (M : PH) : VX G mi_Mo_copyList 0 0 0 [some (.ref l0), some (.int l1), none, none] [] M qV (f_Mo_copyList G l0 l1 M) := by
  unfold f_Mo_copyList
  refine V_open ok_Mo_copyList_0 ?_
  refine B_iconst (0 : Int32) ic_0 ?_
  refine S_in [some (.ref l0), some (.int l1), some (.int (0 : Int32)), none] (by decide) rfl ?_
  refine V_close ?_
  exact V_weak (ls' := [some (.ref l0), some (.int l1), some (.int (0 : Int32)), none]) ⟨rfl, ⟨rfl, ⟨rfl, trivial⟩⟩⟩ (tw_Mo_copyList_2 FU l0 l1 (0 : Int32) M)

-- Mo_walk
theorem ok_Mo_walk_0 : okb prog_13_method_66_code 0 [(.aload_n 0, 1), (.iconst 0, 1), (.putfield 397, 3), (.aload_n 0, 1), (.iconst (-1), 1), (.putfield 400, 3), (.aload_n 0, 1), (.iconst 0, 1), (.putfield 403, 3), (.aload_n 0, 1), (.iconst 0, 1), (.putfield 406, 3), (.iconst 0, 1), (.istore_n 2, 1)] = true := by decide +kernel
theorem ok_Mo_walk_22 : okb prog_13_method_66_code 22 [(.iload_n 2, 1), (.iload_n 1, 1), (.if_icmp .gt 202, 3), (.iload_n 2, 1), (.ifCond .eq 27, 3), (.aload_n 0, 1), (.getfield 172, 3), (.bipush 11, 2), (.iload_n 2, 1), (.imul, 1), (.iaload, 1), (.aload_n 0, 1), (.getfield 172, 3), (.bipush 11, 2), (.iload_n 2, 1), (.imul, 1), (.bipush 11, 2), (.isub, 1), (.iaload, 1), (.if_icmp .eq 7, 3)] = true := by decide +kernel
theorem ok_Mo_walk_55 : okb prog_13_method_66_code 55 [(.iconst 1, 1), (.goto 4, 3)] = true := by decide +kernel
theorem ok_Mo_walk_59 : okb prog_13_method_66_code 59 [(.iconst 0, 1)] = true := by decide +kernel
theorem ok_Mo_walk_60 : okb prog_13_method_66_code 60 [(.istore_n 3, 1), (.iload_n 3, 1), (.ifCond .eq 10, 3), (.aload_n 0, 1), (.iconst 4, 1), (.iload_n 2, 1), (.imul, 1), (.putfield 397, 3)] = true := by decide +kernel
theorem ok_Mo_walk_72 : okb prog_13_method_66_code 72 [(.iconst 4, 1), (.iload_n 2, 1), (.imul, 1), (.aload_n 0, 1), (.getfield 397, 3), (.isub, 1), (.istore 4, 2), (.iload_n 3, 1), (.ifCond .ne 19, 3), (.iload 4, 2), (.aload_n 0, 1), (.getfield 403, 3), (.isub, 1), (.bipush 64, 2), (.if_icmp .ge 7, 3), (.iconst 1, 1), (.goto 4, 3)] = true := by decide +kernel
theorem ok_Mo_walk_102 : okb prog_13_method_66_code 102 [(.iconst 0, 1)] = true := by decide +kernel
theorem ok_Mo_walk_103 : okb prog_13_method_66_code 103 [(.istore 5, 2), (.bipush 6, 2), (.istore 6, 2)] = true := by decide +kernel
theorem ok_Mo_walk_109 : okb prog_13_method_66_code 109 [(.iload 6, 2), (.bipush 11, 2), (.if_icmp .ge 51, 3), (.iload 5, 2), (.ifCond .eq 46, 3), (.aload_n 0, 1), (.getfield 172, 3), (.bipush 11, 2), (.iload_n 2, 1), (.imul, 1), (.iload 6, 2), (.iadd, 1), (.iaload, 1), (.aload_n 0, 1), (.getfield 172, 3), (.bipush 11, 2), (.iload_n 2, 1), (.imul, 1), (.bipush 11, 2), (.isub, 1), (.iload 6, 2), (.iadd, 1), (.iaload, 1), (.if_icmp .ne 7, 3), (.iconst 1, 1), (.goto 4, 3)] = true := by decide +kernel
theorem ok_Mo_walk_155 : okb prog_13_method_66_code 155 [(.iconst 0, 1)] = true := by decide +kernel
theorem ok_Mo_walk_156 : okb prog_13_method_66_code 156 [(.istore 5, 2), (.iinc 6 1, 3), (.goto (-52), 3)] = true := by decide +kernel
theorem ok_Mo_walk_164 : okb prog_13_method_66_code 164 [(.iload 5, 2), (.ifCond .eq 6, 3), (.goto 51, 3)] = true := by decide +kernel
theorem ok_Mo_walk_172 : okb prog_13_method_66_code 172 [(.iload_n 3, 1), (.ifCond .eq 11, 3), (.aload_n 0, 1), (.iconst 0, 1), (.putfield 403, 3), (.goto 21, 3)] = true := by decide +kernel
theorem ok_Mo_walk_184 : okb prog_13_method_66_code 184 [(.iload 4, 2), (.aload_n 0, 1), (.getfield 403, 3), (.isub, 1), (.bipush 64, 2), (.if_icmp .lt 9, 3), (.aload_n 0, 1), (.iload 4, 2), (.putfield 403, 3)] = true := by decide +kernel
theorem ok_Mo_walk_202 : okb prog_13_method_66_code 202 [(.aload_n 0, 1), (.dup, 1), (.getfield 400, 3), (.iconst 1, 1), (.iadd, 1), (.putfield 400, 3), (.aload_n 0, 1), (.bipush 6, 2), (.iload_n 2, 1), (.imul, 1), (.putfield 406, 3)] = true := by decide +kernel
theorem ok_Mo_walk_220 : okb prog_13_method_66_code 220 [(.iinc 2 1, 3), (.goto (-201), 3)] = true := by decide +kernel
theorem ok_Mo_walk_226 : okb prog_13_method_66_code 226 [(.return_, 1)] = true := by decide +kernel
set_option maxRecDepth 100000 in
def b_Mo_walk_156 (G : GT) (k22 : Nat → Int32 → Int32 → PH → Option (PH)) (k109 : Nat → Int32 → Int32 → Int32 → Int32 → Int32 → Int32 → PH → Option (PH)) (l0 : Nat) (l1 : Int32) (l2 : Int32) (l3 : Int32) (l4 : Int32) (l6 : Int32) (s0 : Int32) (M : PH) : Option (PH) :=
  k109 l0 l1 l2 l3 l4 s0 (l6 + (1 : Int32)) M
set_option maxRecDepth 100000 in
set_option maxHeartbeats 4000000 in
theorem t_Mo_walk_156 {G : GT} {k22 : Nat → Int32 → Int32 → PH → Option (PH)} (hk22 : ∀ (l0 : Nat) (l1 : Int32) (l2 : Int32) (M : PH), VX G mi_Mo_walk 0 0 22 [some (.ref l0), some (.int l1), some (.int l2), none, none, none, none] [] M qV (k22 l0 l1 l2 M)) {k109 : Nat → Int32 → Int32 → Int32 → Int32 → Int32 → Int32 → PH → Option (PH)} (hk109 : ∀ (l0 : Nat) (l1 : Int32) (l2 : Int32) (l3 : Int32) (l4 : Int32) (l5 : Int32) (l6 : Int32) (M : PH), VX G mi_Mo_walk 0 0 109 [some (.ref l0), some (.int l1), some (.int l2), some (.int l3), some (.int l4), some (.int l5), some (.int l6)] [] M qV (k109 l0 l1 l2 l3 l4 l5 l6 M)) (l0 : Nat) (l1 : Int32) (l2 : Int32) (l3 : Int32) (l4 : Int32) (l6 : Int32) (s0 : Int32) (M : PH) : VX G mi_Mo_walk 0 0 156 [some (.ref l0), some (.int l1), some (.int l2), some (.int l3), some (.int l4), none, some (.int l6)] [.int s0] M qV (b_Mo_walk_156 G k22 k109 l0 l1 l2 l3 l4 l6 s0 M) := by
  unfold b_Mo_walk_156
  refine V_open ok_Mo_walk_156 ?_
  refine S_i [some (.ref l0), some (.int l1), some (.int l2), some (.int l3), some (.int l4), some (.int s0), some (.int l6)] (by decide) rfl ?_
  refine S_inc (1 : Int32) [some (.ref l0), some (.int l1), some (.int l2), some (.int l3), some (.int l4), some (.int s0), some (.int (l6 + (1 : Int32)))] ic_1 rfl (by decide) rfl ?_
  refine B_goto (tgt := 109) (by decide) ?_
  exact V_weak (ls' := [some (.ref l0), some (.int l1), some (.int l2), some (.int l3), some (.int l4), some (.int s0), some (.int (l6 + (1 : Int32)))]) ⟨rfl, ⟨rfl, ⟨rfl, ⟨rfl, ⟨rfl, ⟨rfl, ⟨rfl, trivial⟩⟩⟩⟩⟩⟩⟩ (hk109 l0 l1 l2 l3 l4 s0 (l6 + (1 : Int32)) M)
set_option maxRecDepth 100000 in
def b_Mo_walk_220 (G : GT) (k22 : Nat → Int32 → Int32 → PH → Option (PH)) (l0 : Nat) (l1 : Int32) (l2 : Int32) (M : PH) : Option (PH) :=
  k22 l0 l1 (l2 + (1 : Int32)) M
set_option maxRecDepth 100000 in
set_option maxHeartbeats 4000000 in
theorem t_Mo_walk_220 {G : GT} {k22 : Nat → Int32 → Int32 → PH → Option (PH)} (hk22 : ∀ (l0 : Nat) (l1 : Int32) (l2 : Int32) (M : PH), VX G mi_Mo_walk 0 0 22 [some (.ref l0), some (.int l1), some (.int l2), none, none, none, none] [] M qV (k22 l0 l1 l2 M)) (l0 : Nat) (l1 : Int32) (l2 : Int32) (M : PH) : VX G mi_Mo_walk 0 0 220 [some (.ref l0), some (.int l1), some (.int l2), none, none, none, none] [] M qV (b_Mo_walk_220 G k22 l0 l1 l2 M) := by
  unfold b_Mo_walk_220
  refine V_open ok_Mo_walk_220 ?_
  refine S_inc (1 : Int32) [some (.ref l0), some (.int l1), some (.int (l2 + (1 : Int32))), none, none, none, none] ic_1 rfl (by decide) rfl ?_
  refine B_goto (tgt := 22) (by decide) ?_
  exact V_weak (ls' := [some (.ref l0), some (.int l1), some (.int (l2 + (1 : Int32))), none, none, none, none]) ⟨rfl, ⟨rfl, ⟨rfl, trivial⟩⟩⟩ (hk22 l0 l1 (l2 + (1 : Int32)) M)
set_option maxRecDepth 100000 in
def b_Mo_walk_202 (G : GT) (k22 : Nat → Int32 → Int32 → PH → Option (PH)) (l0 : Nat) (l1 : Int32) (l2 : Int32) (M : PH) : Option (PH) :=
  if hT M l0 = 11 then hb (sI M 2285 l0 ((hI M 2285 l0) + (1 : Int32))) fun M3 => hb (sI M3 2287 l0 ((6 : Int32) * l2)) fun M6 => b_Mo_walk_220 G k22 l0 l1 l2 M6 else none
set_option maxRecDepth 100000 in
set_option maxHeartbeats 4000000 in
theorem t_Mo_walk_202 {G : GT} {k22 : Nat → Int32 → Int32 → PH → Option (PH)} (hk22 : ∀ (l0 : Nat) (l1 : Int32) (l2 : Int32) (M : PH), VX G mi_Mo_walk 0 0 22 [some (.ref l0), some (.int l1), some (.int l2), none, none, none, none] [] M qV (k22 l0 l1 l2 M)) (l0 : Nat) (l1 : Int32) (l2 : Int32) (M : PH) : VX G mi_Mo_walk 0 0 202 [some (.ref l0), some (.int l1), some (.int l2), none, none, none, none] [] M qV (b_Mo_walk_202 G k22 l0 l1 l2 M) := by
  unfold b_Mo_walk_202
  refine V_open ok_Mo_walk_202 ?_
  refine B_aload_n rfl ?_
  refine B_dup rfl ?_
  refine B_chk (fun t1 => ?_)
  refine K_getI 11 85 2285 lf_Mo_400 rfl rfl t1 ?_
  refine B_iconst (1 : Int32) ic_1 ?_
  refine B_iadd ?_
  refine K_putI 11 85 2285 lf_Mo_400 rfl (Or.inl rfl) rfl t1 (fun M3 e2 => ?_)
  refine B_aload_n rfl ?_
  refine B_bipush (6 : Int32) bp_6 ?_
  refine B_iload_n rfl ?_
  refine B_imul ?_
  have h4 : hT M3 l0 = 11 := by rw [e2]; exact t1
  refine K_putI 11 87 2287 lf_Mo_406 rfl (Or.inl rfl) rfl h4 (fun M6 e5 => ?_)
  refine V_close ?_
  exact V_weak (ls' := [some (.ref l0), some (.int l1), some (.int l2), none, none, none, none]) ⟨rfl, ⟨rfl, ⟨rfl, trivial⟩⟩⟩ (t_Mo_walk_220 hk22 l0 l1 l2 M6)
set_option maxRecDepth 100000 in
def b_Mo_walk_164 (G : GT) (k22 : Nat → Int32 → Int32 → PH → Option (PH)) (l0 : Nat) (l1 : Int32) (l2 : Int32) (l3 : Int32) (l4 : Int32) (l5 : Int32) (M : PH) : Option (PH) :=
  if l5 = 0 then (if l3 = 0 then (if hT M l0 = 11 then if l4 - (hI M 2286 l0) < (64 : Int32) then (b_Mo_walk_202 G k22 l0 l1 l2 M) else (hb (sI M 2286 l0 l4) fun M3 => b_Mo_walk_202 G k22 l0 l1 l2 M3) else none) else (if hT M l0 = 11 then hb (sI M 2286 l0 (0 : Int32)) fun M6 => b_Mo_walk_202 G k22 l0 l1 l2 M6 else none)) else (b_Mo_walk_220 G k22 l0 l1 l2 M)
set_option maxRecDepth 100000 in
set_option maxHeartbeats 4000000 in
theorem t_Mo_walk_164 {G : GT} {k22 : Nat → Int32 → Int32 → PH → Option (PH)} (hk22 : ∀ (l0 : Nat) (l1 : Int32) (l2 : Int32) (M : PH), VX G mi_Mo_walk 0 0 22 [some (.ref l0), some (.int l1), some (.int l2), none, none, none, none] [] M qV (k22 l0 l1 l2 M)) (l0 : Nat) (l1 : Int32) (l2 : Int32) (l3 : Int32) (l4 : Int32) (l5 : Int32) (M : PH) : VX G mi_Mo_walk 0 0 164 [some (.ref l0), some (.int l1), some (.int l2), some (.int l3), some (.int l4), some (.int l5), none] [] M qV (b_Mo_walk_164 G k22 l0 l1 l2 l3 l4 l5 M) := by
  unfold b_Mo_walk_164
  refine V_open ok_Mo_walk_164 ?_
  refine B_iload rfl ?_
  refine B_eq (tgt := 172) (by decide) ?_ ?_
  · skip
    refine V_open ok_Mo_walk_172 ?_
    refine B_iload_n rfl ?_
    refine B_eq (tgt := 184) (by decide) ?_ ?_
    · skip
      refine V_open ok_Mo_walk_184 ?_
      refine B_iload rfl ?_
      refine B_aload_n rfl ?_
      refine B_chk (fun t1 => ?_)
      refine K_getI 11 86 2286 lf_Mo_403 rfl rfl t1 ?_
      refine B_isub ?_
      refine B_bipush (64 : Int32) bp_64 ?_
      refine B_ilt (tgt := 202) (by decide) ?_ ?_
      · skip
        exact V_weak (ls' := [some (.ref l0), some (.int l1), some (.int l2), none, none, none, none]) ⟨rfl, ⟨rfl, ⟨rfl, trivial⟩⟩⟩ (t_Mo_walk_202 hk22 l0 l1 l2 M)
      · skip
        refine B_aload_n rfl ?_
        refine B_iload rfl ?_
        refine K_putI 11 86 2286 lf_Mo_403 rfl (Or.inl rfl) rfl t1 (fun M3 e2 => ?_)
        refine V_close ?_
        exact V_weak (ls' := [some (.ref l0), some (.int l1), some (.int l2), none, none, none, none]) ⟨rfl, ⟨rfl, ⟨rfl, trivial⟩⟩⟩ (t_Mo_walk_202 hk22 l0 l1 l2 M3)
    · skip
      refine B_aload_n rfl ?_
      refine B_iconst (0 : Int32) ic_0 ?_
      refine B_chk (fun t4 => ?_)
      refine K_putI 11 86 2286 lf_Mo_403 rfl (Or.inl rfl) rfl t4 (fun M6 e5 => ?_)
      refine B_goto (tgt := 202) (by decide) ?_
      exact V_weak (ls' := [some (.ref l0), some (.int l1), some (.int l2), none, none, none, none]) ⟨rfl, ⟨rfl, ⟨rfl, trivial⟩⟩⟩ (t_Mo_walk_202 hk22 l0 l1 l2 M6)
  · skip
    refine B_goto (tgt := 220) (by decide) ?_
    exact V_weak (ls' := [some (.ref l0), some (.int l1), some (.int l2), none, none, none, none]) ⟨rfl, ⟨rfl, ⟨rfl, trivial⟩⟩⟩ (t_Mo_walk_220 hk22 l0 l1 l2 M)
set_option maxRecDepth 100000 in
def b_Mo_walk_109 (G : GT) (k22 : Nat → Int32 → Int32 → PH → Option (PH)) (k109 : Nat → Int32 → Int32 → Int32 → Int32 → Int32 → Int32 → PH → Option (PH)) (l0 : Nat) (l1 : Int32) (l2 : Int32) (l3 : Int32) (l4 : Int32) (l5 : Int32) (l6 : Int32) (M : PH) : Option (PH) :=
  if (11 : Int32) ≤ l6 then (b_Mo_walk_164 G k22 l0 l1 l2 l3 l4 l5 M) else (if l5 = 0 then (b_Mo_walk_164 G k22 l0 l1 l2 l3 l4 l5 M) else (if hT M l0 = 11 then (hR M 2281 l0).bind fun a2 => if hT M a2 = 16 then if ib (((11 : Int32) * l2) + l6) (hN M a2) = true then if ib ((((11 : Int32) * l2) - (11 : Int32)) + l6) (hN M a2) = true then if ¬ hA M a2 (((11 : Int32) * l2) + l6).toNatClampNeg = hA M a2 ((((11 : Int32) * l2) - (11 : Int32)) + l6).toNatClampNeg then (b_Mo_walk_156 G k22 k109 l0 l1 l2 l3 l4 l6 (0 : Int32) M) else (b_Mo_walk_156 G k22 k109 l0 l1 l2 l3 l4 l6 (1 : Int32) M) else none else none else none else none))
set_option maxRecDepth 100000 in
set_option maxHeartbeats 4000000 in
theorem t_Mo_walk_109 {G : GT} {k22 : Nat → Int32 → Int32 → PH → Option (PH)} (hk22 : ∀ (l0 : Nat) (l1 : Int32) (l2 : Int32) (M : PH), VX G mi_Mo_walk 0 0 22 [some (.ref l0), some (.int l1), some (.int l2), none, none, none, none] [] M qV (k22 l0 l1 l2 M)) {k109 : Nat → Int32 → Int32 → Int32 → Int32 → Int32 → Int32 → PH → Option (PH)} (hk109 : ∀ (l0 : Nat) (l1 : Int32) (l2 : Int32) (l3 : Int32) (l4 : Int32) (l5 : Int32) (l6 : Int32) (M : PH), VX G mi_Mo_walk 0 0 109 [some (.ref l0), some (.int l1), some (.int l2), some (.int l3), some (.int l4), some (.int l5), some (.int l6)] [] M qV (k109 l0 l1 l2 l3 l4 l5 l6 M)) (l0 : Nat) (l1 : Int32) (l2 : Int32) (l3 : Int32) (l4 : Int32) (l5 : Int32) (l6 : Int32) (M : PH) : VX G mi_Mo_walk 0 0 109 [some (.ref l0), some (.int l1), some (.int l2), some (.int l3), some (.int l4), some (.int l5), some (.int l6)] [] M qV (b_Mo_walk_109 G k22 k109 l0 l1 l2 l3 l4 l5 l6 M) := by
  unfold b_Mo_walk_109
  refine V_open ok_Mo_walk_109 ?_
  refine B_iload rfl ?_
  refine B_bipush (11 : Int32) bp_11 ?_
  refine B_ige (tgt := 164) (by decide) ?_ ?_
  · skip
    exact V_weak (ls' := [some (.ref l0), some (.int l1), some (.int l2), some (.int l3), some (.int l4), some (.int l5), none]) ⟨rfl, ⟨rfl, ⟨rfl, ⟨rfl, ⟨rfl, ⟨rfl, trivial⟩⟩⟩⟩⟩⟩ (t_Mo_walk_164 hk22 l0 l1 l2 l3 l4 l5 M)
  · skip
    refine B_iload rfl ?_
    refine B_eq (tgt := 164) (by decide) ?_ ?_
    · skip
      exact V_weak (ls' := [some (.ref l0), some (.int l1), some (.int l2), some (.int l3), some (.int l4), some (.int l5), none]) ⟨rfl, ⟨rfl, ⟨rfl, ⟨rfl, ⟨rfl, ⟨rfl, trivial⟩⟩⟩⟩⟩⟩ (t_Mo_walk_164 hk22 l0 l1 l2 l3 l4 l5 M)
    · skip
      refine B_aload_n rfl ?_
      refine B_chk (fun t1 => ?_)
      refine K_getR 11 81 2281 lf_Mo_172 rfl rfl t1 (fun a2 r3 => ?_)
      refine B_bipush (11 : Int32) bp_11 ?_
      refine B_iload_n rfl ?_
      refine B_imul ?_
      refine B_iload rfl ?_
      refine B_iadd ?_
      refine B_chk (fun t4 => ?_)
      refine K_iald t4 ?_
      refine B_aload_n rfl ?_
      refine K_getRk 11 81 2281 lf_Mo_172 rfl rfl t1 r3 ?_
      refine B_bipush (11 : Int32) bp_11 ?_
      refine B_iload_n rfl ?_
      refine B_imul ?_
      refine B_bipush (11 : Int32) bp_11 ?_
      refine B_isub ?_
      refine B_iload rfl ?_
      refine B_iadd ?_
      refine K_iald t4 ?_
      refine B_ine (tgt := 155) (by decide) ?_ ?_
      · skip
        refine V_open ok_Mo_walk_155 ?_
        refine B_iconst (0 : Int32) ic_0 ?_
        refine V_close ?_
        exact V_weak (ls' := [some (.ref l0), some (.int l1), some (.int l2), some (.int l3), some (.int l4), none, some (.int l6)]) ⟨rfl, ⟨rfl, ⟨rfl, ⟨rfl, ⟨rfl, ⟨rfl, trivial⟩⟩⟩⟩⟩⟩ (t_Mo_walk_156 hk22 hk109 l0 l1 l2 l3 l4 l6 (0 : Int32) M)
      · skip
        refine B_iconst (1 : Int32) ic_1 ?_
        refine B_goto (tgt := 156) (by decide) ?_
        exact V_weak (ls' := [some (.ref l0), some (.int l1), some (.int l2), some (.int l3), some (.int l4), none, some (.int l6)]) ⟨rfl, ⟨rfl, ⟨rfl, ⟨rfl, ⟨rfl, ⟨rfl, trivial⟩⟩⟩⟩⟩⟩ (t_Mo_walk_156 hk22 hk109 l0 l1 l2 l3 l4 l6 (1 : Int32) M)
set_option maxRecDepth 100000 in
def w_Mo_walk_109 (G : GT) (k22 : Nat → Int32 → Int32 → PH → Option (PH)) : Nat → Nat → Int32 → Int32 → Int32 → Int32 → Int32 → Int32 → PH → Option (PH)
  | 0 => fun _ _ _ _ _ _ _ _ => none
  | n + 1 => b_Mo_walk_109 G k22 (w_Mo_walk_109 G k22 n)
set_option maxRecDepth 100000 in
set_option maxHeartbeats 4000000 in
theorem tw_Mo_walk_109 {G : GT} {k22 : Nat → Int32 → Int32 → PH → Option (PH)} (hk22 : ∀ (l0 : Nat) (l1 : Int32) (l2 : Int32) (M : PH), VX G mi_Mo_walk 0 0 22 [some (.ref l0), some (.int l1), some (.int l2), none, none, none, none] [] M qV (k22 l0 l1 l2 M)) : ∀ (n : Nat) (l0 : Nat) (l1 : Int32) (l2 : Int32) (l3 : Int32) (l4 : Int32) (l5 : Int32) (l6 : Int32) (M : PH), VX G mi_Mo_walk 0 0 109 [some (.ref l0), some (.int l1), some (.int l2), some (.int l3), some (.int l4), some (.int l5), some (.int l6)] [] M qV (w_Mo_walk_109 G k22 n l0 l1 l2 l3 l4 l5 l6 M)
  | 0, _, _, _, _, _, _, _, _ => X_none
  | n + 1, l0, l1, l2, l3, l4, l5, l6, M => t_Mo_walk_109 hk22 (tw_Mo_walk_109 hk22 n) l0 l1 l2 l3 l4 l5 l6 M
set_option maxRecDepth 100000 in
def b_Mo_walk_103 (G : GT) (k22 : Nat → Int32 → Int32 → PH → Option (PH)) (l0 : Nat) (l1 : Int32) (l2 : Int32) (l3 : Int32) (l4 : Int32) (s0 : Int32) (M : PH) : Option (PH) :=
  w_Mo_walk_109 G k22 FU l0 l1 l2 l3 l4 s0 (6 : Int32) M
set_option maxRecDepth 100000 in
set_option maxHeartbeats 4000000 in
theorem t_Mo_walk_103 {G : GT} {k22 : Nat → Int32 → Int32 → PH → Option (PH)} (hk22 : ∀ (l0 : Nat) (l1 : Int32) (l2 : Int32) (M : PH), VX G mi_Mo_walk 0 0 22 [some (.ref l0), some (.int l1), some (.int l2), none, none, none, none] [] M qV (k22 l0 l1 l2 M)) (l0 : Nat) (l1 : Int32) (l2 : Int32) (l3 : Int32) (l4 : Int32) (s0 : Int32) (M : PH) : VX G mi_Mo_walk 0 0 103 [some (.ref l0), some (.int l1), some (.int l2), some (.int l3), some (.int l4), none, none] [.int s0] M qV (b_Mo_walk_103 G k22 l0 l1 l2 l3 l4 s0 M) := by
  unfold b_Mo_walk_103
  refine V_open ok_Mo_walk_103 ?_
  refine S_i [some (.ref l0), some (.int l1), some (.int l2), some (.int l3), some (.int l4), some (.int s0), none] (by decide) rfl ?_
  refine B_bipush (6 : Int32) bp_6 ?_
  refine S_i [some (.ref l0), some (.int l1), some (.int l2), some (.int l3), some (.int l4), some (.int s0), some (.int (6 : Int32))] (by decide) rfl ?_
  refine V_close ?_
  exact V_weak (ls' := [some (.ref l0), some (.int l1), some (.int l2), some (.int l3), some (.int l4), some (.int s0), some (.int (6 : Int32))]) ⟨rfl, ⟨rfl, ⟨rfl, ⟨rfl, ⟨rfl, ⟨rfl, ⟨rfl, trivial⟩⟩⟩⟩⟩⟩⟩ (tw_Mo_walk_109 hk22 FU l0 l1 l2 l3 l4 s0 (6 : Int32) M)
set_option maxRecDepth 100000 in
def b_Mo_walk_102 (G : GT) (k22 : Nat → Int32 → Int32 → PH → Option (PH)) (l0 : Nat) (l1 : Int32) (l2 : Int32) (l3 : Int32) (l4 : Int32) (M : PH) : Option (PH) :=
  b_Mo_walk_103 G k22 l0 l1 l2 l3 l4 (0 : Int32) M
set_option maxRecDepth 100000 in
set_option maxHeartbeats 4000000 in
theorem t_Mo_walk_102 {G : GT} {k22 : Nat → Int32 → Int32 → PH → Option (PH)} (hk22 : ∀ (l0 : Nat) (l1 : Int32) (l2 : Int32) (M : PH), VX G mi_Mo_walk 0 0 22 [some (.ref l0), some (.int l1), some (.int l2), none, none, none, none] [] M qV (k22 l0 l1 l2 M)) (l0 : Nat) (l1 : Int32) (l2 : Int32) (l3 : Int32) (l4 : Int32) (M : PH) : VX G mi_Mo_walk 0 0 102 [some (.ref l0), some (.int l1), some (.int l2), some (.int l3), some (.int l4), none, none] [] M qV (b_Mo_walk_102 G k22 l0 l1 l2 l3 l4 M) := by
  unfold b_Mo_walk_102
  refine V_open ok_Mo_walk_102 ?_
  refine B_iconst (0 : Int32) ic_0 ?_
  refine V_close ?_
  exact V_weak (ls' := [some (.ref l0), some (.int l1), some (.int l2), some (.int l3), some (.int l4), none, none]) ⟨rfl, ⟨rfl, ⟨rfl, ⟨rfl, ⟨rfl, trivial⟩⟩⟩⟩⟩ (t_Mo_walk_103 hk22 l0 l1 l2 l3 l4 (0 : Int32) M)
set_option maxRecDepth 100000 in
def b_Mo_walk_72 (G : GT) (k22 : Nat → Int32 → Int32 → PH → Option (PH)) (l0 : Nat) (l1 : Int32) (l2 : Int32) (l3 : Int32) (M : PH) : Option (PH) :=
  if hT M l0 = 11 then vb (((4 : Int32) * l2) - (hI M 2284 l0)) fun v2 => if ¬ l3 = 0 then (b_Mo_walk_102 G k22 l0 l1 l2 l3 v2 M) else (if (64 : Int32) ≤ v2 - (hI M 2286 l0) then (b_Mo_walk_102 G k22 l0 l1 l2 l3 v2 M) else (b_Mo_walk_103 G k22 l0 l1 l2 l3 v2 (1 : Int32) M)) else none
set_option maxRecDepth 100000 in
set_option maxHeartbeats 4000000 in
theorem t_Mo_walk_72 {G : GT} {k22 : Nat → Int32 → Int32 → PH → Option (PH)} (hk22 : ∀ (l0 : Nat) (l1 : Int32) (l2 : Int32) (M : PH), VX G mi_Mo_walk 0 0 22 [some (.ref l0), some (.int l1), some (.int l2), none, none, none, none] [] M qV (k22 l0 l1 l2 M)) (l0 : Nat) (l1 : Int32) (l2 : Int32) (l3 : Int32) (M : PH) : VX G mi_Mo_walk 0 0 72 [some (.ref l0), some (.int l1), some (.int l2), some (.int l3), none, none, none] [] M qV (b_Mo_walk_72 G k22 l0 l1 l2 l3 M) := by
  unfold b_Mo_walk_72
  refine V_open ok_Mo_walk_72 ?_
  refine B_iconst (4 : Int32) ic_4 ?_
  refine B_iload_n rfl ?_
  refine B_imul ?_
  refine B_aload_n rfl ?_
  refine B_chk (fun t1 => ?_)
  refine K_getI 11 84 2284 lf_Mo_397 rfl rfl t1 ?_
  refine B_isub ?_
  refine B_vb (fun v2 => ?_)
  refine S_i [some (.ref l0), some (.int l1), some (.int l2), some (.int l3), some (.int v2), none, none] (by decide) rfl ?_
  refine B_iload_n rfl ?_
  refine B_ne (tgt := 102) (by decide) ?_ ?_
  · skip
    exact V_weak (ls' := [some (.ref l0), some (.int l1), some (.int l2), some (.int l3), some (.int v2), none, none]) ⟨rfl, ⟨rfl, ⟨rfl, ⟨rfl, ⟨rfl, trivial⟩⟩⟩⟩⟩ (t_Mo_walk_102 hk22 l0 l1 l2 l3 v2 M)
  · skip
    refine B_iload rfl ?_
    refine B_aload_n rfl ?_
    refine K_getI 11 86 2286 lf_Mo_403 rfl rfl t1 ?_
    refine B_isub ?_
    refine B_bipush (64 : Int32) bp_64 ?_
    refine B_ige (tgt := 102) (by decide) ?_ ?_
    · skip
      exact V_weak (ls' := [some (.ref l0), some (.int l1), some (.int l2), some (.int l3), some (.int v2), none, none]) ⟨rfl, ⟨rfl, ⟨rfl, ⟨rfl, ⟨rfl, trivial⟩⟩⟩⟩⟩ (t_Mo_walk_102 hk22 l0 l1 l2 l3 v2 M)
    · skip
      refine B_iconst (1 : Int32) ic_1 ?_
      refine B_goto (tgt := 103) (by decide) ?_
      exact V_weak (ls' := [some (.ref l0), some (.int l1), some (.int l2), some (.int l3), some (.int v2), none, none]) ⟨rfl, ⟨rfl, ⟨rfl, ⟨rfl, ⟨rfl, trivial⟩⟩⟩⟩⟩ (t_Mo_walk_103 hk22 l0 l1 l2 l3 v2 (1 : Int32) M)
set_option maxRecDepth 100000 in
def b_Mo_walk_60 (G : GT) (k22 : Nat → Int32 → Int32 → PH → Option (PH)) (l0 : Nat) (l1 : Int32) (l2 : Int32) (s0 : Int32) (M : PH) : Option (PH) :=
  if s0 = 0 then (b_Mo_walk_72 G k22 l0 l1 l2 s0 M) else (if hT M l0 = 11 then hb (sI M 2284 l0 ((4 : Int32) * l2)) fun M3 => b_Mo_walk_72 G k22 l0 l1 l2 s0 M3 else none)
set_option maxRecDepth 100000 in
set_option maxHeartbeats 4000000 in
theorem t_Mo_walk_60 {G : GT} {k22 : Nat → Int32 → Int32 → PH → Option (PH)} (hk22 : ∀ (l0 : Nat) (l1 : Int32) (l2 : Int32) (M : PH), VX G mi_Mo_walk 0 0 22 [some (.ref l0), some (.int l1), some (.int l2), none, none, none, none] [] M qV (k22 l0 l1 l2 M)) (l0 : Nat) (l1 : Int32) (l2 : Int32) (s0 : Int32) (M : PH) : VX G mi_Mo_walk 0 0 60 [some (.ref l0), some (.int l1), some (.int l2), none, none, none, none] [.int s0] M qV (b_Mo_walk_60 G k22 l0 l1 l2 s0 M) := by
  unfold b_Mo_walk_60
  refine V_open ok_Mo_walk_60 ?_
  refine S_in [some (.ref l0), some (.int l1), some (.int l2), some (.int s0), none, none, none] (by decide) rfl ?_
  refine B_iload_n rfl ?_
  refine B_eq (tgt := 72) (by decide) ?_ ?_
  · skip
    exact V_weak (ls' := [some (.ref l0), some (.int l1), some (.int l2), some (.int s0), none, none, none]) ⟨rfl, ⟨rfl, ⟨rfl, ⟨rfl, trivial⟩⟩⟩⟩ (t_Mo_walk_72 hk22 l0 l1 l2 s0 M)
  · skip
    refine B_aload_n rfl ?_
    refine B_iconst (4 : Int32) ic_4 ?_
    refine B_iload_n rfl ?_
    refine B_imul ?_
    refine B_chk (fun t1 => ?_)
    refine K_putI 11 84 2284 lf_Mo_397 rfl (Or.inl rfl) rfl t1 (fun M3 e2 => ?_)
    refine V_close ?_
    exact V_weak (ls' := [some (.ref l0), some (.int l1), some (.int l2), some (.int s0), none, none, none]) ⟨rfl, ⟨rfl, ⟨rfl, ⟨rfl, trivial⟩⟩⟩⟩ (t_Mo_walk_72 hk22 l0 l1 l2 s0 M3)
set_option maxRecDepth 100000 in
def b_Mo_walk_55 (G : GT) (k22 : Nat → Int32 → Int32 → PH → Option (PH)) (l0 : Nat) (l1 : Int32) (l2 : Int32) (M : PH) : Option (PH) :=
  b_Mo_walk_60 G k22 l0 l1 l2 (1 : Int32) M
set_option maxRecDepth 100000 in
set_option maxHeartbeats 4000000 in
theorem t_Mo_walk_55 {G : GT} {k22 : Nat → Int32 → Int32 → PH → Option (PH)} (hk22 : ∀ (l0 : Nat) (l1 : Int32) (l2 : Int32) (M : PH), VX G mi_Mo_walk 0 0 22 [some (.ref l0), some (.int l1), some (.int l2), none, none, none, none] [] M qV (k22 l0 l1 l2 M)) (l0 : Nat) (l1 : Int32) (l2 : Int32) (M : PH) : VX G mi_Mo_walk 0 0 55 [some (.ref l0), some (.int l1), some (.int l2), none, none, none, none] [] M qV (b_Mo_walk_55 G k22 l0 l1 l2 M) := by
  unfold b_Mo_walk_55
  refine V_open ok_Mo_walk_55 ?_
  refine B_iconst (1 : Int32) ic_1 ?_
  refine B_goto (tgt := 60) (by decide) ?_
  exact V_weak (ls' := [some (.ref l0), some (.int l1), some (.int l2), none, none, none, none]) ⟨rfl, ⟨rfl, ⟨rfl, trivial⟩⟩⟩ (t_Mo_walk_60 hk22 l0 l1 l2 (1 : Int32) M)
set_option maxRecDepth 100000 in
def b_Mo_walk_22 (G : GT) (k22 : Nat → Int32 → Int32 → PH → Option (PH)) (l0 : Nat) (l1 : Int32) (l2 : Int32) (M : PH) : Option (PH) :=
  if l1 < l2 then (some M) else (if l2 = 0 then (b_Mo_walk_55 G k22 l0 l1 l2 M) else (if hT M l0 = 11 then (hR M 2281 l0).bind fun a2 => if hT M a2 = 16 then if ib ((11 : Int32) * l2) (hN M a2) = true then if ib (((11 : Int32) * l2) - (11 : Int32)) (hN M a2) = true then if hA M a2 ((11 : Int32) * l2).toNatClampNeg = hA M a2 (((11 : Int32) * l2) - (11 : Int32)).toNatClampNeg then (b_Mo_walk_60 G k22 l0 l1 l2 (0 : Int32) M) else (b_Mo_walk_55 G k22 l0 l1 l2 M) else none else none else none else none))
set_option maxRecDepth 100000 in
set_option maxHeartbeats 4000000 in
theorem t_Mo_walk_22 {G : GT} {k22 : Nat → Int32 → Int32 → PH → Option (PH)} (hk22 : ∀ (l0 : Nat) (l1 : Int32) (l2 : Int32) (M : PH), VX G mi_Mo_walk 0 0 22 [some (.ref l0), some (.int l1), some (.int l2), none, none, none, none] [] M qV (k22 l0 l1 l2 M)) (l0 : Nat) (l1 : Int32) (l2 : Int32) (M : PH) : VX G mi_Mo_walk 0 0 22 [some (.ref l0), some (.int l1), some (.int l2), none, none, none, none] [] M qV (b_Mo_walk_22 G k22 l0 l1 l2 M) := by
  unfold b_Mo_walk_22
  refine V_open ok_Mo_walk_22 ?_
  refine B_iload_n rfl ?_
  refine B_iload_n rfl ?_
  refine B_igt (tgt := 226) (by decide) ?_ ?_
  · skip
    refine V_open ok_Mo_walk_226 ?_
    exact B_vret rfl
  · skip
    refine B_iload_n rfl ?_
    refine B_eq (tgt := 55) (by decide) ?_ ?_
    · skip
      exact V_weak (ls' := [some (.ref l0), some (.int l1), some (.int l2), none, none, none, none]) ⟨rfl, ⟨rfl, ⟨rfl, trivial⟩⟩⟩ (t_Mo_walk_55 hk22 l0 l1 l2 M)
    · skip
      refine B_aload_n rfl ?_
      refine B_chk (fun t1 => ?_)
      refine K_getR 11 81 2281 lf_Mo_172 rfl rfl t1 (fun a2 r3 => ?_)
      refine B_bipush (11 : Int32) bp_11 ?_
      refine B_iload_n rfl ?_
      refine B_imul ?_
      refine B_chk (fun t4 => ?_)
      refine K_iald t4 ?_
      refine B_aload_n rfl ?_
      refine K_getRk 11 81 2281 lf_Mo_172 rfl rfl t1 r3 ?_
      refine B_bipush (11 : Int32) bp_11 ?_
      refine B_iload_n rfl ?_
      refine B_imul ?_
      refine B_bipush (11 : Int32) bp_11 ?_
      refine B_isub ?_
      refine K_iald t4 ?_
      refine B_ieq (tgt := 59) (by decide) ?_ ?_
      · skip
        refine V_open ok_Mo_walk_59 ?_
        refine B_iconst (0 : Int32) ic_0 ?_
        refine V_close ?_
        exact V_weak (ls' := [some (.ref l0), some (.int l1), some (.int l2), none, none, none, none]) ⟨rfl, ⟨rfl, ⟨rfl, trivial⟩⟩⟩ (t_Mo_walk_60 hk22 l0 l1 l2 (0 : Int32) M)
      · skip
        refine V_close ?_
        exact V_weak (ls' := [some (.ref l0), some (.int l1), some (.int l2), none, none, none, none]) ⟨rfl, ⟨rfl, ⟨rfl, trivial⟩⟩⟩ (t_Mo_walk_55 hk22 l0 l1 l2 M)
set_option maxRecDepth 100000 in
def w_Mo_walk_22 (G : GT) : Nat → Nat → Int32 → Int32 → PH → Option (PH)
  | 0 => fun _ _ _ _ => none
  | n + 1 => b_Mo_walk_22 G (w_Mo_walk_22 G n)
set_option maxRecDepth 100000 in
set_option maxHeartbeats 4000000 in
theorem tw_Mo_walk_22 {G : GT} : ∀ (n : Nat) (l0 : Nat) (l1 : Int32) (l2 : Int32) (M : PH), VX G mi_Mo_walk 0 0 22 [some (.ref l0), some (.int l1), some (.int l2), none, none, none, none] [] M qV (w_Mo_walk_22 G n l0 l1 l2 M)
  | 0, _, _, _, _ => X_none
  | n + 1, l0, l1, l2, M => t_Mo_walk_22 (tw_Mo_walk_22 n) l0 l1 l2 M
set_option maxRecDepth 100000 in
def f_Mo_walk (G : GT) (l0 : Nat) (l1 : Int32) (M : PH) : Option (PH) :=
  if hT M l0 = 11 then hb (sI M 2284 l0 (0 : Int32)) fun M3 => hb (sI M3 2285 l0 (-1 : Int32)) fun M6 => hb (sI M6 2286 l0 (0 : Int32)) fun M9 => hb (sI M9 2287 l0 (0 : Int32)) fun M12 => w_Mo_walk_22 G FU l0 l1 (0 : Int32) M12 else none
set_option maxRecDepth 100000 in
set_option maxHeartbeats 4000000 in
theorem s_Mo_walk {G : GT} (l0 : Nat) (l1 : Int32) (M : PH) : VX G mi_Mo_walk 0 0 0 [some (.ref l0), some (.int l1), none, none, none, none, none] [] M qV (f_Mo_walk G l0 l1 M) := by
  unfold f_Mo_walk
  refine V_open ok_Mo_walk_0 ?_
  refine B_aload_n rfl ?_
  refine B_iconst (0 : Int32) ic_0 ?_
  refine B_chk (fun t1 => ?_)
  refine K_putI 11 84 2284 lf_Mo_397 rfl (Or.inl rfl) rfl t1 (fun M3 e2 => ?_)
  refine B_aload_n rfl ?_
  refine B_iconst (-1 : Int32) ic_m1 ?_
  have h4 : hT M3 l0 = 11 := by rw [e2]; exact t1
  refine K_putI 11 85 2285 lf_Mo_400 rfl (Or.inl rfl) rfl h4 (fun M6 e5 => ?_)
  refine B_aload_n rfl ?_
  refine B_iconst (0 : Int32) ic_0 ?_
  have h7 : hT M6 l0 = 11 := by rw [e5]; exact h4
  refine K_putI 11 86 2286 lf_Mo_403 rfl (Or.inl rfl) rfl h7 (fun M9 e8 => ?_)
  refine B_aload_n rfl ?_
  refine B_iconst (0 : Int32) ic_0 ?_
  have h10 : hT M9 l0 = 11 := by rw [e8]; exact h7
  refine K_putI 11 87 2287 lf_Mo_406 rfl (Or.inl rfl) rfl h10 (fun M12 e11 => ?_)
  refine B_iconst (0 : Int32) ic_0 ?_
  refine S_in [some (.ref l0), some (.int l1), some (.int (0 : Int32)), none, none, none, none] (by decide) rfl ?_
  refine V_close ?_
  exact V_weak (ls' := [some (.ref l0), some (.int l1), some (.int (0 : Int32)), none, none, none, none]) ⟨rfl, ⟨rfl, ⟨rfl, trivial⟩⟩⟩ (tw_Mo_walk_22 FU l0 l1 (0 : Int32) M12)

-- Mo_drawnCount
theorem ok_Mo_drawnCount_0 : okb prog_13_method_67_code 0 [(.iload_n 1, 1), (.ifCond .eq 34, 3), (.iload_n 1, 1), (.iconst 1, 1), (.if_icmp .ne 13, 3), (.bipush 6, 2), (.aload_n 0, 1), (.getfield 307, 3), (.imul, 1), (.goto 18, 3)] = true := by decide +kernel
theorem ok_Mo_drawnCount_19 : okb prog_13_method_67_code 19 [(.iload_n 1, 1), (.iconst 2, 1), (.if_icmp .ne 12, 3), (.iconst 4, 1), (.aload_n 0, 1), (.getfield 307, 3), (.imul, 1), (.goto 4, 3)] = true := by decide +kernel
theorem ok_Mo_drawnCount_33 : okb prog_13_method_67_code 33 [(.iconst (-1), 1), (.ireturn, 1)] = true := by decide +kernel
theorem ok_Mo_drawnCount_34 : okb prog_13_method_67_code 34 [(.ireturn, 1)] = true := by decide +kernel
theorem ok_Mo_drawnCount_35 : okb prog_13_method_67_code 35 [(.aload_n 0, 1), (.aload_n 0, 1), (.getfield 307, 3), (.iconst 1, 1), (.isub, 1), (.invokevirtual 409, 3), (.aload_n 0, 1), (.getfield 400, 3), (.iconst 1, 1), (.iadd, 1), (.ireturn, 1)] = true := by decide +kernel
set_option maxRecDepth 100000 in
def f_Mo_drawnCount (G : GT) (l0 : Nat) (l1 : Int32) (M : PH) : Option (Int32 × PH) :=
  if l1 = 0 then (if hT M l0 = 11 then bV (f_Mo_walk G l0 ((hI M 2283 l0) - (1 : Int32)) M) fun M2 => (if hT M2 l0 = 11 then some ((hI M2 2285 l0) + (1 : Int32), M2) else none) else none) else (if ¬ l1 = (1 : Int32) then (if ¬ l1 = (2 : Int32) then (some ((-1 : Int32), M)) else (if hT M l0 = 11 then some ((4 : Int32) * (hI M 2283 l0), M) else none)) else (if hT M l0 = 11 then some ((6 : Int32) * (hI M 2283 l0), M) else none))
set_option maxRecDepth 100000 in
set_option maxHeartbeats 4000000 in
theorem s_Mo_drawnCount {G : GT} (l0 : Nat) (l1 : Int32) (M : PH) : VX G mi_Mo_drawnCount 1 18 0 [some (.ref l0), some (.int l1)] [] M qI (f_Mo_drawnCount G l0 l1 M) := by
  unfold f_Mo_drawnCount
  refine V_open ok_Mo_drawnCount_0 ?_
  refine B_iload_n rfl ?_
  refine B_eq (tgt := 35) (by decide) ?_ ?_
  · skip
    refine V_open ok_Mo_drawnCount_35 ?_
    refine B_aload_n rfl ?_
    refine B_aload_n rfl ?_
    refine B_chk (fun t1 => ?_)
    refine K_getI 11 83 2283 lf_Mo_307 rfl rfl t1 ?_
    refine B_iconst (1 : Int32) ic_1 ?_
    refine B_isub ?_
    refine C_V (vs := [.ref l0, .int ((hI M 2283 l0) - (1 : Int32))]) (st := []) (ci_V lv_Mo_409 rfl rfl t1) rfl rfl rfl (s_Mo_walk l0 ((hI M 2283 l0) - (1 : Int32)) M) (fun M2 => ?_)
    refine B_aload_n rfl ?_
    refine B_chk (fun t3 => ?_)
    refine K_getI 11 85 2285 lf_Mo_400 rfl rfl t3 ?_
    refine B_iconst (1 : Int32) ic_1 ?_
    refine B_iadd ?_
    exact B_iret rfl
  · skip
    refine B_iload_n rfl ?_
    refine B_iconst (1 : Int32) ic_1 ?_
    refine B_ine (tgt := 19) (by decide) ?_ ?_
    · skip
      refine V_open ok_Mo_drawnCount_19 ?_
      refine B_iload_n rfl ?_
      refine B_iconst (2 : Int32) ic_2 ?_
      refine B_ine (tgt := 33) (by decide) ?_ ?_
      · skip
        refine V_open ok_Mo_drawnCount_33 ?_
        refine B_iconst (-1 : Int32) ic_m1 ?_
        exact B_iret rfl
      · skip
        refine B_iconst (4 : Int32) ic_4 ?_
        refine B_aload_n rfl ?_
        refine B_chk (fun t4 => ?_)
        refine K_getI 11 83 2283 lf_Mo_307 rfl rfl t4 ?_
        refine B_imul ?_
        refine B_goto (tgt := 34) (by decide) ?_
        refine V_open ok_Mo_drawnCount_34 ?_
        exact B_iret rfl
    · skip
      refine B_bipush (6 : Int32) bp_6 ?_
      refine B_aload_n rfl ?_
      refine B_chk (fun t5 => ?_)
      refine K_getI 11 83 2283 lf_Mo_307 rfl rfl t5 ?_
      refine B_imul ?_
      refine B_goto (tgt := 34) (by decide) ?_
      refine V_open ok_Mo_drawnCount_34 ?_
      exact B_iret rfl

-- Mo_end
theorem ok_Mo_end_0 : okb prog_13_method_24_code 0 [(.aload_n 0, 1), (.iconst 0, 1), (.putfield 175, 3), (.aload_n 0, 1), (.getfield 236, 3), (.ifCond .eq 10, 3), (.aload_n 0, 1), (.getfield 279, 3), (.ifCond .le 8, 3)] = true := by decide +kernel
theorem ok_Mo_end_19 : okb prog_13_method_24_code 19 [(.aload_n 0, 1), (.invokevirtual 239, 3), (.ireturn, 1)] = true := by decide +kernel
theorem ok_Mo_end_24 : okb prog_13_method_24_code 24 [(.aload_n 0, 1), (.getfield 17, 3), (.iconst 0, 1), (.baload, 1), (.ifCond .eq 31, 3), (.aload_n 0, 1), (.getfield 273, 3), (.ifCond .ne 24, 3), (.aload_n 0, 1), (.aload_n 0, 1), (.getfield 270, 3), (.ifCond .le 12, 3), (.aload_n 0, 1), (.getfield 33, 3), (.iconst 0, 1), (.iaload, 1), (.goto 4, 3)] = true := by decide +kernel
theorem ok_Mo_end_57 : okb prog_13_method_24_code 57 [(.iconst 0, 1)] = true := by decide +kernel
theorem ok_Mo_end_58 : okb prog_13_method_24_code 58 [(.invokevirtual 300, 3)] = true := by decide +kernel
theorem ok_Mo_end_61 : okb prog_13_method_24_code 61 [(.aload_n 0, 1), (.getfield 255, 3), (.ifCond .eq 19, 3), (.aload_n 0, 1), (.aload_n 0, 1), (.getfield 255, 3), (.invokevirtual 304, 3), (.ifCond .ne 8, 3), (.aload_n 0, 1), (.iconst 0, 1), (.putfield 255, 3)] = true := by decide +kernel
theorem ok_Mo_end_84 : okb prog_13_method_24_code 84 [(.aload_n 0, 1), (.getfield 294, 3), (.ifCond .eq 19, 3), (.aload_n 0, 1), (.aload_n 0, 1), (.getfield 294, 3), (.invokevirtual 304, 3), (.ifCond .ne 8, 3), (.aload_n 0, 1), (.iconst 0, 1), (.invokevirtual 300, 3)] = true := by decide +kernel
theorem ok_Mo_end_107 : okb prog_13_method_24_code 107 [(.aload_n 0, 1), (.getfield 60, 3), (.bipush 8, 2), (.baload, 1), (.ifCond .ne 15, 3), (.aload_n 0, 1), (.getfield 276, 3), (.ifCond .ne 8, 3), (.aload_n 0, 1), (.iconst (-1), 1), (.putfield 69, 3)] = true := by decide +kernel
theorem ok_Mo_end_129 : okb prog_13_method_24_code 129 [(.aload_n 0, 1), (.iconst 0, 1), (.putfield 236, 3), (.aload_n 0, 1), (.iconst 0, 1), (.putfield 307, 3), (.iconst 0, 1), (.istore_n 1, 1)] = true := by decide +kernel
theorem ok_Mo_end_141 : okb prog_13_method_24_code 141 [(.iload_n 1, 1), (.bipush 9, 2), (.if_icmp .ge 58, 3), (.iconst 0, 1), (.istore_n 2, 1)] = true := by decide +kernel
theorem ok_Mo_end_149 : okb prog_13_method_24_code 149 [(.iload_n 2, 1), (.bipush 9, 2), (.if_icmp .ge 44, 3), (.aload_n 0, 1), (.getfield 60, 3), (.iload_n 2, 1), (.baload, 1), (.ifCond .eq 29, 3), (.iload_n 2, 1), (.bipush 8, 2), (.if_icmp .ne 8, 3), (.bipush 8, 2), (.goto 9, 3)] = true := by decide +kernel
theorem ok_Mo_end_175 : okb prog_13_method_24_code 175 [(.aload_n 0, 1), (.getfield 54, 3), (.iload_n 2, 1), (.iaload, 1)] = true := by decide +kernel
theorem ok_Mo_end_181 : okb prog_13_method_24_code 181 [(.iload_n 1, 1), (.if_icmp .ne 8, 3), (.aload_n 0, 1), (.iload_n 2, 1), (.invokevirtual 310, 3)] = true := by decide +kernel
theorem ok_Mo_end_190 : okb prog_13_method_24_code 190 [(.iinc 2 1, 3), (.goto (-44), 3)] = true := by decide +kernel
theorem ok_Mo_end_196 : okb prog_13_method_24_code 196 [(.iinc 1 1, 3), (.goto (-58), 3)] = true := by decide +kernel
theorem ok_Mo_end_202 : okb prog_13_method_24_code 202 [(.aload_n 0, 1), (.iconst 0, 1), (.invokevirtual 313, 3), (.ireturn, 1)] = true := by decide +kernel
set_option maxRecDepth 100000 in
def b_Mo_end_19 (G : GT) (l0 : Nat) (M : PH) : Option (Int32 × PH) :=
  if hT M l0 = 11 then bI (f_Mo_breaks G l0 M) fun v3 M2 => (some (v3, M2)) else none
set_option maxRecDepth 100000 in
set_option maxHeartbeats 4000000 in
theorem t_Mo_end_19 {G : GT} (l0 : Nat) (M : PH) : VX G mi_Mo_end 2 31 19 [some (.ref l0), none, none] [] M qI (b_Mo_end_19 G l0 M) := by
  unfold b_Mo_end_19
  refine V_open ok_Mo_end_19 ?_
  refine B_aload_n rfl ?_
  refine B_chk (fun t1 => ?_)
  refine C_I (vs := [.ref l0]) (st := []) (ci_V lv_Mo_239 rfl rfl t1) rfl rfl rfl (s_Mo_breaks l0 M) (fun v3 M2 => ?_)
  exact B_iret rfl
set_option maxRecDepth 100000 in
def b_Mo_end_190 (G : GT) (k141 : Nat → Int32 → PH → Option (Int32 × PH)) (k149 : Nat → Int32 → Int32 → PH → Option (Int32 × PH)) (l0 : Nat) (l1 : Int32) (l2 : Int32) (M : PH) : Option (Int32 × PH) :=
  k149 l0 l1 (l2 + (1 : Int32)) M
set_option maxRecDepth 100000 in
set_option maxHeartbeats 4000000 in
theorem t_Mo_end_190 {G : GT} {k141 : Nat → Int32 → PH → Option (Int32 × PH)} (hk141 : ∀ (l0 : Nat) (l1 : Int32) (M : PH), VX G mi_Mo_end 2 31 141 [some (.ref l0), some (.int l1), none] [] M qI (k141 l0 l1 M)) {k149 : Nat → Int32 → Int32 → PH → Option (Int32 × PH)} (hk149 : ∀ (l0 : Nat) (l1 : Int32) (l2 : Int32) (M : PH), VX G mi_Mo_end 2 31 149 [some (.ref l0), some (.int l1), some (.int l2)] [] M qI (k149 l0 l1 l2 M)) (l0 : Nat) (l1 : Int32) (l2 : Int32) (M : PH) : VX G mi_Mo_end 2 31 190 [some (.ref l0), some (.int l1), some (.int l2)] [] M qI (b_Mo_end_190 G k141 k149 l0 l1 l2 M) := by
  unfold b_Mo_end_190
  refine V_open ok_Mo_end_190 ?_
  refine S_inc (1 : Int32) [some (.ref l0), some (.int l1), some (.int (l2 + (1 : Int32)))] ic_1 rfl (by decide) rfl ?_
  refine B_goto (tgt := 149) (by decide) ?_
  exact V_weak (ls' := [some (.ref l0), some (.int l1), some (.int (l2 + (1 : Int32)))]) ⟨rfl, ⟨rfl, ⟨rfl, trivial⟩⟩⟩ (hk149 l0 l1 (l2 + (1 : Int32)) M)
set_option maxRecDepth 100000 in
def b_Mo_end_181 (G : GT) (k141 : Nat → Int32 → PH → Option (Int32 × PH)) (k149 : Nat → Int32 → Int32 → PH → Option (Int32 × PH)) (l0 : Nat) (l1 : Int32) (l2 : Int32) (s0 : Int32) (M : PH) : Option (Int32 × PH) :=
  if ¬ s0 = l1 then (b_Mo_end_190 G k141 k149 l0 l1 l2 M) else (if hT M l0 = 11 then bV (f_Mo_copyList G l0 l2 M) fun M2 => (b_Mo_end_190 G k141 k149 l0 l1 l2 M2) else none)
set_option maxRecDepth 100000 in
set_option maxHeartbeats 4000000 in
theorem t_Mo_end_181 {G : GT} {k141 : Nat → Int32 → PH → Option (Int32 × PH)} (hk141 : ∀ (l0 : Nat) (l1 : Int32) (M : PH), VX G mi_Mo_end 2 31 141 [some (.ref l0), some (.int l1), none] [] M qI (k141 l0 l1 M)) {k149 : Nat → Int32 → Int32 → PH → Option (Int32 × PH)} (hk149 : ∀ (l0 : Nat) (l1 : Int32) (l2 : Int32) (M : PH), VX G mi_Mo_end 2 31 149 [some (.ref l0), some (.int l1), some (.int l2)] [] M qI (k149 l0 l1 l2 M)) (l0 : Nat) (l1 : Int32) (l2 : Int32) (s0 : Int32) (M : PH) : VX G mi_Mo_end 2 31 181 [some (.ref l0), some (.int l1), some (.int l2)] [.int s0] M qI (b_Mo_end_181 G k141 k149 l0 l1 l2 s0 M) := by
  unfold b_Mo_end_181
  refine V_open ok_Mo_end_181 ?_
  refine B_iload_n rfl ?_
  refine B_ine (tgt := 190) (by decide) ?_ ?_
  · skip
    exact V_weak (ls' := [some (.ref l0), some (.int l1), some (.int l2)]) ⟨rfl, ⟨rfl, ⟨rfl, trivial⟩⟩⟩ (t_Mo_end_190 hk141 hk149 l0 l1 l2 M)
  · skip
    refine B_aload_n rfl ?_
    refine B_iload_n rfl ?_
    refine B_chk (fun t1 => ?_)
    refine C_V (vs := [.ref l0, .int l2]) (st := []) (ci_V lv_Mo_310 rfl rfl t1) rfl rfl rfl (s_Mo_copyList l0 l2 M) (fun M2 => ?_)
    refine V_close ?_
    exact V_weak (ls' := [some (.ref l0), some (.int l1), some (.int l2)]) ⟨rfl, ⟨rfl, ⟨rfl, trivial⟩⟩⟩ (t_Mo_end_190 hk141 hk149 l0 l1 l2 M2)
set_option maxRecDepth 100000 in
def b_Mo_end_149 (G : GT) (k141 : Nat → Int32 → PH → Option (Int32 × PH)) (k149 : Nat → Int32 → Int32 → PH → Option (Int32 × PH)) (l0 : Nat) (l1 : Int32) (l2 : Int32) (M : PH) : Option (Int32 × PH) :=
  if (9 : Int32) ≤ l2 then (k141 l0 (l1 + (1 : Int32)) M) else (if hT M l0 = 11 then (hR M 2237 l0).bind fun a2 => if hT M a2 = 17 then if ib l2 (hN M a2) = true then if hA M a2 l2.toNatClampNeg = 0 then (b_Mo_end_190 G k141 k149 l0 l1 l2 M) else (if ¬ l2 = (8 : Int32) then ((hR M 2235 l0).bind fun a5 => if hT M a5 = 16 then if ib l2 (hN M a5) = true then b_Mo_end_181 G k141 k149 l0 l1 l2 (hA M a5 l2.toNatClampNeg) M else none else none) else (b_Mo_end_181 G k141 k149 l0 l1 l2 (8 : Int32) M)) else none else none else none)
set_option maxRecDepth 100000 in
set_option maxHeartbeats 4000000 in
theorem t_Mo_end_149 {G : GT} {k141 : Nat → Int32 → PH → Option (Int32 × PH)} (hk141 : ∀ (l0 : Nat) (l1 : Int32) (M : PH), VX G mi_Mo_end 2 31 141 [some (.ref l0), some (.int l1), none] [] M qI (k141 l0 l1 M)) {k149 : Nat → Int32 → Int32 → PH → Option (Int32 × PH)} (hk149 : ∀ (l0 : Nat) (l1 : Int32) (l2 : Int32) (M : PH), VX G mi_Mo_end 2 31 149 [some (.ref l0), some (.int l1), some (.int l2)] [] M qI (k149 l0 l1 l2 M)) (l0 : Nat) (l1 : Int32) (l2 : Int32) (M : PH) : VX G mi_Mo_end 2 31 149 [some (.ref l0), some (.int l1), some (.int l2)] [] M qI (b_Mo_end_149 G k141 k149 l0 l1 l2 M) := by
  unfold b_Mo_end_149
  refine V_open ok_Mo_end_149 ?_
  refine B_iload_n rfl ?_
  refine B_bipush (9 : Int32) bp_9 ?_
  refine B_ige (tgt := 196) (by decide) ?_ ?_
  · skip
    refine V_open ok_Mo_end_196 ?_
    refine S_inc (1 : Int32) [some (.ref l0), some (.int (l1 + (1 : Int32))), some (.int l2)] ic_1 rfl (by decide) rfl ?_
    refine B_goto (tgt := 141) (by decide) ?_
    exact V_weak (ls' := [some (.ref l0), some (.int (l1 + (1 : Int32))), none]) ⟨rfl, ⟨rfl, trivial⟩⟩ (hk141 l0 (l1 + (1 : Int32)) M)
  · skip
    refine B_aload_n rfl ?_
    refine B_chk (fun t1 => ?_)
    refine K_getR 11 37 2237 lf_Mo_60 rfl rfl t1 (fun a2 r3 => ?_)
    refine B_iload_n rfl ?_
    refine B_chk (fun t4 => ?_)
    refine K_zald t4 ?_
    refine B_eq (tgt := 190) (by decide) ?_ ?_
    · skip
      exact V_weak (ls' := [some (.ref l0), some (.int l1), some (.int l2)]) ⟨rfl, ⟨rfl, ⟨rfl, trivial⟩⟩⟩ (t_Mo_end_190 hk141 hk149 l0 l1 l2 M)
    · skip
      refine B_iload_n rfl ?_
      refine B_bipush (8 : Int32) bp_8 ?_
      refine B_ine (tgt := 175) (by decide) ?_ ?_
      · skip
        refine V_open ok_Mo_end_175 ?_
        refine B_aload_n rfl ?_
        refine K_getR 11 35 2235 lf_Mo_54 rfl rfl t1 (fun a5 r6 => ?_)
        refine B_iload_n rfl ?_
        refine B_chk (fun t7 => ?_)
        refine K_iald t7 ?_
        refine V_close ?_
        exact V_weak (ls' := [some (.ref l0), some (.int l1), some (.int l2)]) ⟨rfl, ⟨rfl, ⟨rfl, trivial⟩⟩⟩ (t_Mo_end_181 hk141 hk149 l0 l1 l2 (hA M a5 l2.toNatClampNeg) M)
      · skip
        refine B_bipush (8 : Int32) bp_8 ?_
        refine B_goto (tgt := 181) (by decide) ?_
        exact V_weak (ls' := [some (.ref l0), some (.int l1), some (.int l2)]) ⟨rfl, ⟨rfl, ⟨rfl, trivial⟩⟩⟩ (t_Mo_end_181 hk141 hk149 l0 l1 l2 (8 : Int32) M)
set_option maxRecDepth 100000 in
def w_Mo_end_149 (G : GT) (k141 : Nat → Int32 → PH → Option (Int32 × PH)) : Nat → Nat → Int32 → Int32 → PH → Option (Int32 × PH)
  | 0 => fun _ _ _ _ => none
  | n + 1 => b_Mo_end_149 G k141 (w_Mo_end_149 G k141 n)
set_option maxRecDepth 100000 in
set_option maxHeartbeats 4000000 in
theorem tw_Mo_end_149 {G : GT} {k141 : Nat → Int32 → PH → Option (Int32 × PH)} (hk141 : ∀ (l0 : Nat) (l1 : Int32) (M : PH), VX G mi_Mo_end 2 31 141 [some (.ref l0), some (.int l1), none] [] M qI (k141 l0 l1 M)) : ∀ (n : Nat) (l0 : Nat) (l1 : Int32) (l2 : Int32) (M : PH), VX G mi_Mo_end 2 31 149 [some (.ref l0), some (.int l1), some (.int l2)] [] M qI (w_Mo_end_149 G k141 n l0 l1 l2 M)
  | 0, _, _, _, _ => X_none
  | n + 1, l0, l1, l2, M => t_Mo_end_149 hk141 (tw_Mo_end_149 hk141 n) l0 l1 l2 M
set_option maxRecDepth 100000 in
def b_Mo_end_141 (G : GT) (k141 : Nat → Int32 → PH → Option (Int32 × PH)) (l0 : Nat) (l1 : Int32) (M : PH) : Option (Int32 × PH) :=
  if (9 : Int32) ≤ l1 then (if hT M l0 = 11 then bI (f_Mo_drawnCount G l0 (0 : Int32) M) fun v3 M2 => (some (v3, M2)) else none) else (w_Mo_end_149 G k141 FU l0 l1 (0 : Int32) M)
set_option maxRecDepth 100000 in
set_option maxHeartbeats 4000000 in
theorem t_Mo_end_141 {G : GT} {k141 : Nat → Int32 → PH → Option (Int32 × PH)} (hk141 : ∀ (l0 : Nat) (l1 : Int32) (M : PH), VX G mi_Mo_end 2 31 141 [some (.ref l0), some (.int l1), none] [] M qI (k141 l0 l1 M)) (l0 : Nat) (l1 : Int32) (M : PH) : VX G mi_Mo_end 2 31 141 [some (.ref l0), some (.int l1), none] [] M qI (b_Mo_end_141 G k141 l0 l1 M) := by
  unfold b_Mo_end_141
  refine V_open ok_Mo_end_141 ?_
  refine B_iload_n rfl ?_
  refine B_bipush (9 : Int32) bp_9 ?_
  refine B_ige (tgt := 202) (by decide) ?_ ?_
  · skip
    refine V_open ok_Mo_end_202 ?_
    refine B_aload_n rfl ?_
    refine B_iconst (0 : Int32) ic_0 ?_
    refine B_chk (fun t1 => ?_)
    refine C_I (vs := [.ref l0, .int (0 : Int32)]) (st := []) (ci_V lv_Mo_313 rfl rfl t1) rfl rfl rfl (s_Mo_drawnCount l0 (0 : Int32) M) (fun v3 M2 => ?_)
    exact B_iret rfl
  · skip
    refine B_iconst (0 : Int32) ic_0 ?_
    refine S_in [some (.ref l0), some (.int l1), some (.int (0 : Int32))] (by decide) rfl ?_
    refine V_close ?_
    exact V_weak (ls' := [some (.ref l0), some (.int l1), some (.int (0 : Int32))]) ⟨rfl, ⟨rfl, ⟨rfl, trivial⟩⟩⟩ (tw_Mo_end_149 hk141 FU l0 l1 (0 : Int32) M)
set_option maxRecDepth 100000 in
def w_Mo_end_141 (G : GT) : Nat → Nat → Int32 → PH → Option (Int32 × PH)
  | 0 => fun _ _ _ => none
  | n + 1 => b_Mo_end_141 G (w_Mo_end_141 G n)
set_option maxRecDepth 100000 in
set_option maxHeartbeats 4000000 in
theorem tw_Mo_end_141 {G : GT} : ∀ (n : Nat) (l0 : Nat) (l1 : Int32) (M : PH), VX G mi_Mo_end 2 31 141 [some (.ref l0), some (.int l1), none] [] M qI (w_Mo_end_141 G n l0 l1 M)
  | 0, _, _, _ => X_none
  | n + 1, l0, l1, M => t_Mo_end_141 (tw_Mo_end_141 n) l0 l1 M
set_option maxRecDepth 100000 in
def b_Mo_end_129 (G : GT) (l0 : Nat) (M : PH) : Option (Int32 × PH) :=
  if hT M l0 = 11 then hb (sI M 2218 l0 (0 : Int32)) fun M3 => hb (sI M3 2283 l0 (0 : Int32)) fun M6 => w_Mo_end_141 G FU l0 (0 : Int32) M6 else none
set_option maxRecDepth 100000 in
set_option maxHeartbeats 4000000 in
theorem t_Mo_end_129 {G : GT} (l0 : Nat) (M : PH) : VX G mi_Mo_end 2 31 129 [some (.ref l0), none, none] [] M qI (b_Mo_end_129 G l0 M) := by
  unfold b_Mo_end_129
  refine V_open ok_Mo_end_129 ?_
  refine B_aload_n rfl ?_
  refine B_iconst (0 : Int32) ic_0 ?_
  refine B_chk (fun t1 => ?_)
  refine K_putZ 11 18 2218 lf_Mo_236 rfl (Or.inl rfl) rfl t1 (Or.inl rfl) (fun M3 e2 => ?_)
  refine B_aload_n rfl ?_
  refine B_iconst (0 : Int32) ic_0 ?_
  have h4 : hT M3 l0 = 11 := by rw [e2]; exact t1
  refine K_putI 11 83 2283 lf_Mo_307 rfl (Or.inl rfl) rfl h4 (fun M6 e5 => ?_)
  refine B_iconst (0 : Int32) ic_0 ?_
  refine S_in [some (.ref l0), some (.int (0 : Int32)), none] (by decide) rfl ?_
  refine V_close ?_
  exact V_weak (ls' := [some (.ref l0), some (.int (0 : Int32)), none]) ⟨rfl, ⟨rfl, trivial⟩⟩ (tw_Mo_end_141 FU l0 (0 : Int32) M6)
set_option maxRecDepth 100000 in
def b_Mo_end_107 (G : GT) (l0 : Nat) (M : PH) : Option (Int32 × PH) :=
  if hT M l0 = 11 then (hR M 2237 l0).bind fun a2 => if hT M a2 = 17 then if 8 < hN M a2 then if ¬ hA M a2 8 = 0 then (b_Mo_end_129 G l0 M) else (if ¬ hI M 2241 l0 = 0 then (b_Mo_end_129 G l0 M) else (hb (sI M 2240 l0 (-1 : Int32)) fun M6 => b_Mo_end_129 G l0 M6)) else none else none else none
set_option maxRecDepth 100000 in
set_option maxHeartbeats 4000000 in
theorem t_Mo_end_107 {G : GT} (l0 : Nat) (M : PH) : VX G mi_Mo_end 2 31 107 [some (.ref l0), none, none] [] M qI (b_Mo_end_107 G l0 M) := by
  unfold b_Mo_end_107
  refine V_open ok_Mo_end_107 ?_
  refine B_aload_n rfl ?_
  refine B_chk (fun t1 => ?_)
  refine K_getR 11 37 2237 lf_Mo_60 rfl rfl t1 (fun a2 r3 => ?_)
  refine B_bipush (8 : Int32) bp_8 ?_
  refine B_chk (fun t4 => ?_)
  refine K_zaldc 8 rfl t4 ?_
  refine B_ne (tgt := 129) (by decide) ?_ ?_
  · skip
    exact V_weak (ls' := [some (.ref l0), none, none]) ⟨rfl, trivial⟩ (t_Mo_end_129 l0 M)
  · skip
    refine B_aload_n rfl ?_
    refine K_getI 11 41 2241 lf_Mo_276 rfl rfl t1 ?_
    refine B_ne (tgt := 129) (by decide) ?_ ?_
    · skip
      exact V_weak (ls' := [some (.ref l0), none, none]) ⟨rfl, trivial⟩ (t_Mo_end_129 l0 M)
    · skip
      refine B_aload_n rfl ?_
      refine B_iconst (-1 : Int32) ic_m1 ?_
      refine K_putI 11 40 2240 lf_Mo_69 rfl (Or.inl rfl) rfl t1 (fun M6 e5 => ?_)
      refine V_close ?_
      exact V_weak (ls' := [some (.ref l0), none, none]) ⟨rfl, trivial⟩ (t_Mo_end_129 l0 M6)
set_option maxRecDepth 100000 in
def b_Mo_end_84 (G : GT) (l0 : Nat) (M : PH) : Option (Int32 × PH) :=
  if hT M l0 = 11 then if hI M 2221 l0 = 0 then (b_Mo_end_107 G l0 M) else (bI (f_Mo_wasTold G l0 (hI M 2221 l0) M) fun v3 M2 => (if ¬ v3 = 0 then (b_Mo_end_107 G l0 M2) else (if hT M2 l0 = 11 then bV (f_Mo_give G l0 (0 : Int32) M2) fun M5 => (b_Mo_end_107 G l0 M5) else none))) else none
set_option maxRecDepth 100000 in
set_option maxHeartbeats 4000000 in
theorem t_Mo_end_84 {G : GT} (l0 : Nat) (M : PH) : VX G mi_Mo_end 2 31 84 [some (.ref l0), none, none] [] M qI (b_Mo_end_84 G l0 M) := by
  unfold b_Mo_end_84
  refine V_open ok_Mo_end_84 ?_
  refine B_aload_n rfl ?_
  refine B_chk (fun t1 => ?_)
  refine K_getI 11 21 2221 lf_Mo_294 rfl rfl t1 ?_
  refine B_eq (tgt := 107) (by decide) ?_ ?_
  · skip
    exact V_weak (ls' := [some (.ref l0), none, none]) ⟨rfl, trivial⟩ (t_Mo_end_107 l0 M)
  · skip
    refine B_aload_n rfl ?_
    refine B_aload_n rfl ?_
    refine K_getI 11 21 2221 lf_Mo_294 rfl rfl t1 ?_
    refine C_I (vs := [.ref l0, .int (hI M 2221 l0)]) (st := []) (ci_V lv_Mo_304 rfl rfl t1) rfl rfl rfl (s_Mo_wasTold l0 (hI M 2221 l0) M) (fun v3 M2 => ?_)
    refine B_ne (tgt := 107) (by decide) ?_ ?_
    · skip
      exact V_weak (ls' := [some (.ref l0), none, none]) ⟨rfl, trivial⟩ (t_Mo_end_107 l0 M2)
    · skip
      refine B_aload_n rfl ?_
      refine B_iconst (0 : Int32) ic_0 ?_
      refine B_chk (fun t4 => ?_)
      refine C_V (vs := [.ref l0, .int (0 : Int32)]) (st := []) (ci_V lv_Mo_300 rfl rfl t4) rfl rfl rfl (s_Mo_give l0 (0 : Int32) M2) (fun M5 => ?_)
      refine V_close ?_
      exact V_weak (ls' := [some (.ref l0), none, none]) ⟨rfl, trivial⟩ (t_Mo_end_107 l0 M5)
set_option maxRecDepth 100000 in
def b_Mo_end_61 (G : GT) (l0 : Nat) (M : PH) : Option (Int32 × PH) :=
  if hT M l0 = 11 then if hI M 2219 l0 = 0 then (b_Mo_end_84 G l0 M) else (bI (f_Mo_wasTold G l0 (hI M 2219 l0) M) fun v3 M2 => (if ¬ v3 = 0 then (b_Mo_end_84 G l0 M2) else (if hT M2 l0 = 11 then hb (sI M2 2219 l0 (0 : Int32)) fun M6 => b_Mo_end_84 G l0 M6 else none))) else none
set_option maxRecDepth 100000 in
set_option maxHeartbeats 4000000 in
theorem t_Mo_end_61 {G : GT} (l0 : Nat) (M : PH) : VX G mi_Mo_end 2 31 61 [some (.ref l0), none, none] [] M qI (b_Mo_end_61 G l0 M) := by
  unfold b_Mo_end_61
  refine V_open ok_Mo_end_61 ?_
  refine B_aload_n rfl ?_
  refine B_chk (fun t1 => ?_)
  refine K_getI 11 19 2219 lf_Mo_255 rfl rfl t1 ?_
  refine B_eq (tgt := 84) (by decide) ?_ ?_
  · skip
    exact V_weak (ls' := [some (.ref l0), none, none]) ⟨rfl, trivial⟩ (t_Mo_end_84 l0 M)
  · skip
    refine B_aload_n rfl ?_
    refine B_aload_n rfl ?_
    refine K_getI 11 19 2219 lf_Mo_255 rfl rfl t1 ?_
    refine C_I (vs := [.ref l0, .int (hI M 2219 l0)]) (st := []) (ci_V lv_Mo_304 rfl rfl t1) rfl rfl rfl (s_Mo_wasTold l0 (hI M 2219 l0) M) (fun v3 M2 => ?_)
    refine B_ne (tgt := 84) (by decide) ?_ ?_
    · skip
      exact V_weak (ls' := [some (.ref l0), none, none]) ⟨rfl, trivial⟩ (t_Mo_end_84 l0 M2)
    · skip
      refine B_aload_n rfl ?_
      refine B_iconst (0 : Int32) ic_0 ?_
      refine B_chk (fun t4 => ?_)
      refine K_putI 11 19 2219 lf_Mo_255 rfl (Or.inl rfl) rfl t4 (fun M6 e5 => ?_)
      refine V_close ?_
      exact V_weak (ls' := [some (.ref l0), none, none]) ⟨rfl, trivial⟩ (t_Mo_end_84 l0 M6)
set_option maxRecDepth 100000 in
def b_Mo_end_58 (G : GT) (l0 : Nat) (s0 : Nat) (s1 : Int32) (M : PH) : Option (Int32 × PH) :=
  if hT M s0 = 11 then bV (f_Mo_give G s0 s1 M) fun M2 => (b_Mo_end_61 G l0 M2) else none
set_option maxRecDepth 100000 in
set_option maxHeartbeats 4000000 in
theorem t_Mo_end_58 {G : GT} (l0 : Nat) (s0 : Nat) (s1 : Int32) (M : PH) : VX G mi_Mo_end 2 31 58 [some (.ref l0), none, none] [.int s1, .ref s0] M qI (b_Mo_end_58 G l0 s0 s1 M) := by
  unfold b_Mo_end_58
  refine V_open ok_Mo_end_58 ?_
  refine B_chk (fun t1 => ?_)
  refine C_V (vs := [.ref s0, .int s1]) (st := []) (ci_V lv_Mo_300 rfl rfl t1) rfl rfl rfl (s_Mo_give s0 s1 M) (fun M2 => ?_)
  refine V_close ?_
  exact V_weak (ls' := [some (.ref l0), none, none]) ⟨rfl, trivial⟩ (t_Mo_end_61 l0 M2)
set_option maxRecDepth 100000 in
def f_Mo_end (G : GT) (l0 : Nat) (M : PH) : Option (Int32 × PH) :=
  if hT M l0 = 11 then hb (sI M 2200 l0 (0 : Int32)) fun M3 => if hI M3 2218 l0 = 0 then (b_Mo_end_19 G l0 M3) else (if hI M3 2256 l0 ≤ 0 then ((hR M3 2211 l0).bind fun a5 => if hT M3 a5 = 17 then if 0 < hN M3 a5 then if hA M3 a5 0 = 0 then (b_Mo_end_61 G l0 M3) else (if ¬ hI M3 2228 l0 = 0 then (b_Mo_end_61 G l0 M3) else (if hI M3 2227 l0 ≤ 0 then (b_Mo_end_58 G l0 l0 (0 : Int32) M3) else ((hR M3 2226 l0).bind fun a8 => if hT M3 a8 = 16 then if 0 < hN M3 a8 then b_Mo_end_58 G l0 l0 (hA M3 a8 0) M3 else none else none))) else none else none) else (b_Mo_end_19 G l0 M3)) else none
set_option maxRecDepth 100000 in
set_option maxHeartbeats 4000000 in
theorem s_Mo_end {G : GT} (l0 : Nat) (M : PH) : VX G mi_Mo_end 2 31 0 [some (.ref l0), none, none] [] M qI (f_Mo_end G l0 M) := by
  unfold f_Mo_end
  refine V_open ok_Mo_end_0 ?_
  refine B_aload_n rfl ?_
  refine B_iconst (0 : Int32) ic_0 ?_
  refine B_chk (fun t1 => ?_)
  refine K_putI 11 0 2200 lf_Mo_175 rfl (Or.inl rfl) rfl t1 (fun M3 e2 => ?_)
  refine B_aload_n rfl ?_
  have h4 : hT M3 l0 = 11 := by rw [e2]; exact t1
  refine K_getI 11 18 2218 lf_Mo_236 rfl rfl h4 ?_
  refine B_eq (tgt := 19) (by decide) ?_ ?_
  · skip
    exact V_weak (ls' := [some (.ref l0), none, none]) ⟨rfl, trivial⟩ (t_Mo_end_19 l0 M3)
  · skip
    refine B_aload_n rfl ?_
    refine K_getI 11 56 2256 lf_Mo_279 rfl rfl h4 ?_
    refine B_le (tgt := 24) (by decide) ?_ ?_
    · skip
      refine V_open ok_Mo_end_24 ?_
      refine B_aload_n rfl ?_
      refine K_getR 11 11 2211 lf_Mo_17 rfl rfl h4 (fun a5 r6 => ?_)
      refine B_iconst (0 : Int32) ic_0 ?_
      refine B_chk (fun t7 => ?_)
      refine K_zaldc 0 rfl t7 ?_
      refine B_eq (tgt := 61) (by decide) ?_ ?_
      · skip
        exact V_weak (ls' := [some (.ref l0), none, none]) ⟨rfl, trivial⟩ (t_Mo_end_61 l0 M3)
      · skip
        refine B_aload_n rfl ?_
        refine K_getI 11 28 2228 lf_Mo_273 rfl rfl h4 ?_
        refine B_ne (tgt := 61) (by decide) ?_ ?_
        · skip
          exact V_weak (ls' := [some (.ref l0), none, none]) ⟨rfl, trivial⟩ (t_Mo_end_61 l0 M3)
        · skip
          refine B_aload_n rfl ?_
          refine B_aload_n rfl ?_
          refine K_getI 11 27 2227 lf_Mo_270 rfl rfl h4 ?_
          refine B_le (tgt := 57) (by decide) ?_ ?_
          · skip
            refine V_open ok_Mo_end_57 ?_
            refine B_iconst (0 : Int32) ic_0 ?_
            refine V_close ?_
            exact V_weak (ls' := [some (.ref l0), none, none]) ⟨rfl, trivial⟩ (t_Mo_end_58 l0 l0 (0 : Int32) M3)
          · skip
            refine B_aload_n rfl ?_
            refine K_getR 11 26 2226 lf_Mo_33 rfl rfl h4 (fun a8 r9 => ?_)
            refine B_iconst (0 : Int32) ic_0 ?_
            refine B_chk (fun t10 => ?_)
            refine K_ialdc 0 rfl t10 ?_
            refine B_goto (tgt := 58) (by decide) ?_
            exact V_weak (ls' := [some (.ref l0), none, none]) ⟨rfl, trivial⟩ (t_Mo_end_58 l0 l0 (hA M3 a8 0) M3)
    · skip
      refine V_close ?_
      exact V_weak (ls' := [some (.ref l0), none, none]) ⟨rfl, trivial⟩ (t_Mo_end_19 l0 M3)

-- PF_isSize
theorem ok_PF_isSize_0 : okb prog_1_method_22_code 0 [(.iload_n 0, 1), (.bipush 40, 2), (.if_icmp .lt 27, 3), (.iload_n 0, 1), (.sipush 400, 3), (.if_icmp .gt 20, 3), (.iload_n 1, 1), (.bipush 30, 2), (.if_icmp .lt 14, 3), (.iload_n 1, 1), (.sipush 400, 3), (.if_icmp .gt 7, 3), (.iconst 1, 1), (.goto 4, 3)] = true := by decide +kernel
theorem ok_PF_isSize_30 : okb prog_1_method_22_code 30 [(.iconst 0, 1), (.ireturn, 1)] = true := by decide +kernel
theorem ok_PF_isSize_31 : okb prog_1_method_22_code 31 [(.ireturn, 1)] = true := by decide +kernel
set_option maxRecDepth 100000 in
def f_PF_isSize (G : GT) (l0 : Int32) (l1 : Int32) (M : PH) : Option (Int32 × PH) :=
  if l0 < (40 : Int32) then (some ((0 : Int32), M)) else (if (400 : Int32) < l0 then (some ((0 : Int32), M)) else (if l1 < (30 : Int32) then (some ((0 : Int32), M)) else (if (400 : Int32) < l1 then (some ((0 : Int32), M)) else (some ((1 : Int32), M)))))
set_option maxRecDepth 100000 in
set_option maxHeartbeats 4000000 in
theorem s_PF_isSize {G : GT} (l0 : Int32) (l1 : Int32) (M : PH) : VX G mi_PF_isSize 0 0 0 [some (.int l0), some (.int l1)] [] M qI (f_PF_isSize G l0 l1 M) := by
  unfold f_PF_isSize
  refine V_open ok_PF_isSize_0 ?_
  refine B_iload_n rfl ?_
  refine B_bipush (40 : Int32) bp_40 ?_
  refine B_ilt (tgt := 30) (by decide) ?_ ?_
  · skip
    refine V_open ok_PF_isSize_30 ?_
    refine B_iconst (0 : Int32) ic_0 ?_
    exact Z_ret rfl (Or.inl rfl)
  · skip
    refine B_iload_n rfl ?_
    refine B_sipush (400 : Int32) sp_400 ?_
    refine B_igt (tgt := 30) (by decide) ?_ ?_
    · skip
      refine V_open ok_PF_isSize_30 ?_
      refine B_iconst (0 : Int32) ic_0 ?_
      exact Z_ret rfl (Or.inl rfl)
    · skip
      refine B_iload_n rfl ?_
      refine B_bipush (30 : Int32) bp_30 ?_
      refine B_ilt (tgt := 30) (by decide) ?_ ?_
      · skip
        refine V_open ok_PF_isSize_30 ?_
        refine B_iconst (0 : Int32) ic_0 ?_
        exact Z_ret rfl (Or.inl rfl)
      · skip
        refine B_iload_n rfl ?_
        refine B_sipush (400 : Int32) sp_400 ?_
        refine B_igt (tgt := 30) (by decide) ?_ ?_
        · skip
          refine V_open ok_PF_isSize_30 ?_
          refine B_iconst (0 : Int32) ic_0 ?_
          exact Z_ret rfl (Or.inl rfl)
        · skip
          refine B_iconst (1 : Int32) ic_1 ?_
          refine B_goto (tgt := 31) (by decide) ?_
          refine V_open ok_PF_isSize_31 ?_
          exact Z_ret rfl (Or.inr rfl)

-- PF_want
theorem ok_PF_want_0 : okb prog_1_method_2_code 0 [(.iload_n 0, 1), (.ifCond .ne 11, 3), (.new 101, 3), (.dup, 1), (.invokespecial 103, 3), (.athrow, 1)] = true := by decide +kernel
theorem ok_PF_want_12 : okb prog_1_method_2_code 12 [(.return_, 1)] = true := by decide +kernel
set_option maxRecDepth 100000 in
def f_PF_want (G : GT) (l0 : Int32) (M : PH) : Option (Nat × PH) :=
  if ¬ l0 = 0 then (some (0, M)) else (if hZ M < gC G ∧ hU M + 6 ≤ gS G then some (1, nO M 32 6) else none)
set_option maxRecDepth 100000 in
set_option maxHeartbeats 4000000 in
theorem s_PF_want {G : GT} (l0 : Int32) (M : PH) : VX G mi_PF_want 6 81 0 [some (.int l0)] [] M qU (f_PF_want G l0 M) := by
  unfold f_PF_want
  refine V_open ok_PF_want_0 ?_
  refine B_iload_n rfl ?_
  refine B_ne (tgt := 12) (by decide) ?_ ?_
  · skip
    refine V_open ok_PF_want_12 ?_
    exact B_uret rfl
  · skip
    exact B_throw 32 rfl lx_PF_101 rfl (by decide) (by decide) ⟨rfl, Or.inr ⟨Or.inl rfl, _, rfl, nO_T⟩⟩

-- Panel_id
theorem ok_Panel_id_0 : okb prog_7_method_2_code 0 [(.sipush 1000, 3), (.aload_n 0, 1), (.getfield 32, 3), (.iadd, 1), (.ireturn, 1)] = true := by decide +kernel
set_option maxRecDepth 100000 in
def f_Panel_id (G : GT) (l0 : Nat) (M : PH) : Option (Int32 × PH) :=
  if hT M l0 = 7 then some ((1000 : Int32) + (hI M 1400 l0), M) else none
set_option maxRecDepth 100000 in
set_option maxHeartbeats 4000000 in
theorem s_Panel_id {G : GT} (l0 : Nat) (M : PH) : VX G mi_Panel_id 0 0 0 [some (.ref l0)] [] M qI (f_Panel_id G l0 M) := by
  unfold f_Panel_id
  refine V_open ok_Panel_id_0 ?_
  refine B_sipush (1000 : Int32) sp_1000 ?_
  refine B_aload_n rfl ?_
  refine B_chk (fun t1 => ?_)
  refine K_getI 7 0 1400 lf_Panel_32 rfl rfl t1 ?_
  refine B_iadd ?_
  exact B_iret rfl

-- Att_tell
theorem ok_Att_tell_0 : okb prog_2_method_6_code 0 [(.aload_n 0, 1), (.aload_n 0, 1), (.getfield 30, 3), (.ifCond .ne 11, 3), (.iload_n 1, 1), (.aload_n 0, 1), (.getfield 7, 3), (.if_icmp .ne 7, 3)] = true := by decide +kernel
theorem ok_Att_tell_16 : okb prog_2_method_6_code 16 [(.iconst 1, 1), (.goto 4, 3)] = true := by decide +kernel
theorem ok_Att_tell_20 : okb prog_2_method_6_code 20 [(.iconst 0, 1)] = true := by decide +kernel
theorem ok_Att_tell_21 : okb prog_2_method_6_code 21 [(.putfield 30, 3), (.aload_n 0, 1), (.aload_n 0, 1), (.getfield 33, 3), (.ifCond .ne 11, 3), (.iload_n 1, 1), (.aload_n 0, 1), (.getfield 36, 3), (.if_icmp .ne 7, 3)] = true := by decide +kernel
theorem ok_Att_tell_40 : okb prog_2_method_6_code 40 [(.iconst 1, 1), (.goto 4, 3)] = true := by decide +kernel
theorem ok_Att_tell_44 : okb prog_2_method_6_code 44 [(.iconst 0, 1), (.putfield 33, 3), (.return_, 1)] = true := by decide +kernel
theorem ok_Att_tell_45 : okb prog_2_method_6_code 45 [(.putfield 33, 3), (.return_, 1)] = true := by decide +kernel
set_option maxRecDepth 100000 in
def b_Att_tell_40 (G : GT) (s0 : Nat) (M : PH) : Option (PH) :=
  if hT M s0 = 9 then hb (sI M 1808 s0 (1 : Int32)) fun M3 => some M3 else none
set_option maxRecDepth 100000 in
set_option maxHeartbeats 4000000 in
theorem t_Att_tell_40 {G : GT} (s0 : Nat) (M : PH) : VX G mi_Att_tell 0 0 40 [none, none] [.ref s0] M qV (b_Att_tell_40 G s0 M) := by
  unfold b_Att_tell_40
  refine V_open ok_Att_tell_40 ?_
  refine B_iconst (1 : Int32) ic_1 ?_
  refine B_goto (tgt := 45) (by decide) ?_
  refine V_open ok_Att_tell_45 ?_
  refine B_chk (fun t1 => ?_)
  refine K_putZ 9 8 1808 lf_Att_33 rfl (Or.inl rfl) rfl t1 (Or.inr rfl) (fun M3 e2 => ?_)
  exact B_vret rfl
set_option maxRecDepth 100000 in
def b_Att_tell_21 (G : GT) (l0 : Nat) (l1 : Int32) (s0 : Nat) (s1 : Int32) (M : PH) : Option (PH) :=
  if hT M s0 = 9 then if s1 = 0 ∨ s1 = 1 then hb (sI M 1807 s0 s1) fun M4 => if hT M4 l0 = 9 then if ¬ hI M4 1808 l0 = 0 then (b_Att_tell_40 G l0 M4) else (if ¬ l1 = hI M4 1802 l0 then (hb (sI M4 1808 l0 (0 : Int32)) fun M7 => some M7) else (b_Att_tell_40 G l0 M4)) else none else none else none
set_option maxRecDepth 100000 in
set_option maxHeartbeats 4000000 in
theorem t_Att_tell_21 {G : GT} (l0 : Nat) (l1 : Int32) (s0 : Nat) (s1 : Int32) (M : PH) : VX G mi_Att_tell 0 0 21 [some (.ref l0), some (.int l1)] [.int s1, .ref s0] M qV (b_Att_tell_21 G l0 l1 s0 s1 M) := by
  unfold b_Att_tell_21
  refine V_open ok_Att_tell_21 ?_
  refine B_chk (fun t1 => ?_)
  refine B_chk (fun z3 => ?_)
  refine K_putZ 9 7 1807 lf_Att_30 rfl (Or.inl rfl) rfl t1 z3 (fun M4 e2 => ?_)
  refine B_aload_n rfl ?_
  refine B_aload_n rfl ?_
  refine B_chk (fun t5 => ?_)
  refine K_getI 9 8 1808 lf_Att_33 rfl rfl t5 ?_
  refine B_ne (tgt := 40) (by decide) ?_ ?_
  · skip
    exact V_weak (ls' := [none, none]) trivial (t_Att_tell_40 l0 M4)
  · skip
    refine B_iload_n rfl ?_
    refine B_aload_n rfl ?_
    refine K_getI 9 2 1802 lf_Att_36 rfl rfl t5 ?_
    refine B_ine (tgt := 44) (by decide) ?_ ?_
    · skip
      refine V_open ok_Att_tell_44 ?_
      refine B_iconst (0 : Int32) ic_0 ?_
      refine K_putZ 9 8 1808 lf_Att_33 rfl (Or.inl rfl) rfl t5 (Or.inl rfl) (fun M7 e6 => ?_)
      exact B_vret rfl
    · skip
      refine V_close ?_
      exact V_weak (ls' := [none, none]) trivial (t_Att_tell_40 l0 M4)
set_option maxRecDepth 100000 in
def b_Att_tell_16 (G : GT) (l0 : Nat) (l1 : Int32) (s0 : Nat) (M : PH) : Option (PH) :=
  b_Att_tell_21 G l0 l1 s0 (1 : Int32) M
set_option maxRecDepth 100000 in
set_option maxHeartbeats 4000000 in
theorem t_Att_tell_16 {G : GT} (l0 : Nat) (l1 : Int32) (s0 : Nat) (M : PH) : VX G mi_Att_tell 0 0 16 [some (.ref l0), some (.int l1)] [.ref s0] M qV (b_Att_tell_16 G l0 l1 s0 M) := by
  unfold b_Att_tell_16
  refine V_open ok_Att_tell_16 ?_
  refine B_iconst (1 : Int32) ic_1 ?_
  refine B_goto (tgt := 21) (by decide) ?_
  exact V_weak (ls' := [some (.ref l0), some (.int l1)]) ⟨rfl, ⟨rfl, trivial⟩⟩ (t_Att_tell_21 l0 l1 s0 (1 : Int32) M)
set_option maxRecDepth 100000 in
def f_Att_tell (G : GT) (l0 : Nat) (l1 : Int32) (M : PH) : Option (PH) :=
  if hT M l0 = 9 then if ¬ hI M 1807 l0 = 0 then (b_Att_tell_16 G l0 l1 l0 M) else (if ¬ l1 = hI M 1800 l0 then (b_Att_tell_21 G l0 l1 l0 (0 : Int32) M) else (b_Att_tell_16 G l0 l1 l0 M)) else none
set_option maxRecDepth 100000 in
set_option maxHeartbeats 4000000 in
theorem s_Att_tell {G : GT} (l0 : Nat) (l1 : Int32) (M : PH) : VX G mi_Att_tell 0 0 0 [some (.ref l0), some (.int l1)] [] M qV (f_Att_tell G l0 l1 M) := by
  unfold f_Att_tell
  refine V_open ok_Att_tell_0 ?_
  refine B_aload_n rfl ?_
  refine B_aload_n rfl ?_
  refine B_chk (fun t1 => ?_)
  refine K_getI 9 7 1807 lf_Att_30 rfl rfl t1 ?_
  refine B_ne (tgt := 16) (by decide) ?_ ?_
  · skip
    exact V_weak (ls' := [some (.ref l0), some (.int l1)]) ⟨rfl, ⟨rfl, trivial⟩⟩ (t_Att_tell_16 l0 l1 l0 M)
  · skip
    refine B_iload_n rfl ?_
    refine B_aload_n rfl ?_
    refine K_getI 9 0 1800 lf_Att_7 rfl rfl t1 ?_
    refine B_ine (tgt := 20) (by decide) ?_ ?_
    · skip
      refine V_open ok_Att_tell_20 ?_
      refine B_iconst (0 : Int32) ic_0 ?_
      refine V_close ?_
      exact V_weak (ls' := [some (.ref l0), some (.int l1)]) ⟨rfl, ⟨rfl, trivial⟩⟩ (t_Att_tell_21 l0 l1 l0 (0 : Int32) M)
    · skip
      refine V_close ?_
      exact V_weak (ls' := [some (.ref l0), some (.int l1)]) ⟨rfl, ⟨rfl, trivial⟩⟩ (t_Att_tell_16 l0 l1 l0 M)

-- Att_activate
theorem ok_Att_activate_0 : okb prog_2_method_5_code 0 [(.aload_n 0, 1), (.iload_n 1, 1), (.putfield 7, 3), (.aload_n 0, 1), (.iconst 1, 1), (.putfield 30, 3), (.return_, 1)] = true := by decide +kernel
set_option maxRecDepth 100000 in
def f_Att_activate (G : GT) (l0 : Nat) (l1 : Int32) (M : PH) : Option (PH) :=
  if hT M l0 = 9 then hb (sI M 1800 l0 l1) fun M3 => hb (sI M3 1807 l0 (1 : Int32)) fun M6 => some M6 else none
set_option maxRecDepth 100000 in
set_option maxHeartbeats 4000000 in
theorem s_Att_activate {G : GT} (l0 : Nat) (l1 : Int32) (M : PH) : VX G mi_Att_activate 0 0 0 [some (.ref l0), some (.int l1)] [] M qV (f_Att_activate G l0 l1 M) := by
  unfold f_Att_activate
  refine V_open ok_Att_activate_0 ?_
  refine B_aload_n rfl ?_
  refine B_iload_n rfl ?_
  refine B_chk (fun t1 => ?_)
  refine K_putI 9 0 1800 lf_Att_7 rfl (Or.inl rfl) rfl t1 (fun M3 e2 => ?_)
  refine B_aload_n rfl ?_
  refine B_iconst (1 : Int32) ic_1 ?_
  have h4 : hT M3 l0 = 9 := by rw [e2]; exact t1
  refine K_putZ 9 7 1807 lf_Att_30 rfl (Or.inl rfl) rfl h4 (Or.inr rfl) (fun M6 e5 => ?_)
  exact B_vret rfl
