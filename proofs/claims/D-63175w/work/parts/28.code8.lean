-- Mo_digits
theorem ok_Mo_digits_0 : okb prog_13_method_28_code 0 [(.iload_n 1, 1), (.bipush 99, 2), (.if_icmp .le 8, 3), (.bipush 100, 2), (.goto 15, 3)] = true := by decide +kernel
theorem ok_Mo_digits_11 : okb prog_13_method_28_code 11 [(.iload_n 1, 1), (.bipush 9, 2), (.if_icmp .le 8, 3), (.bipush 10, 2), (.goto 4, 3)] = true := by decide +kernel
theorem ok_Mo_digits_22 : okb prog_13_method_28_code 22 [(.iconst 1, 1)] = true := by decide +kernel
theorem ok_Mo_digits_23 : okb prog_13_method_28_code 23 [(.istore_n 2, 1), (.aload_n 0, 1), (.getfield 150, 3), (.iconst 0, 1), (.iaload, 1), (.iconst 2, 1), (.iadd, 1), (.istore_n 3, 1)] = true := by decide +kernel
theorem ok_Mo_digits_33 : okb prog_13_method_28_code 33 [(.iload_n 2, 1), (.ifCond .le 50, 3), (.aload_n 0, 1), (.iload_n 3, 1), (.aload_n 0, 1), (.getfield 150, 3), (.iconst 1, 1), (.iaload, 1), (.iconst 2, 1), (.iadd, 1), (.iload_n 3, 1), (.bipush 6, 2), (.iadd, 1), (.aload_n 0, 1), (.getfield 150, 3), (.iconst 1, 1), (.iaload, 1), (.bipush 10, 2), (.iadd, 1), (.bipush 6, 2), (.iconst 1, 1), (.iload_n 1, 1), (.iload_n 2, 1), (.idiv, 1), (.bipush 10, 2), (.irem, 1), (.iadd, 1), (.invokevirtual 320, 3), (.iinc 3 6, 3), (.iload_n 2, 1), (.bipush 10, 2), (.idiv, 1), (.istore_n 2, 1), (.goto (-48), 3)] = true := by decide +kernel
theorem ok_Mo_digits_84 : okb prog_13_method_28_code 84 [(.return_, 1)] = true := by decide +kernel
set_option maxRecDepth 100000 in
def b_Mo_digits_33 (G : GT) (k33 : Nat → Int32 → Int32 → Int32 → PH → Option (PH)) (l0 : Nat) (l1 : Int32) (l2 : Int32) (l3 : Int32) (M : PH) : Option (PH) :=
  if l2 ≤ 0 then (some M) else (if hT M l0 = 11 then (hR M 2273 l0).bind fun a2 => if hT M a2 = 16 then if 1 < hN M a2 then if 1 < hN M a2 then if l2 = 0 then none else if (10 : Int32) = 0 then none else bV (f_Mo_quadClipped G l0 l3 ((hA M a2 1) + (2 : Int32)) (l3 + (6 : Int32)) ((hA M a2 1) + (10 : Int32)) (6 : Int32) ((1 : Int32) + ((l1 / l2) - (l1 / l2) / (10 : Int32) * (10 : Int32))) M) fun M5 => (if (10 : Int32) = 0 then none else vb (l2 / (10 : Int32)) fun v6 => k33 l0 l1 v6 (l3 + (6 : Int32)) M5) else none else none else none else none)
set_option maxRecDepth 100000 in
set_option maxHeartbeats 4000000 in
theorem t_Mo_digits_33 {G : GT} {k33 : Nat → Int32 → Int32 → Int32 → PH → Option (PH)} (hk33 : ∀ (l0 : Nat) (l1 : Int32) (l2 : Int32) (l3 : Int32) (M : PH), VX G mi_Mo_digits 3 55 33 [some (.ref l0), some (.int l1), some (.int l2), some (.int l3)] [] M qV (k33 l0 l1 l2 l3 M)) (l0 : Nat) (l1 : Int32) (l2 : Int32) (l3 : Int32) (M : PH) : VX G mi_Mo_digits 3 55 33 [some (.ref l0), some (.int l1), some (.int l2), some (.int l3)] [] M qV (b_Mo_digits_33 G k33 l0 l1 l2 l3 M) := by
  unfold b_Mo_digits_33
  refine V_open ok_Mo_digits_33 ?_
  refine B_iload_n rfl ?_
  refine B_le (tgt := 84) (by decide) ?_ ?_
  · skip
    refine V_open ok_Mo_digits_84 ?_
    exact B_vret rfl
  · skip
    refine B_aload_n rfl ?_
    refine B_iload_n rfl ?_
    refine B_aload_n rfl ?_
    refine B_chk (fun t1 => ?_)
    refine K_getR 11 73 2273 lf_Mo_150 rfl rfl t1 (fun a2 r3 => ?_)
    refine B_iconst (1 : Int32) ic_1 ?_
    refine B_chk (fun t4 => ?_)
    refine K_ialdc 1 rfl t4 ?_
    refine B_iconst (2 : Int32) ic_2 ?_
    refine B_iadd ?_
    refine B_iload_n rfl ?_
    refine B_bipush (6 : Int32) bp_6 ?_
    refine B_iadd ?_
    refine B_aload_n rfl ?_
    refine K_getRk 11 73 2273 lf_Mo_150 rfl rfl t1 r3 ?_
    refine B_iconst (1 : Int32) ic_1 ?_
    refine K_ialdc 1 rfl t4 ?_
    refine B_bipush (10 : Int32) bp_10 ?_
    refine B_iadd ?_
    refine B_bipush (6 : Int32) bp_6 ?_
    refine B_iconst (1 : Int32) ic_1 ?_
    refine B_iload_n rfl ?_
    refine B_iload_n rfl ?_
    refine B_idiv ?_
    refine B_bipush (10 : Int32) bp_10 ?_
    refine B_irem ?_
    refine B_iadd ?_
    refine C_V (vs := [.ref l0, .int l3, .int ((hA M a2 1) + (2 : Int32)), .int (l3 + (6 : Int32)), .int ((hA M a2 1) + (10 : Int32)), .int (6 : Int32), .int ((1 : Int32) + ((l1 / l2) - (l1 / l2) / (10 : Int32) * (10 : Int32)))]) (st := []) (ci_V lv_Mo_320 rfl rfl t1) rfl rfl rfl (s_Mo_quadClipped l0 l3 ((hA M a2 1) + (2 : Int32)) (l3 + (6 : Int32)) ((hA M a2 1) + (10 : Int32)) (6 : Int32) ((1 : Int32) + ((l1 / l2) - (l1 / l2) / (10 : Int32) * (10 : Int32))) M) (fun M5 => ?_)
    refine S_inc (6 : Int32) [some (.ref l0), some (.int l1), some (.int l2), some (.int (l3 + (6 : Int32)))] ic_6 rfl (by decide) rfl ?_
    refine B_iload_n rfl ?_
    refine B_bipush (10 : Int32) bp_10 ?_
    refine B_idiv ?_
    refine B_vb (fun v6 => ?_)
    refine S_in [some (.ref l0), some (.int l1), some (.int v6), some (.int (l3 + (6 : Int32)))] (by decide) rfl ?_
    refine B_goto (tgt := 33) (by decide) ?_
    exact V_weak (ls' := [some (.ref l0), some (.int l1), some (.int v6), some (.int (l3 + (6 : Int32)))]) ⟨rfl, ⟨rfl, ⟨rfl, ⟨rfl, trivial⟩⟩⟩⟩ (hk33 l0 l1 v6 (l3 + (6 : Int32)) M5)
set_option maxRecDepth 100000 in
def w_Mo_digits_33 (G : GT) : Nat → Nat → Int32 → Int32 → Int32 → PH → Option (PH)
  | 0 => fun _ _ _ _ _ => none
  | n + 1 => b_Mo_digits_33 G (w_Mo_digits_33 G n)
set_option maxRecDepth 100000 in
set_option maxHeartbeats 4000000 in
theorem tw_Mo_digits_33 {G : GT} : ∀ (n : Nat) (l0 : Nat) (l1 : Int32) (l2 : Int32) (l3 : Int32) (M : PH), VX G mi_Mo_digits 3 55 33 [some (.ref l0), some (.int l1), some (.int l2), some (.int l3)] [] M qV (w_Mo_digits_33 G n l0 l1 l2 l3 M)
  | 0, _, _, _, _, _ => X_none
  | n + 1, l0, l1, l2, l3, M => t_Mo_digits_33 (tw_Mo_digits_33 n) l0 l1 l2 l3 M
set_option maxRecDepth 100000 in
def b_Mo_digits_23 (G : GT) (l0 : Nat) (l1 : Int32) (s0 : Int32) (M : PH) : Option (PH) :=
  if hT M l0 = 11 then (hR M 2273 l0).bind fun a2 => if hT M a2 = 16 then if 0 < hN M a2 then vb ((hA M a2 0) + (2 : Int32)) fun v5 => w_Mo_digits_33 G FU l0 l1 s0 v5 M else none else none else none
set_option maxRecDepth 100000 in
set_option maxHeartbeats 4000000 in
theorem t_Mo_digits_23 {G : GT} (l0 : Nat) (l1 : Int32) (s0 : Int32) (M : PH) : VX G mi_Mo_digits 3 55 23 [some (.ref l0), some (.int l1), none, none] [.int s0] M qV (b_Mo_digits_23 G l0 l1 s0 M) := by
  unfold b_Mo_digits_23
  refine V_open ok_Mo_digits_23 ?_
  refine S_in [some (.ref l0), some (.int l1), some (.int s0), none] (by decide) rfl ?_
  refine B_aload_n rfl ?_
  refine B_chk (fun t1 => ?_)
  refine K_getR 11 73 2273 lf_Mo_150 rfl rfl t1 (fun a2 r3 => ?_)
  refine B_iconst (0 : Int32) ic_0 ?_
  refine B_chk (fun t4 => ?_)
  refine K_ialdc 0 rfl t4 ?_
  refine B_iconst (2 : Int32) ic_2 ?_
  refine B_iadd ?_
  refine B_vb (fun v5 => ?_)
  refine S_in [some (.ref l0), some (.int l1), some (.int s0), some (.int v5)] (by decide) rfl ?_
  refine V_close ?_
  exact V_weak (ls' := [some (.ref l0), some (.int l1), some (.int s0), some (.int v5)]) ⟨rfl, ⟨rfl, ⟨rfl, ⟨rfl, trivial⟩⟩⟩⟩ (tw_Mo_digits_33 FU l0 l1 s0 v5 M)
set_option maxRecDepth 100000 in
def f_Mo_digits (G : GT) (l0 : Nat) (l1 : Int32) (M : PH) : Option (PH) :=
  if l1 ≤ (99 : Int32) then (if l1 ≤ (9 : Int32) then (b_Mo_digits_23 G l0 l1 (1 : Int32) M) else (b_Mo_digits_23 G l0 l1 (10 : Int32) M)) else (b_Mo_digits_23 G l0 l1 (100 : Int32) M)
set_option maxRecDepth 100000 in
set_option maxHeartbeats 4000000 in
theorem s_Mo_digits {G : GT} (l0 : Nat) (l1 : Int32) (M : PH) : VX G mi_Mo_digits 3 55 0 [some (.ref l0), some (.int l1), none, none] [] M qV (f_Mo_digits G l0 l1 M) := by
  unfold f_Mo_digits
  refine V_open ok_Mo_digits_0 ?_
  refine B_iload_n rfl ?_
  refine B_bipush (99 : Int32) bp_99 ?_
  refine B_ile (tgt := 11) (by decide) ?_ ?_
  · skip
    refine V_open ok_Mo_digits_11 ?_
    refine B_iload_n rfl ?_
    refine B_bipush (9 : Int32) bp_9 ?_
    refine B_ile (tgt := 22) (by decide) ?_ ?_
    · skip
      refine V_open ok_Mo_digits_22 ?_
      refine B_iconst (1 : Int32) ic_1 ?_
      refine V_close ?_
      exact V_weak (ls' := [some (.ref l0), some (.int l1), none, none]) ⟨rfl, ⟨rfl, trivial⟩⟩ (t_Mo_digits_23 l0 l1 (1 : Int32) M)
    · skip
      refine B_bipush (10 : Int32) bp_10 ?_
      refine B_goto (tgt := 23) (by decide) ?_
      exact V_weak (ls' := [some (.ref l0), some (.int l1), none, none]) ⟨rfl, ⟨rfl, trivial⟩⟩ (t_Mo_digits_23 l0 l1 (10 : Int32) M)
  · skip
    refine B_bipush (100 : Int32) bp_100 ?_
    refine B_goto (tgt := 23) (by decide) ?_
    exact V_weak (ls' := [some (.ref l0), some (.int l1), none, none]) ⟨rfl, ⟨rfl, trivial⟩⟩ (t_Mo_digits_23 l0 l1 (100 : Int32) M)

-- Mo_button
theorem ok_Mo_button_0 : okb prog_13_method_52_code 0 [(.aload_n 0, 1), (.aload_n 0, 1), (.iload_n 1, 1), (.invokevirtual 343, 3), (.ifCond .eq 19, 3), (.iload_n 2, 1), (.iconst 1, 1), (.if_icmp .lt 14, 3), (.iload_n 2, 1), (.sipush 200, 3), (.if_icmp .gt 7, 3), (.iconst 1, 1), (.goto 4, 3)] = true := by decide +kernel
theorem ok_Mo_button_25 : okb prog_13_method_52_code 25 [(.iconst 0, 1)] = true := by decide +kernel
theorem ok_Mo_button_26 : okb prog_13_method_52_code 26 [(.invokevirtual 371, 3), (.ifCond .eq 5, 3), (.iconst 0, 1), (.ireturn, 1)] = true := by decide +kernel
theorem ok_Mo_button_34 : okb prog_13_method_52_code 34 [(.aload_n 0, 1), (.iload_n 1, 1), (.iload_n 2, 1), (.bipush 12, 2), (.invokevirtual 375, 3), (.istore_n 3, 1), (.aload_n 0, 1), (.iload_n 3, 1), (.invokevirtual 378, 3), (.istore 4, 2), (.aload_n 0, 1), (.iload_n 3, 1), (.invokevirtual 381, 3), (.aload_n 0, 1), (.iload_n 1, 1), (.invokevirtual 384, 3), (.iload 4, 2), (.ireturn, 1)] = true := by decide +kernel
set_option maxRecDepth 100000 in
def b_Mo_button_26 (G : GT) (l0 : Nat) (l1 : Int32) (l2 : Int32) (s0 : Nat) (s1 : Int32) (M : PH) : Option (Int32 × PH) :=
  if hT M s0 = 11 then bI (f_Mo_bars G s0 s1 M) fun v3 M2 => (if v3 = 0 then (if hT M2 l0 = 11 then bI (f_Mo_lay G l0 l1 l2 (12 : Int32) M2) fun v6 M5 => (if hT M5 l0 = 11 then bI (f_Mo_behaves G l0 v6 M5) fun v9 M8 => (if hT M8 l0 = 11 then bV (f_Mo_shape G l0 v6 M8) fun M11 => (if hT M11 l0 = 11 then bV (f_Mo_digits G l0 l1 M11) fun M13 => (if v9 = 0 ∨ v9 = 1 then some (v9, M13) else none) else none) else none) else none) else none) else (some ((0 : Int32), M2))) else none
set_option maxRecDepth 100000 in
set_option maxHeartbeats 4000000 in
theorem t_Mo_button_26 {G : GT} (l0 : Nat) (l1 : Int32) (l2 : Int32) (s0 : Nat) (s1 : Int32) (M : PH) : VX G mi_Mo_button 4 70 26 [some (.ref l0), some (.int l1), some (.int l2), none, none] [.int s1, .ref s0] M qI (b_Mo_button_26 G l0 l1 l2 s0 s1 M) := by
  unfold b_Mo_button_26
  refine V_open ok_Mo_button_26 ?_
  refine B_chk (fun t1 => ?_)
  refine C_I (vs := [.ref s0, .int s1]) (st := []) (ci_V lv_Mo_371 rfl rfl t1) rfl rfl rfl (s_Mo_bars s0 s1 M) (fun v3 M2 => ?_)
  refine B_eq (tgt := 34) (by decide) ?_ ?_
  · skip
    refine V_open ok_Mo_button_34 ?_
    refine B_aload_n rfl ?_
    refine B_iload_n rfl ?_
    refine B_iload_n rfl ?_
    refine B_bipush (12 : Int32) bp_12 ?_
    refine B_chk (fun t4 => ?_)
    refine C_I (vs := [.ref l0, .int l1, .int l2, .int (12 : Int32)]) (st := []) (ci_V lv_Mo_375 rfl rfl t4) rfl rfl rfl (s_Mo_lay l0 l1 l2 (12 : Int32) M2) (fun v6 M5 => ?_)
    refine S_in [some (.ref l0), some (.int l1), some (.int l2), some (.int v6), none] (by decide) rfl ?_
    refine B_aload_n rfl ?_
    refine B_iload_n rfl ?_
    refine B_chk (fun t7 => ?_)
    refine C_I (vs := [.ref l0, .int v6]) (st := []) (ci_V lv_Mo_378 rfl rfl t7) rfl rfl rfl (s_Mo_behaves l0 v6 M5) (fun v9 M8 => ?_)
    refine S_i [some (.ref l0), some (.int l1), some (.int l2), some (.int v6), some (.int v9)] (by decide) rfl ?_
    refine B_aload_n rfl ?_
    refine B_iload_n rfl ?_
    refine B_chk (fun t10 => ?_)
    refine C_V (vs := [.ref l0, .int v6]) (st := []) (ci_V lv_Mo_381 rfl rfl t10) rfl rfl rfl (s_Mo_shape l0 v6 M8) (fun M11 => ?_)
    refine B_aload_n rfl ?_
    refine B_iload_n rfl ?_
    refine B_chk (fun t12 => ?_)
    refine C_V (vs := [.ref l0, .int l1]) (st := []) (ci_V lv_Mo_384 rfl rfl t12) rfl rfl rfl (s_Mo_digits l0 l1 M11) (fun M13 => ?_)
    refine B_iload rfl ?_
    refine B_chk (fun z14 => ?_)
    exact Z_ret rfl z14
  · skip
    refine B_iconst (0 : Int32) ic_0 ?_
    exact Z_ret rfl (Or.inl rfl)
set_option maxRecDepth 100000 in
def b_Mo_button_25 (G : GT) (l0 : Nat) (l1 : Int32) (l2 : Int32) (s0 : Nat) (M : PH) : Option (Int32 × PH) :=
  b_Mo_button_26 G l0 l1 l2 s0 (0 : Int32) M
set_option maxRecDepth 100000 in
set_option maxHeartbeats 4000000 in
theorem t_Mo_button_25 {G : GT} (l0 : Nat) (l1 : Int32) (l2 : Int32) (s0 : Nat) (M : PH) : VX G mi_Mo_button 4 70 25 [some (.ref l0), some (.int l1), some (.int l2), none, none] [.ref s0] M qI (b_Mo_button_25 G l0 l1 l2 s0 M) := by
  unfold b_Mo_button_25
  refine V_open ok_Mo_button_25 ?_
  refine B_iconst (0 : Int32) ic_0 ?_
  refine V_close ?_
  exact V_weak (ls' := [some (.ref l0), some (.int l1), some (.int l2), none, none]) ⟨rfl, ⟨rfl, ⟨rfl, trivial⟩⟩⟩ (t_Mo_button_26 l0 l1 l2 s0 (0 : Int32) M)
set_option maxRecDepth 100000 in
def f_Mo_button (G : GT) (l0 : Nat) (l1 : Int32) (l2 : Int32) (M : PH) : Option (Int32 × PH) :=
  if hT M l0 = 11 then bI (f_Mo_isLabel G l0 l1 M) fun v3 M2 => (if v3 = 0 then (b_Mo_button_25 G l0 l1 l2 l0 M2) else (if l2 < (1 : Int32) then (b_Mo_button_25 G l0 l1 l2 l0 M2) else (if (200 : Int32) < l2 then (b_Mo_button_25 G l0 l1 l2 l0 M2) else (b_Mo_button_26 G l0 l1 l2 l0 (1 : Int32) M2)))) else none
set_option maxRecDepth 100000 in
set_option maxHeartbeats 4000000 in
theorem s_Mo_button {G : GT} (l0 : Nat) (l1 : Int32) (l2 : Int32) (M : PH) : VX G mi_Mo_button 4 70 0 [some (.ref l0), some (.int l1), some (.int l2), none, none] [] M qI (f_Mo_button G l0 l1 l2 M) := by
  unfold f_Mo_button
  refine V_open ok_Mo_button_0 ?_
  refine B_aload_n rfl ?_
  refine B_aload_n rfl ?_
  refine B_iload_n rfl ?_
  refine B_chk (fun t1 => ?_)
  refine C_I (vs := [.ref l0, .int l1]) (st := [.ref l0]) (ci_V lv_Mo_343 rfl rfl t1) rfl rfl rfl (s_Mo_isLabel l0 l1 M) (fun v3 M2 => ?_)
  refine B_eq (tgt := 25) (by decide) ?_ ?_
  · skip
    exact V_weak (ls' := [some (.ref l0), some (.int l1), some (.int l2), none, none]) ⟨rfl, ⟨rfl, ⟨rfl, trivial⟩⟩⟩ (t_Mo_button_25 l0 l1 l2 l0 M2)
  · skip
    refine B_iload_n rfl ?_
    refine B_iconst (1 : Int32) ic_1 ?_
    refine B_ilt (tgt := 25) (by decide) ?_ ?_
    · skip
      exact V_weak (ls' := [some (.ref l0), some (.int l1), some (.int l2), none, none]) ⟨rfl, ⟨rfl, ⟨rfl, trivial⟩⟩⟩ (t_Mo_button_25 l0 l1 l2 l0 M2)
    · skip
      refine B_iload_n rfl ?_
      refine B_sipush (200 : Int32) sp_200 ?_
      refine B_igt (tgt := 25) (by decide) ?_ ?_
      · skip
        exact V_weak (ls' := [some (.ref l0), some (.int l1), some (.int l2), none, none]) ⟨rfl, ⟨rfl, ⟨rfl, trivial⟩⟩⟩ (t_Mo_button_25 l0 l1 l2 l0 M2)
      · skip
        refine B_iconst (1 : Int32) ic_1 ?_
        refine B_goto (tgt := 26) (by decide) ?_
        exact V_weak (ls' := [some (.ref l0), some (.int l1), some (.int l2), none, none]) ⟨rfl, ⟨rfl, ⟨rfl, trivial⟩⟩⟩ (t_Mo_button_26 l0 l1 l2 l0 (1 : Int32) M2)

-- Store_slot
theorem ok_Store_slot_0 : okb prog_11_method_2_code 0 [(.iload_n 1, 1), (.iload_n 1, 1), (.bipush 15, 2), (.iushr, 1), (.ixor, 1), (.bipush 73, 2), (.imul, 1), (.iconst 3, 1), (.iushr, 1), (.bipush 63, 2), (.iand, 1), (.istore_n 2, 1)] = true := by decide +kernel
theorem ok_Store_slot_15 : okb prog_11_method_2_code 15 [(.aload_n 0, 1), (.getfield 11, 3), (.iload_n 2, 1), (.iaload, 1), (.ifCond .eq 23, 3), (.aload_n 0, 1), (.getfield 11, 3), (.iload_n 2, 1), (.iaload, 1), (.iload_n 1, 1), (.if_icmp .eq 13, 3), (.iload_n 2, 1), (.iconst 1, 1), (.iadd, 1), (.bipush 63, 2), (.iand, 1), (.istore_n 2, 1), (.goto (-26), 3)] = true := by decide +kernel
theorem ok_Store_slot_44 : okb prog_11_method_2_code 44 [(.iload_n 2, 1), (.ireturn, 1)] = true := by decide +kernel
set_option maxRecDepth 100000 in
def b_Store_slot_15 (G : GT) (k15 : Nat → Int32 → Int32 → PH → Option (Int32 × PH)) (l0 : Nat) (l1 : Int32) (l2 : Int32) (M : PH) : Option (Int32 × PH) :=
  if hT M l0 = 3 then (hR M 600 l0).bind fun a2 => if hT M a2 = 16 then if ib l2 (hN M a2) = true then if hA M a2 l2.toNatClampNeg = 0 then (some (l2, M)) else (if ib l2 (hN M a2) = true then if hA M a2 l2.toNatClampNeg = l1 then (some (l2, M)) else (vb ((l2 + (1 : Int32)) &&& (63 : Int32)) fun v5 => k15 l0 l1 v5 M) else none) else none else none else none
set_option maxRecDepth 100000 in
set_option maxHeartbeats 4000000 in
theorem t_Store_slot_15 {G : GT} {k15 : Nat → Int32 → Int32 → PH → Option (Int32 × PH)} (hk15 : ∀ (l0 : Nat) (l1 : Int32) (l2 : Int32) (M : PH), VX G mi_Store_slot 0 0 15 [some (.ref l0), some (.int l1), some (.int l2)] [] M qI (k15 l0 l1 l2 M)) (l0 : Nat) (l1 : Int32) (l2 : Int32) (M : PH) : VX G mi_Store_slot 0 0 15 [some (.ref l0), some (.int l1), some (.int l2)] [] M qI (b_Store_slot_15 G k15 l0 l1 l2 M) := by
  unfold b_Store_slot_15
  refine V_open ok_Store_slot_15 ?_
  refine B_aload_n rfl ?_
  refine B_chk (fun t1 => ?_)
  refine K_getR 3 0 600 lf_Store_11 rfl rfl t1 (fun a2 r3 => ?_)
  refine B_iload_n rfl ?_
  refine B_chk (fun t4 => ?_)
  refine K_iald t4 ?_
  refine B_eq (tgt := 44) (by decide) ?_ ?_
  · skip
    refine V_open ok_Store_slot_44 ?_
    refine B_iload_n rfl ?_
    exact B_iret rfl
  · skip
    refine B_aload_n rfl ?_
    refine K_getRk 3 0 600 lf_Store_11 rfl rfl t1 r3 ?_
    refine B_iload_n rfl ?_
    refine K_iald t4 ?_
    refine B_iload_n rfl ?_
    refine B_ieq (tgt := 44) (by decide) ?_ ?_
    · skip
      refine V_open ok_Store_slot_44 ?_
      refine B_iload_n rfl ?_
      exact B_iret rfl
    · skip
      refine B_iload_n rfl ?_
      refine B_iconst (1 : Int32) ic_1 ?_
      refine B_iadd ?_
      refine B_bipush (63 : Int32) bp_63 ?_
      refine B_iand ?_
      refine B_vb (fun v5 => ?_)
      refine S_in [some (.ref l0), some (.int l1), some (.int v5)] (by decide) rfl ?_
      refine B_goto (tgt := 15) (by decide) ?_
      exact V_weak (ls' := [some (.ref l0), some (.int l1), some (.int v5)]) ⟨rfl, ⟨rfl, ⟨rfl, trivial⟩⟩⟩ (hk15 l0 l1 v5 M)
set_option maxRecDepth 100000 in
def w_Store_slot_15 (G : GT) : Nat → Nat → Int32 → Int32 → PH → Option (Int32 × PH)
  | 0 => fun _ _ _ _ => none
  | n + 1 => b_Store_slot_15 G (w_Store_slot_15 G n)
set_option maxRecDepth 100000 in
set_option maxHeartbeats 4000000 in
theorem tw_Store_slot_15 {G : GT} : ∀ (n : Nat) (l0 : Nat) (l1 : Int32) (l2 : Int32) (M : PH), VX G mi_Store_slot 0 0 15 [some (.ref l0), some (.int l1), some (.int l2)] [] M qI (w_Store_slot_15 G n l0 l1 l2 M)
  | 0, _, _, _, _ => X_none
  | n + 1, l0, l1, l2, M => t_Store_slot_15 (tw_Store_slot_15 n) l0 l1 l2 M
set_option maxRecDepth 100000 in
def f_Store_slot (G : GT) (l0 : Nat) (l1 : Int32) (M : PH) : Option (Int32 × PH) :=
  vb (((((l1 ^^^ ((l1.toUInt32 >>> ((15 : Int32).toUInt32 &&& Int32.toUInt32 31)).toInt32)) * (73 : Int32)).toUInt32 >>> ((3 : Int32).toUInt32 &&& Int32.toUInt32 31)).toInt32) &&& (63 : Int32)) fun v1 => w_Store_slot_15 G FU l0 l1 v1 M
set_option maxRecDepth 100000 in
set_option maxHeartbeats 4000000 in
theorem s_Store_slot {G : GT} (l0 : Nat) (l1 : Int32) (M : PH) : VX G mi_Store_slot 0 0 0 [some (.ref l0), some (.int l1), none] [] M qI (f_Store_slot G l0 l1 M) := by
  unfold f_Store_slot
  refine V_open ok_Store_slot_0 ?_
  refine B_iload_n rfl ?_
  refine B_iload_n rfl ?_
  refine B_bipush (15 : Int32) bp_15 ?_
  refine B_iushr ?_
  refine B_ixor ?_
  refine B_bipush (73 : Int32) bp_73 ?_
  refine B_imul ?_
  refine B_iconst (3 : Int32) ic_3 ?_
  refine B_iushr ?_
  refine B_bipush (63 : Int32) bp_63 ?_
  refine B_iand ?_
  refine B_vb (fun v1 => ?_)
  refine S_in [some (.ref l0), some (.int l1), some (.int v1)] (by decide) rfl ?_
  refine V_close ?_
  exact V_weak (ls' := [some (.ref l0), some (.int l1), some (.int v1)]) ⟨rfl, ⟨rfl, ⟨rfl, trivial⟩⟩⟩ (tw_Store_slot_15 FU l0 l1 v1 M)

-- Store_find
theorem ok_Store_find_0 : okb prog_11_method_3_code 0 [(.aload_n 0, 1), (.iload_n 1, 1), (.invokevirtual 28, 3), (.istore_n 2, 1), (.iload_n 1, 1), (.ifCond .eq 17, 3), (.aload_n 0, 1), (.getfield 11, 3), (.iload_n 2, 1), (.iaload, 1), (.iload_n 1, 1), (.if_icmp .ne 7, 3), (.iload_n 2, 1), (.goto 4, 3)] = true := by decide +kernel
theorem ok_Store_find_24 : okb prog_11_method_3_code 24 [(.iconst (-1), 1), (.ireturn, 1)] = true := by decide +kernel
theorem ok_Store_find_25 : okb prog_11_method_3_code 25 [(.ireturn, 1)] = true := by decide +kernel
set_option maxRecDepth 100000 in
def f_Store_find (G : GT) (l0 : Nat) (l1 : Int32) (M : PH) : Option (Int32 × PH) :=
  if hT M l0 = 3 then bI (f_Store_slot G l0 l1 M) fun v3 M2 => (if l1 = 0 then (some ((-1 : Int32), M2)) else (if hT M2 l0 = 3 then (hR M2 600 l0).bind fun a5 => if hT M2 a5 = 16 then if ib v3 (hN M2 a5) = true then if ¬ hA M2 a5 v3.toNatClampNeg = l1 then (some ((-1 : Int32), M2)) else (some (v3, M2)) else none else none else none)) else none
set_option maxRecDepth 100000 in
set_option maxHeartbeats 4000000 in
theorem s_Store_find {G : GT} (l0 : Nat) (l1 : Int32) (M : PH) : VX G mi_Store_find 1 14 0 [some (.ref l0), some (.int l1), none] [] M qI (f_Store_find G l0 l1 M) := by
  unfold f_Store_find
  refine V_open ok_Store_find_0 ?_
  refine B_aload_n rfl ?_
  refine B_iload_n rfl ?_
  refine B_chk (fun t1 => ?_)
  refine C_I (vs := [.ref l0, .int l1]) (st := []) (ci_V lv_Store_28 rfl rfl t1) rfl rfl rfl (s_Store_slot l0 l1 M) (fun v3 M2 => ?_)
  refine S_in [some (.ref l0), some (.int l1), some (.int v3)] (by decide) rfl ?_
  refine B_iload_n rfl ?_
  refine B_eq (tgt := 24) (by decide) ?_ ?_
  · skip
    refine V_open ok_Store_find_24 ?_
    refine B_iconst (-1 : Int32) ic_m1 ?_
    exact B_iret rfl
  · skip
    refine B_aload_n rfl ?_
    refine B_chk (fun t4 => ?_)
    refine K_getR 3 0 600 lf_Store_11 rfl rfl t4 (fun a5 r6 => ?_)
    refine B_iload_n rfl ?_
    refine B_chk (fun t7 => ?_)
    refine K_iald t7 ?_
    refine B_iload_n rfl ?_
    refine B_ine (tgt := 24) (by decide) ?_ ?_
    · skip
      refine V_open ok_Store_find_24 ?_
      refine B_iconst (-1 : Int32) ic_m1 ?_
      exact B_iret rfl
    · skip
      refine B_iload_n rfl ?_
      refine B_goto (tgt := 25) (by decide) ?_
      refine V_open ok_Store_find_25 ?_
      exact B_iret rfl

-- Store_number
theorem ok_Store_number_0 : okb prog_11_method_5_code 0 [(.aload_n 0, 1), (.iload_n 1, 1), (.invokevirtual 36, 3), (.istore_n 2, 1), (.iload_n 2, 1), (.ifCond .ge 7, 3), (.iconst 0, 1), (.goto 9, 3)] = true := by decide +kernel
theorem ok_Store_number_14 : okb prog_11_method_5_code 14 [(.aload_n 0, 1), (.getfield 15, 3), (.iload_n 2, 1), (.iaload, 1), (.ireturn, 1)] = true := by decide +kernel
theorem ok_Store_number_20 : okb prog_11_method_5_code 20 [(.ireturn, 1)] = true := by decide +kernel
set_option maxRecDepth 100000 in
def f_Store_number (G : GT) (l0 : Nat) (l1 : Int32) (M : PH) : Option (Int32 × PH) :=
  if hT M l0 = 3 then bI (f_Store_find G l0 l1 M) fun v3 M2 => (if 0 ≤ v3 then (if hT M2 l0 = 3 then (hR M2 601 l0).bind fun a5 => if hT M2 a5 = 16 then if ib v3 (hN M2 a5) = true then some (hA M2 a5 v3.toNatClampNeg, M2) else none else none else none) else (some ((0 : Int32), M2))) else none
set_option maxRecDepth 100000 in
set_option maxHeartbeats 4000000 in
theorem s_Store_number {G : GT} (l0 : Nat) (l1 : Int32) (M : PH) : VX G mi_Store_number 2 28 0 [some (.ref l0), some (.int l1), none] [] M qI (f_Store_number G l0 l1 M) := by
  unfold f_Store_number
  refine V_open ok_Store_number_0 ?_
  refine B_aload_n rfl ?_
  refine B_iload_n rfl ?_
  refine B_chk (fun t1 => ?_)
  refine C_I (vs := [.ref l0, .int l1]) (st := []) (ci_V lv_Store_36 rfl rfl t1) rfl rfl rfl (s_Store_find l0 l1 M) (fun v3 M2 => ?_)
  refine S_in [some (.ref l0), some (.int l1), some (.int v3)] (by decide) rfl ?_
  refine B_iload_n rfl ?_
  refine B_ge (tgt := 14) (by decide) ?_ ?_
  · skip
    refine V_open ok_Store_number_14 ?_
    refine B_aload_n rfl ?_
    refine B_chk (fun t4 => ?_)
    refine K_getR 3 1 601 lf_Store_15 rfl rfl t4 (fun a5 r6 => ?_)
    refine B_iload_n rfl ?_
    refine B_chk (fun t7 => ?_)
    refine K_iald t7 ?_
    exact B_iret rfl
  · skip
    refine B_iconst (0 : Int32) ic_0 ?_
    refine B_goto (tgt := 20) (by decide) ?_
    refine V_open ok_Store_number_20 ?_
    exact B_iret rfl

-- Store_make
theorem ok_Store_make_0 : okb prog_11_method_4_code 0 [(.aload_n 0, 1), (.iload_n 1, 1), (.invokevirtual 28, 3), (.istore_n 2, 1), (.aload_n 0, 1), (.getfield 11, 3), (.iload_n 2, 1), (.iaload, 1), (.iload_n 1, 1), (.if_icmp .ne 5, 3), (.iload_n 2, 1), (.ireturn, 1)] = true := by decide +kernel
theorem ok_Store_make_18 : okb prog_11_method_4_code 18 [(.aload_n 0, 1), (.getfield 32, 3), (.bipush 40, 2), (.if_icmp .ne 5, 3), (.iconst (-1), 1), (.ireturn, 1)] = true := by decide +kernel
theorem ok_Store_make_29 : okb prog_11_method_4_code 29 [(.aload_n 0, 1), (.getfield 11, 3), (.iload_n 2, 1), (.iload_n 1, 1), (.iastore, 1), (.aload_n 0, 1), (.dup, 1), (.getfield 32, 3), (.iconst 1, 1), (.iadd, 1), (.putfield 32, 3), (.iload_n 2, 1), (.ireturn, 1)] = true := by decide +kernel
set_option maxRecDepth 100000 in
def f_Store_make (G : GT) (l0 : Nat) (l1 : Int32) (M : PH) : Option (Int32 × PH) :=
  if hT M l0 = 3 then bI (f_Store_slot G l0 l1 M) fun v3 M2 => (if hT M2 l0 = 3 then (hR M2 600 l0).bind fun a5 => if hT M2 a5 = 16 then if ib v3 (hN M2 a5) = true then if ¬ hA M2 a5 v3.toNatClampNeg = l1 then (if ¬ hI M2 605 l0 = (40 : Int32) then (if ib v3 (hN M2 a5) = true then hb (sA M2 a5 v3.toNatClampNeg l1) fun M9 => (hb (sI M9 605 l0 ((hI M9 605 l0) + (1 : Int32))) fun M12 => some (v3, M12)) else none) else (some ((-1 : Int32), M2))) else (some (v3, M2)) else none else none else none) else none
set_option maxRecDepth 100000 in
set_option maxHeartbeats 4000000 in
theorem s_Store_make {G : GT} (l0 : Nat) (l1 : Int32) (M : PH) : VX G mi_Store_make 1 14 0 [some (.ref l0), some (.int l1), none] [] M qI (f_Store_make G l0 l1 M) := by
  unfold f_Store_make
  refine V_open ok_Store_make_0 ?_
  refine B_aload_n rfl ?_
  refine B_iload_n rfl ?_
  refine B_chk (fun t1 => ?_)
  refine C_I (vs := [.ref l0, .int l1]) (st := []) (ci_V lv_Store_28 rfl rfl t1) rfl rfl rfl (s_Store_slot l0 l1 M) (fun v3 M2 => ?_)
  refine S_in [some (.ref l0), some (.int l1), some (.int v3)] (by decide) rfl ?_
  refine B_aload_n rfl ?_
  refine B_chk (fun t4 => ?_)
  refine K_getR 3 0 600 lf_Store_11 rfl rfl t4 (fun a5 r6 => ?_)
  refine B_iload_n rfl ?_
  refine B_chk (fun t7 => ?_)
  refine K_iald t7 ?_
  refine B_iload_n rfl ?_
  refine B_ine (tgt := 18) (by decide) ?_ ?_
  · skip
    refine V_open ok_Store_make_18 ?_
    refine B_aload_n rfl ?_
    refine K_getI 3 5 605 lf_Store_32 rfl rfl t4 ?_
    refine B_bipush (40 : Int32) bp_40 ?_
    refine B_ine (tgt := 29) (by decide) ?_ ?_
    · skip
      refine V_open ok_Store_make_29 ?_
      refine B_aload_n rfl ?_
      refine K_getRk 3 0 600 lf_Store_11 rfl rfl t4 r6 ?_
      refine B_iload_n rfl ?_
      refine B_iload_n rfl ?_
      refine K_iast t7 (fun M9 e8 => ?_)
      refine B_aload_n rfl ?_
      refine B_dup rfl ?_
      have h10 : hT M9 l0 = 3 := by rw [e8]; exact t4
      refine K_getI 3 5 605 lf_Store_32 rfl rfl h10 ?_
      refine B_iconst (1 : Int32) ic_1 ?_
      refine B_iadd ?_
      refine K_putI 3 5 605 lf_Store_32 rfl (Or.inl rfl) rfl h10 (fun M12 e11 => ?_)
      refine B_iload_n rfl ?_
      exact B_iret rfl
    · skip
      refine B_iconst (-1 : Int32) ic_m1 ?_
      exact B_iret rfl
  · skip
    refine B_iload_n rfl ?_
    exact B_iret rfl

-- Store_put
theorem ok_Store_put_0 : okb prog_11_method_6_code 0 [(.iload_n 2, 1), (.ifCond .ne 11, 3), (.aload_n 0, 1), (.iload_n 1, 1), (.invokevirtual 36, 3), (.goto 8, 3)] = true := by decide +kernel
theorem ok_Store_put_12 : okb prog_11_method_6_code 12 [(.aload_n 0, 1), (.iload_n 1, 1), (.invokevirtual 39, 3)] = true := by decide +kernel
theorem ok_Store_put_17 : okb prog_11_method_6_code 17 [(.istore_n 3, 1), (.iload_n 3, 1), (.ifCond .lt 10, 3), (.aload_n 0, 1), (.getfield 15, 3), (.iload_n 3, 1), (.iload_n 2, 1), (.iastore, 1), (.return_, 1)] = true := by decide +kernel
theorem ok_Store_put_29 : okb prog_11_method_6_code 29 [(.return_, 1)] = true := by decide +kernel
set_option maxRecDepth 100000 in
def b_Store_put_17 (G : GT) (l0 : Nat) (l2 : Int32) (s0 : Int32) (M : PH) : Option (PH) :=
  if s0 < 0 then (some M) else (if hT M l0 = 3 then (hR M 601 l0).bind fun a2 => if hT M a2 = 16 then if ib s0 (hN M a2) = true then hb (sA M a2 s0.toNatClampNeg l2) fun M6 => (some M6) else none else none else none)
set_option maxRecDepth 100000 in
set_option maxHeartbeats 4000000 in
theorem t_Store_put_17 {G : GT} (l0 : Nat) (l2 : Int32) (s0 : Int32) (M : PH) : VX G mi_Store_put 2 28 17 [some (.ref l0), none, some (.int l2), none] [.int s0] M qV (b_Store_put_17 G l0 l2 s0 M) := by
  unfold b_Store_put_17
  refine V_open ok_Store_put_17 ?_
  refine S_in [some (.ref l0), none, some (.int l2), some (.int s0)] (by decide) rfl ?_
  refine B_iload_n rfl ?_
  refine B_lt (tgt := 29) (by decide) ?_ ?_
  · skip
    refine V_open ok_Store_put_29 ?_
    exact B_vret rfl
  · skip
    refine B_aload_n rfl ?_
    refine B_chk (fun t1 => ?_)
    refine K_getR 3 1 601 lf_Store_15 rfl rfl t1 (fun a2 r3 => ?_)
    refine B_iload_n rfl ?_
    refine B_iload_n rfl ?_
    refine B_chk (fun t4 => ?_)
    refine K_iast t4 (fun M6 e5 => ?_)
    exact B_vret rfl
set_option maxRecDepth 100000 in
def f_Store_put (G : GT) (l0 : Nat) (l1 : Int32) (l2 : Int32) (M : PH) : Option (PH) :=
  if ¬ l2 = 0 then (if hT M l0 = 3 then bI (f_Store_make G l0 l1 M) fun v3 M2 => (b_Store_put_17 G l0 l2 v3 M2) else none) else (if hT M l0 = 3 then bI (f_Store_find G l0 l1 M) fun v6 M5 => (b_Store_put_17 G l0 l2 v6 M5) else none)
set_option maxRecDepth 100000 in
set_option maxHeartbeats 4000000 in
theorem s_Store_put {G : GT} (l0 : Nat) (l1 : Int32) (l2 : Int32) (M : PH) : VX G mi_Store_put 2 28 0 [some (.ref l0), some (.int l1), some (.int l2), none] [] M qV (f_Store_put G l0 l1 l2 M) := by
  unfold f_Store_put
  refine V_open ok_Store_put_0 ?_
  refine B_iload_n rfl ?_
  refine B_ne (tgt := 12) (by decide) ?_ ?_
  · skip
    refine V_open ok_Store_put_12 ?_
    refine B_aload_n rfl ?_
    refine B_iload_n rfl ?_
    refine B_chk (fun t1 => ?_)
    refine C_I (vs := [.ref l0, .int l1]) (st := []) (ci_V lv_Store_39 rfl rfl t1) rfl rfl rfl (s_Store_make l0 l1 M) (fun v3 M2 => ?_)
    refine V_close ?_
    exact V_weak (ls' := [some (.ref l0), none, some (.int l2), none]) ⟨rfl, ⟨rfl, trivial⟩⟩ (t_Store_put_17 l0 l2 v3 M2)
  · skip
    refine B_aload_n rfl ?_
    refine B_iload_n rfl ?_
    refine B_chk (fun t4 => ?_)
    refine C_I (vs := [.ref l0, .int l1]) (st := []) (ci_V lv_Store_36 rfl rfl t4) rfl rfl rfl (s_Store_find l0 l1 M) (fun v6 M5 => ?_)
    refine B_goto (tgt := 17) (by decide) ?_
    exact V_weak (ls' := [some (.ref l0), none, some (.int l2), none]) ⟨rfl, ⟨rfl, trivial⟩⟩ (t_Store_put_17 l0 l2 v6 M5)

-- PF_flip
theorem ok_PF_flip_0 : okb prog_1_method_36_code 0 [(.iload_n 2, 1), (.ifCond .eq 27, 3), (.aload_n 0, 1), (.getfield 19, 3), (.iload_n 1, 1), (.aload_n 0, 1), (.getfield 19, 3), (.iload_n 1, 1), (.invokevirtual 391, 3), (.ifCond .eq 7, 3), (.iconst 0, 1), (.goto 4, 3)] = true := by decide +kernel
theorem ok_PF_flip_24 : okb prog_1_method_36_code 24 [(.iconst 1, 1)] = true := by decide +kernel
theorem ok_PF_flip_25 : okb prog_1_method_36_code 25 [(.invokevirtual 393, 3), (.return_, 1)] = true := by decide +kernel
theorem ok_PF_flip_28 : okb prog_1_method_36_code 28 [(.return_, 1)] = true := by decide +kernel
set_option maxRecDepth 100000 in
def b_PF_flip_25 (G : GT) (s0 : Nat) (s1 : Int32) (s2 : Int32) (M : PH) : Option (PH) :=
  if hT M s0 = 3 then bV (f_Store_put G s0 s1 s2 M) fun M2 => (some M2) else none
set_option maxRecDepth 100000 in
set_option maxHeartbeats 4000000 in
theorem t_PF_flip_25 {G : GT} (s0 : Nat) (s1 : Int32) (s2 : Int32) (M : PH) : VX G mi_PF_flip 3 44 25 [none, none, none] [.int s2, .int s1, .ref s0] M qV (b_PF_flip_25 G s0 s1 s2 M) := by
  unfold b_PF_flip_25
  refine V_open ok_PF_flip_25 ?_
  refine B_chk (fun t1 => ?_)
  refine C_V (vs := [.ref s0, .int s1, .int s2]) (st := []) (ci_V lv_PF_393 rfl rfl t1) rfl rfl rfl (s_Store_put s0 s1 s2 M) (fun M2 => ?_)
  exact B_vret rfl
set_option maxRecDepth 100000 in
def f_PF_flip (G : GT) (l0 : Nat) (l1 : Int32) (l2 : Int32) (M : PH) : Option (PH) :=
  if l2 = 0 then (some M) else (if hT M l0 = 10 then (hR M 2001 l0).bind fun a2 => if hT M a2 = 3 then bI (f_Store_number G a2 l1 M) fun v6 M5 => (if v6 = 0 then (b_PF_flip_25 G a2 l1 (1 : Int32) M5) else (b_PF_flip_25 G a2 l1 (0 : Int32) M5)) else none else none)
set_option maxRecDepth 100000 in
set_option maxHeartbeats 4000000 in
theorem s_PF_flip {G : GT} (l0 : Nat) (l1 : Int32) (l2 : Int32) (M : PH) : VX G mi_PF_flip 3 44 0 [some (.ref l0), some (.int l1), some (.int l2)] [] M qV (f_PF_flip G l0 l1 l2 M) := by
  unfold f_PF_flip
  refine V_open ok_PF_flip_0 ?_
  refine B_iload_n rfl ?_
  refine B_eq (tgt := 28) (by decide) ?_ ?_
  · skip
    refine V_open ok_PF_flip_28 ?_
    exact B_vret rfl
  · skip
    refine B_aload_n rfl ?_
    refine B_chk (fun t1 => ?_)
    refine K_getR 10 1 2001 lf_PF_19 rfl rfl t1 (fun a2 r3 => ?_)
    refine B_iload_n rfl ?_
    refine B_aload_n rfl ?_
    refine K_getRk 10 1 2001 lf_PF_19 rfl rfl t1 r3 ?_
    refine B_iload_n rfl ?_
    refine B_chk (fun t4 => ?_)
    refine C_I (vs := [.ref a2, .int l1]) (st := [.int l1, .ref a2]) (ci_V lv_PF_391 rfl rfl t4) rfl rfl rfl (s_Store_number a2 l1 M) (fun v6 M5 => ?_)
    refine B_eq (tgt := 24) (by decide) ?_ ?_
    · skip
      refine V_open ok_PF_flip_24 ?_
      refine B_iconst (1 : Int32) ic_1 ?_
      refine V_close ?_
      exact V_weak (ls' := [none, none, none]) trivial (t_PF_flip_25 a2 l1 (1 : Int32) M5)
    · skip
      refine B_iconst (0 : Int32) ic_0 ?_
      refine B_goto (tgt := 25) (by decide) ?_
      exact V_weak (ls' := [none, none, none]) trivial (t_PF_flip_25 a2 l1 (0 : Int32) M5)

-- PF_check
theorem ok_PF_check_0 : okb prog_1_method_37_code 0 [(.aload_n 0, 1), (.iload_n 1, 1), (.bipush 12, 2), (.iconst 1, 1), (.invokevirtual 374, 3), (.aload_n 0, 1), (.iload_n 1, 1), (.invokevirtual 378, 3), (.istore_n 2, 1), (.aload_n 0, 1), (.iload_n 2, 1), (.aload_n 0, 1), (.iload_n 2, 1), (.bipush 12, 2), (.invokevirtual 382, 3), (.invokevirtual 395, 3), (.aload_n 0, 1), (.iload_n 2, 1), (.invokevirtual 385, 3), (.aload_n 0, 1), (.getfield 19, 3), (.iload_n 2, 1), (.invokevirtual 391, 3), (.ireturn, 1)] = true := by decide +kernel
set_option maxRecDepth 100000 in
def f_PF_check (G : GT) (l0 : Nat) (l1 : Int32) (M : PH) : Option (Nat × Int32 × PH) :=
  if hT M l0 = 10 then bT (f_PF_wantItem G l0 l1 (12 : Int32) (1 : Int32) M) fun M2 => (if hT M2 l0 = 10 then bI (f_PF_idOf G l0 l1 M2) fun v5 M4 => (if hT M4 l0 = 10 then bI (f_PF_behave G l0 v5 (12 : Int32) M4) fun v8 M7 => (if hT M7 l0 = 10 then bV (f_PF_flip G l0 v5 v8 M7) fun M10 => (if hT M10 l0 = 10 then bV (f_PF_draw G l0 v5 M10) fun M12 => (if hT M12 l0 = 10 then (hR M12 2001 l0).bind fun a14 => if hT M12 a14 = 3 then bI (f_Store_number G a14 v5 M12) fun v18 M17 => (some (0, v18, M17)) else none else none) else none) else none) else none) else none) else none
set_option maxRecDepth 100000 in
set_option maxHeartbeats 4000000 in
theorem s_PF_check {G : GT} (l0 : Nat) (l1 : Int32) (M : PH) : VX G mi_PF_check 8 109 0 [some (.ref l0), some (.int l1), none] [] M qT (f_PF_check G l0 l1 M) := by
  unfold f_PF_check
  refine V_open ok_PF_check_0 ?_
  refine B_aload_n rfl ?_
  refine B_iload_n rfl ?_
  refine B_bipush (12 : Int32) bp_12 ?_
  refine B_iconst (1 : Int32) ic_1 ?_
  refine B_chk (fun t1 => ?_)
  refine C_T (vs := [.ref l0, .int l1, .int (12 : Int32), .int (1 : Int32)]) (st := []) rfl (ci_V lv_PF_374 rfl rfl t1) rfl rfl rfl (s_PF_wantItem l0 l1 (12 : Int32) (1 : Int32) M) (fun M2 => ?_)
  refine B_aload_n rfl ?_
  refine B_iload_n rfl ?_
  refine B_chk (fun t3 => ?_)
  refine C_I (vs := [.ref l0, .int l1]) (st := []) (ci_V lv_PF_378 rfl rfl t3) rfl rfl rfl (s_PF_idOf l0 l1 M2) (fun v5 M4 => ?_)
  refine S_in [some (.ref l0), some (.int l1), some (.int v5)] (by decide) rfl ?_
  refine B_aload_n rfl ?_
  refine B_iload_n rfl ?_
  refine B_aload_n rfl ?_
  refine B_iload_n rfl ?_
  refine B_bipush (12 : Int32) bp_12 ?_
  refine B_chk (fun t6 => ?_)
  refine C_I (vs := [.ref l0, .int v5, .int (12 : Int32)]) (st := [.int v5, .ref l0]) (ci_V lv_PF_382 rfl rfl t6) rfl rfl rfl (s_PF_behave l0 v5 (12 : Int32) M4) (fun v8 M7 => ?_)
  refine B_chk (fun t9 => ?_)
  refine C_V (vs := [.ref l0, .int v5, .int v8]) (st := []) (ci_V lv_PF_395 rfl rfl t9) rfl rfl rfl (s_PF_flip l0 v5 v8 M7) (fun M10 => ?_)
  refine B_aload_n rfl ?_
  refine B_iload_n rfl ?_
  refine B_chk (fun t11 => ?_)
  refine C_V (vs := [.ref l0, .int v5]) (st := []) (ci_V lv_PF_385 rfl rfl t11) rfl rfl rfl (s_PF_draw l0 v5 M10) (fun M12 => ?_)
  refine B_aload_n rfl ?_
  refine B_chk (fun t13 => ?_)
  refine K_getR 10 1 2001 lf_PF_19 rfl rfl t13 (fun a14 r15 => ?_)
  refine B_iload_n rfl ?_
  refine B_chk (fun t16 => ?_)
  refine C_I (vs := [.ref a14, .int v5]) (st := []) (ci_V lv_PF_391 rfl rfl t16) rfl rfl rfl (s_Store_number a14 v5 M12) (fun v18 M17 => ?_)
  exact B_tret rfl

-- Law_check
theorem ok_Law_check_0 : okb method_10_code 0 [(.aload_n 2, 1), (.iconst 0, 1), (.aload_n 0, 1), (.iload_n 1, 1), (.invokevirtual 39, 3), (.i2l, 1), (.lastore, 1), (.goto 9, 3)] = true := by decide +kernel
theorem ok_Law_check_12 : okb method_10_code 12 [(.astore_n 3, 1), (.iconst 1, 1), (.ireturn, 1)] = true := by decide +kernel
theorem ok_Law_check_15 : okb method_10_code 15 [(.astore_n 3, 1), (.iconst 2, 1), (.ireturn, 1)] = true := by decide +kernel
theorem ok_Law_check_18 : okb method_10_code 18 [(.iconst 0, 1), (.ireturn, 1)] = true := by decide +kernel
set_option maxRecDepth 100000 in
def f_Law_check (G : GT) (l0 : Nat) (l1 : Int32) (l2 : Nat) (M : PH) : Option (Int32 × PH) :=
  if hT M l0 = 10 then bH2 (f_PF_check G l0 l1 M) (fun v3 M2 => if hT M2 l2 = 19 then if 0 < hN M2 l2 then hb (sL M2 l2 0 v3.toInt64) fun M6 => (some ((0 : Int32), M6)) else none else none) (fun M2 => some ((1 : Int32), M2)) (fun M2 => some ((2 : Int32), M2)) else none
set_option maxRecDepth 100000 in
set_option maxHeartbeats 4000000 in
theorem s_Law_check {G : GT} (l0 : Nat) (l1 : Int32) (l2 : Nat) (M : PH) : VX G mi_Law_check 9 125 0 [some (.ref l0), some (.int l1), some (.ref l2), none] [] M qI (f_Law_check G l0 l1 l2 M) := by
  unfold f_Law_check
  refine V_open ok_Law_check_0 ?_
  refine B_aload_n rfl ?_
  refine B_iconst (0 : Int32) ic_0 ?_
  refine B_aload_n rfl ?_
  refine B_iload_n rfl ?_
  refine B_chk (fun t1 => ?_)
  refine C_H2 (vs := [.ref l0, .int l1]) (st := [.int (0 : Int32), .ref l2]) 9 12 22 15 13 (by decide) rfl lh_Law_22 lh_Law_13 (ci_V lv_Law_39 rfl rfl t1) rfl rfl rfl (s_PF_check l0 l1 M) (fun v3 M2 => ?_) (fun ah M2 => ?_) (fun ah M2 => ?_)
  · skip
    refine B_i2l ?_
    refine B_chk (fun t4 => ?_)
    refine K_lastc 0 rfl t4 (fun M6 e5 => ?_)
    refine B_goto (tgt := 18) (by decide) ?_
    refine V_open ok_Law_check_18 ?_
    refine B_iconst (0 : Int32) ic_0 ?_
    exact B_iret rfl
  · skip
    refine V_open ok_Law_check_12 ?_
    refine S_an [some (.ref l0), some (.int l1), some (.ref l2), some (.ref ah)] (by decide) rfl ?_
    refine B_iconst (1 : Int32) ic_1 ?_
    exact B_iret rfl
  · skip
    refine V_open ok_Law_check_15 ?_
    refine S_an [some (.ref l0), some (.int l1), some (.ref l2), some (.ref ah)] (by decide) rfl ?_
    refine B_iconst (2 : Int32) ic_2 ?_
    exact B_iret rfl

-- Mo_find
theorem ok_Mo_find_0 : okb prog_13_method_47_code 0 [(.iconst 0, 1), (.istore_n 2, 1)] = true := by decide +kernel
theorem ok_Mo_find_2 : okb prog_13_method_47_code 2 [(.iload_n 2, 1), (.aload_n 0, 1), (.getfield 362, 3), (.if_icmp .ge 21, 3), (.aload_n 0, 1), (.getfield 153, 3), (.iload_n 2, 1), (.iaload, 1), (.iload_n 1, 1), (.if_icmp .ne 5, 3), (.iload_n 2, 1), (.ireturn, 1)] = true := by decide +kernel
theorem ok_Mo_find_22 : okb prog_13_method_47_code 22 [(.iinc 2 1, 3), (.goto (-23), 3)] = true := by decide +kernel
theorem ok_Mo_find_28 : okb prog_13_method_47_code 28 [(.iconst (-1), 1), (.ireturn, 1)] = true := by decide +kernel
set_option maxRecDepth 100000 in
def b_Mo_find_2 (G : GT) (k2 : Nat → Int32 → Int32 → PH → Option (Int32 × PH)) (l0 : Nat) (l1 : Int32) (l2 : Int32) (M : PH) : Option (Int32 × PH) :=
  if hT M l0 = 11 then if hI M 2279 l0 ≤ l2 then (some ((-1 : Int32), M)) else ((hR M 2274 l0).bind fun a2 => if hT M a2 = 16 then if ib l2 (hN M a2) = true then if ¬ hA M a2 l2.toNatClampNeg = l1 then (k2 l0 l1 (l2 + (1 : Int32)) M) else (some (l2, M)) else none else none) else none
set_option maxRecDepth 100000 in
set_option maxHeartbeats 4000000 in
theorem t_Mo_find_2 {G : GT} {k2 : Nat → Int32 → Int32 → PH → Option (Int32 × PH)} (hk2 : ∀ (l0 : Nat) (l1 : Int32) (l2 : Int32) (M : PH), VX G mi_Mo_find 0 0 2 [some (.ref l0), some (.int l1), some (.int l2)] [] M qI (k2 l0 l1 l2 M)) (l0 : Nat) (l1 : Int32) (l2 : Int32) (M : PH) : VX G mi_Mo_find 0 0 2 [some (.ref l0), some (.int l1), some (.int l2)] [] M qI (b_Mo_find_2 G k2 l0 l1 l2 M) := by
  unfold b_Mo_find_2
  refine V_open ok_Mo_find_2 ?_
  refine B_iload_n rfl ?_
  refine B_aload_n rfl ?_
  refine B_chk (fun t1 => ?_)
  refine K_getI 11 79 2279 lf_Mo_362 rfl rfl t1 ?_
  refine B_ige (tgt := 28) (by decide) ?_ ?_
  · skip
    refine V_open ok_Mo_find_28 ?_
    refine B_iconst (-1 : Int32) ic_m1 ?_
    exact B_iret rfl
  · skip
    refine B_aload_n rfl ?_
    refine K_getR 11 74 2274 lf_Mo_153 rfl rfl t1 (fun a2 r3 => ?_)
    refine B_iload_n rfl ?_
    refine B_chk (fun t4 => ?_)
    refine K_iald t4 ?_
    refine B_iload_n rfl ?_
    refine B_ine (tgt := 22) (by decide) ?_ ?_
    · skip
      refine V_open ok_Mo_find_22 ?_
      refine S_inc (1 : Int32) [some (.ref l0), some (.int l1), some (.int (l2 + (1 : Int32)))] ic_1 rfl (by decide) rfl ?_
      refine B_goto (tgt := 2) (by decide) ?_
      exact V_weak (ls' := [some (.ref l0), some (.int l1), some (.int (l2 + (1 : Int32)))]) ⟨rfl, ⟨rfl, ⟨rfl, trivial⟩⟩⟩ (hk2 l0 l1 (l2 + (1 : Int32)) M)
    · skip
      refine B_iload_n rfl ?_
      exact B_iret rfl
set_option maxRecDepth 100000 in
def w_Mo_find_2 (G : GT) : Nat → Nat → Int32 → Int32 → PH → Option (Int32 × PH)
  | 0 => fun _ _ _ _ => none
  | n + 1 => b_Mo_find_2 G (w_Mo_find_2 G n)
set_option maxRecDepth 100000 in
set_option maxHeartbeats 4000000 in
theorem tw_Mo_find_2 {G : GT} : ∀ (n : Nat) (l0 : Nat) (l1 : Int32) (l2 : Int32) (M : PH), VX G mi_Mo_find 0 0 2 [some (.ref l0), some (.int l1), some (.int l2)] [] M qI (w_Mo_find_2 G n l0 l1 l2 M)
  | 0, _, _, _, _ => X_none
  | n + 1, l0, l1, l2, M => t_Mo_find_2 (tw_Mo_find_2 n) l0 l1 l2 M
set_option maxRecDepth 100000 in
def f_Mo_find (G : GT) (l0 : Nat) (l1 : Int32) (M : PH) : Option (Int32 × PH) :=
  w_Mo_find_2 G FU l0 l1 (0 : Int32) M
set_option maxRecDepth 100000 in
set_option maxHeartbeats 4000000 in
theorem s_Mo_find {G : GT} (l0 : Nat) (l1 : Int32) (M : PH) : VX G mi_Mo_find 0 0 0 [some (.ref l0), some (.int l1), none] [] M qI (f_Mo_find G l0 l1 M) := by
  unfold f_Mo_find
  refine V_open ok_Mo_find_0 ?_
  refine B_iconst (0 : Int32) ic_0 ?_
  refine S_in [some (.ref l0), some (.int l1), some (.int (0 : Int32))] (by decide) rfl ?_
  refine V_close ?_
  exact V_weak (ls' := [some (.ref l0), some (.int l1), some (.int (0 : Int32))]) ⟨rfl, ⟨rfl, ⟨rfl, trivial⟩⟩⟩ (tw_Mo_find_2 FU l0 l1 (0 : Int32) M)

-- Mo_numberOf
theorem ok_Mo_numberOf_0 : okb prog_13_method_49_code 0 [(.aload_n 0, 1), (.iload_n 1, 1), (.invokevirtual 365, 3), (.iconst (-1), 1), (.if_icmp .ne 7, 3), (.iconst 0, 1), (.goto 13, 3)] = true := by decide +kernel
theorem ok_Mo_numberOf_13 : okb prog_13_method_49_code 13 [(.aload_n 0, 1), (.getfield 156, 3), (.aload_n 0, 1), (.iload_n 1, 1), (.invokevirtual 365, 3), (.iaload, 1), (.ireturn, 1)] = true := by decide +kernel
theorem ok_Mo_numberOf_23 : okb prog_13_method_49_code 23 [(.ireturn, 1)] = true := by decide +kernel
set_option maxRecDepth 100000 in
def f_Mo_numberOf (G : GT) (l0 : Nat) (l1 : Int32) (M : PH) : Option (Int32 × PH) :=
  if hT M l0 = 11 then bI (f_Mo_find G l0 l1 M) fun v3 M2 => (if ¬ v3 = (-1 : Int32) then (if hT M2 l0 = 11 then (hR M2 2275 l0).bind fun a5 => bI (f_Mo_find G l0 l1 M2) fun v8 M7 => (if hT M7 a5 = 16 then if ib v8 (hN M7 a5) = true then some (hA M7 a5 v8.toNatClampNeg, M7) else none else none) else none) else (some ((0 : Int32), M2))) else none
set_option maxRecDepth 100000 in
set_option maxHeartbeats 4000000 in
theorem s_Mo_numberOf {G : GT} (l0 : Nat) (l1 : Int32) (M : PH) : VX G mi_Mo_numberOf 1 15 0 [some (.ref l0), some (.int l1)] [] M qI (f_Mo_numberOf G l0 l1 M) := by
  unfold f_Mo_numberOf
  refine V_open ok_Mo_numberOf_0 ?_
  refine B_aload_n rfl ?_
  refine B_iload_n rfl ?_
  refine B_chk (fun t1 => ?_)
  refine C_I (vs := [.ref l0, .int l1]) (st := []) (ci_V lv_Mo_365 rfl rfl t1) rfl rfl rfl (s_Mo_find l0 l1 M) (fun v3 M2 => ?_)
  refine B_iconst (-1 : Int32) ic_m1 ?_
  refine B_ine (tgt := 13) (by decide) ?_ ?_
  · skip
    refine V_open ok_Mo_numberOf_13 ?_
    refine B_aload_n rfl ?_
    refine B_chk (fun t4 => ?_)
    refine K_getR 11 75 2275 lf_Mo_156 rfl rfl t4 (fun a5 r6 => ?_)
    refine B_aload_n rfl ?_
    refine B_iload_n rfl ?_
    refine C_I (vs := [.ref l0, .int l1]) (st := [.ref a5]) (ci_V lv_Mo_365 rfl rfl t4) rfl rfl rfl (s_Mo_find l0 l1 M2) (fun v8 M7 => ?_)
    refine B_chk (fun t9 => ?_)
    refine K_iald t9 ?_
    exact B_iret rfl
  · skip
    refine B_iconst (0 : Int32) ic_0 ?_
    refine B_goto (tgt := 23) (by decide) ?_
    refine V_open ok_Mo_numberOf_23 ?_
    exact B_iret rfl

-- Mo_made
theorem ok_Mo_made_0 : okb prog_13_method_48_code 0 [(.aload_n 0, 1), (.iload_n 1, 1), (.invokevirtual 365, 3), (.istore_n 2, 1), (.iload_n 2, 1), (.iconst (-1), 1), (.if_icmp .ne 12, 3), (.aload_n 0, 1), (.getfield 362, 3), (.bipush 40, 2), (.if_icmp .ne 5, 3), (.iload_n 2, 1), (.ireturn, 1)] = true := by decide +kernel
theorem ok_Mo_made_20 : okb prog_13_method_48_code 20 [(.iload_n 2, 1), (.ireturn, 1)] = true := by decide +kernel
theorem ok_Mo_made_22 : okb prog_13_method_48_code 22 [(.aload_n 0, 1), (.getfield 153, 3), (.aload_n 0, 1), (.getfield 362, 3), (.iload_n 1, 1), (.iastore, 1), (.aload_n 0, 1), (.getfield 156, 3), (.aload_n 0, 1), (.getfield 362, 3), (.iconst 0, 1), (.iastore, 1), (.aload_n 0, 1), (.getfield 162, 3), (.aload_n 0, 1), (.getfield 362, 3), (.iconst 0, 1), (.iastore, 1), (.aload_n 0, 1), (.getfield 165, 3), (.aload_n 0, 1), (.getfield 362, 3), (.iconst 0, 1), (.iastore, 1), (.aload_n 0, 1), (.dup, 1), (.getfield 362, 3), (.iconst 1, 1), (.iadd, 1), (.putfield 362, 3), (.aload_n 0, 1), (.getfield 362, 3), (.iconst 1, 1), (.isub, 1), (.ireturn, 1)] = true := by decide +kernel
set_option maxRecDepth 100000 in
def f_Mo_made (G : GT) (l0 : Nat) (l1 : Int32) (M : PH) : Option (Int32 × PH) :=
  if hT M l0 = 11 then bI (f_Mo_find G l0 l1 M) fun v3 M2 => (if ¬ v3 = (-1 : Int32) then (some (v3, M2)) else (if hT M2 l0 = 11 then if ¬ hI M2 2279 l0 = (40 : Int32) then ((hR M2 2274 l0).bind fun a5 => if hT M2 a5 = 16 then if ib (hI M2 2279 l0) (hN M2 a5) = true then hb (sA M2 a5 (hI M2 2279 l0).toNatClampNeg l1) fun M9 => ((hR M9 2275 l0).bind fun a11 => if hT M9 a11 = 16 then if ib (hI M9 2279 l0) (hN M9 a11) = true then hb (sA M9 a11 (hI M9 2279 l0).toNatClampNeg (0 : Int32)) fun M15 => ((hR M15 2277 l0).bind fun a17 => if hT M15 a17 = 16 then if ib (hI M15 2279 l0) (hN M15 a17) = true then hb (sA M15 a17 (hI M15 2279 l0).toNatClampNeg (0 : Int32)) fun M21 => ((hR M21 2278 l0).bind fun a23 => if hT M21 a23 = 16 then if ib (hI M21 2279 l0) (hN M21 a23) = true then hb (sA M21 a23 (hI M21 2279 l0).toNatClampNeg (0 : Int32)) fun M27 => (hb (sI M27 2279 l0 ((hI M27 2279 l0) + (1 : Int32))) fun M30 => some ((hI M30 2279 l0) - (1 : Int32), M30)) else none else none) else none else none) else none else none) else none else none) else (some (v3, M2)) else none)) else none
set_option maxRecDepth 100000 in
set_option maxHeartbeats 4000000 in
theorem s_Mo_made {G : GT} (l0 : Nat) (l1 : Int32) (M : PH) : VX G mi_Mo_made 1 14 0 [some (.ref l0), some (.int l1), none] [] M qI (f_Mo_made G l0 l1 M) := by
  unfold f_Mo_made
  refine V_open ok_Mo_made_0 ?_
  refine B_aload_n rfl ?_
  refine B_iload_n rfl ?_
  refine B_chk (fun t1 => ?_)
  refine C_I (vs := [.ref l0, .int l1]) (st := []) (ci_V lv_Mo_365 rfl rfl t1) rfl rfl rfl (s_Mo_find l0 l1 M) (fun v3 M2 => ?_)
  refine S_in [some (.ref l0), some (.int l1), some (.int v3)] (by decide) rfl ?_
  refine B_iload_n rfl ?_
  refine B_iconst (-1 : Int32) ic_m1 ?_
  refine B_ine (tgt := 20) (by decide) ?_ ?_
  · skip
    refine V_open ok_Mo_made_20 ?_
    refine B_iload_n rfl ?_
    exact B_iret rfl
  · skip
    refine B_aload_n rfl ?_
    refine B_chk (fun t4 => ?_)
    refine K_getI 11 79 2279 lf_Mo_362 rfl rfl t4 ?_
    refine B_bipush (40 : Int32) bp_40 ?_
    refine B_ine (tgt := 22) (by decide) ?_ ?_
    · skip
      refine V_open ok_Mo_made_22 ?_
      refine B_aload_n rfl ?_
      refine K_getR 11 74 2274 lf_Mo_153 rfl rfl t4 (fun a5 r6 => ?_)
      refine B_aload_n rfl ?_
      refine K_getI 11 79 2279 lf_Mo_362 rfl rfl t4 ?_
      refine B_iload_n rfl ?_
      refine B_chk (fun t7 => ?_)
      refine K_iast t7 (fun M9 e8 => ?_)
      refine B_aload_n rfl ?_
      have h10 : hT M9 l0 = 11 := by rw [e8]; exact t4
      refine K_getR 11 75 2275 lf_Mo_156 rfl rfl h10 (fun a11 r12 => ?_)
      refine B_aload_n rfl ?_
      refine K_getI 11 79 2279 lf_Mo_362 rfl rfl h10 ?_
      refine B_iconst (0 : Int32) ic_0 ?_
      refine B_chk (fun t13 => ?_)
      refine K_iast t13 (fun M15 e14 => ?_)
      refine B_aload_n rfl ?_
      have h16 : hT M15 l0 = 11 := by rw [e14]; exact h10
      refine K_getR 11 77 2277 lf_Mo_162 rfl rfl h16 (fun a17 r18 => ?_)
      refine B_aload_n rfl ?_
      refine K_getI 11 79 2279 lf_Mo_362 rfl rfl h16 ?_
      refine B_iconst (0 : Int32) ic_0 ?_
      refine B_chk (fun t19 => ?_)
      refine K_iast t19 (fun M21 e20 => ?_)
      refine B_aload_n rfl ?_
      have h22 : hT M21 l0 = 11 := by rw [e20]; exact h16
      refine K_getR 11 78 2278 lf_Mo_165 rfl rfl h22 (fun a23 r24 => ?_)
      refine B_aload_n rfl ?_
      refine K_getI 11 79 2279 lf_Mo_362 rfl rfl h22 ?_
      refine B_iconst (0 : Int32) ic_0 ?_
      refine B_chk (fun t25 => ?_)
      refine K_iast t25 (fun M27 e26 => ?_)
      refine B_aload_n rfl ?_
      refine B_dup rfl ?_
      have h28 : hT M27 l0 = 11 := by rw [e26]; exact h22
      refine K_getI 11 79 2279 lf_Mo_362 rfl rfl h28 ?_
      refine B_iconst (1 : Int32) ic_1 ?_
      refine B_iadd ?_
      refine K_putI 11 79 2279 lf_Mo_362 rfl (Or.inl rfl) rfl h28 (fun M30 e29 => ?_)
      refine B_aload_n rfl ?_
      have h31 : hT M30 l0 = 11 := by rw [e29]; exact h28
      refine K_getI 11 79 2279 lf_Mo_362 rfl rfl h31 ?_
      refine B_iconst (1 : Int32) ic_1 ?_
      refine B_isub ?_
      exact B_iret rfl
    · skip
      refine B_iload_n rfl ?_
      exact B_iret rfl

-- Mo_keep
theorem ok_Mo_keep_0 : okb prog_13_method_50_code 0 [(.iload_n 2, 1), (.ifCond .ne 11, 3), (.aload_n 0, 1), (.iload_n 1, 1), (.invokevirtual 365, 3), (.goto 8, 3)] = true := by decide +kernel
theorem ok_Mo_keep_12 : okb prog_13_method_50_code 12 [(.aload_n 0, 1), (.iload_n 1, 1), (.invokevirtual 368, 3)] = true := by decide +kernel
theorem ok_Mo_keep_17 : okb prog_13_method_50_code 17 [(.istore_n 3, 1), (.iload_n 3, 1), (.iconst (-1), 1), (.if_icmp .eq 10, 3), (.aload_n 0, 1), (.getfield 156, 3), (.iload_n 3, 1), (.iload_n 2, 1), (.iastore, 1), (.return_, 1)] = true := by decide +kernel
theorem ok_Mo_keep_30 : okb prog_13_method_50_code 30 [(.return_, 1)] = true := by decide +kernel
set_option maxRecDepth 100000 in
def b_Mo_keep_17 (G : GT) (l0 : Nat) (l2 : Int32) (s0 : Int32) (M : PH) : Option (PH) :=
  if s0 = (-1 : Int32) then (some M) else (if hT M l0 = 11 then (hR M 2275 l0).bind fun a2 => if hT M a2 = 16 then if ib s0 (hN M a2) = true then hb (sA M a2 s0.toNatClampNeg l2) fun M6 => (some M6) else none else none else none)
set_option maxRecDepth 100000 in
set_option maxHeartbeats 4000000 in
theorem t_Mo_keep_17 {G : GT} (l0 : Nat) (l2 : Int32) (s0 : Int32) (M : PH) : VX G mi_Mo_keep 2 28 17 [some (.ref l0), none, some (.int l2), none] [.int s0] M qV (b_Mo_keep_17 G l0 l2 s0 M) := by
  unfold b_Mo_keep_17
  refine V_open ok_Mo_keep_17 ?_
  refine S_in [some (.ref l0), none, some (.int l2), some (.int s0)] (by decide) rfl ?_
  refine B_iload_n rfl ?_
  refine B_iconst (-1 : Int32) ic_m1 ?_
  refine B_ieq (tgt := 30) (by decide) ?_ ?_
  · skip
    refine V_open ok_Mo_keep_30 ?_
    exact B_vret rfl
  · skip
    refine B_aload_n rfl ?_
    refine B_chk (fun t1 => ?_)
    refine K_getR 11 75 2275 lf_Mo_156 rfl rfl t1 (fun a2 r3 => ?_)
    refine B_iload_n rfl ?_
    refine B_iload_n rfl ?_
    refine B_chk (fun t4 => ?_)
    refine K_iast t4 (fun M6 e5 => ?_)
    exact B_vret rfl
set_option maxRecDepth 100000 in
def f_Mo_keep (G : GT) (l0 : Nat) (l1 : Int32) (l2 : Int32) (M : PH) : Option (PH) :=
  if ¬ l2 = 0 then (if hT M l0 = 11 then bI (f_Mo_made G l0 l1 M) fun v3 M2 => (b_Mo_keep_17 G l0 l2 v3 M2) else none) else (if hT M l0 = 11 then bI (f_Mo_find G l0 l1 M) fun v6 M5 => (b_Mo_keep_17 G l0 l2 v6 M5) else none)
set_option maxRecDepth 100000 in
set_option maxHeartbeats 4000000 in
theorem s_Mo_keep {G : GT} (l0 : Nat) (l1 : Int32) (l2 : Int32) (M : PH) : VX G mi_Mo_keep 2 28 0 [some (.ref l0), some (.int l1), some (.int l2), none] [] M qV (f_Mo_keep G l0 l1 l2 M) := by
  unfold f_Mo_keep
  refine V_open ok_Mo_keep_0 ?_
  refine B_iload_n rfl ?_
  refine B_ne (tgt := 12) (by decide) ?_ ?_
  · skip
    refine V_open ok_Mo_keep_12 ?_
    refine B_aload_n rfl ?_
    refine B_iload_n rfl ?_
    refine B_chk (fun t1 => ?_)
    refine C_I (vs := [.ref l0, .int l1]) (st := []) (ci_V lv_Mo_368 rfl rfl t1) rfl rfl rfl (s_Mo_made l0 l1 M) (fun v3 M2 => ?_)
    refine V_close ?_
    exact V_weak (ls' := [some (.ref l0), none, some (.int l2), none]) ⟨rfl, ⟨rfl, trivial⟩⟩ (t_Mo_keep_17 l0 l2 v3 M2)
  · skip
    refine B_aload_n rfl ?_
    refine B_iload_n rfl ?_
    refine B_chk (fun t4 => ?_)
    refine C_I (vs := [.ref l0, .int l1]) (st := []) (ci_V lv_Mo_365 rfl rfl t4) rfl rfl rfl (s_Mo_find l0 l1 M) (fun v6 M5 => ?_)
    refine B_goto (tgt := 17) (by decide) ?_
    exact V_weak (ls' := [some (.ref l0), none, some (.int l2), none]) ⟨rfl, ⟨rfl, trivial⟩⟩ (t_Mo_keep_17 l0 l2 v6 M5)

-- Mo_check
theorem ok_Mo_check_0 : okb prog_13_method_53_code 0 [(.aload_n 0, 1), (.aload_n 0, 1), (.iload_n 1, 1), (.invokevirtual 343, 3), (.invokevirtual 371, 3), (.ifCond .eq 5, 3), (.iconst 0, 1), (.ireturn, 1)] = true := by decide +kernel
theorem ok_Mo_check_14 : okb prog_13_method_53_code 14 [(.aload_n 0, 1), (.iload_n 1, 1), (.bipush 12, 2), (.bipush 12, 2), (.invokevirtual 375, 3), (.istore_n 2, 1), (.aload_n 0, 1), (.iload_n 2, 1), (.invokevirtual 378, 3), (.ifCond .eq 21, 3), (.aload_n 0, 1), (.iload_n 2, 1), (.aload_n 0, 1), (.iload_n 2, 1), (.invokevirtual 387, 3), (.ifCond .eq 7, 3), (.iconst 0, 1), (.goto 4, 3)] = true := by decide +kernel
theorem ok_Mo_check_46 : okb prog_13_method_53_code 46 [(.iconst 1, 1)] = true := by decide +kernel
theorem ok_Mo_check_47 : okb prog_13_method_53_code 47 [(.invokevirtual 390, 3)] = true := by decide +kernel
theorem ok_Mo_check_50 : okb prog_13_method_53_code 50 [(.aload_n 0, 1), (.iload_n 2, 1), (.invokevirtual 381, 3), (.aload_n 0, 1), (.iload_n 2, 1), (.invokevirtual 387, 3), (.ireturn, 1)] = true := by decide +kernel
set_option maxRecDepth 100000 in
def b_Mo_check_50 (G : GT) (l0 : Nat) (l2 : Int32) (M : PH) : Option (Int32 × PH) :=
  if hT M l0 = 11 then bV (f_Mo_shape G l0 l2 M) fun M2 => (if hT M2 l0 = 11 then bI (f_Mo_numberOf G l0 l2 M2) fun v5 M4 => (some (v5, M4)) else none) else none
set_option maxRecDepth 100000 in
set_option maxHeartbeats 4000000 in
theorem t_Mo_check_50 {G : GT} (l0 : Nat) (l2 : Int32) (M : PH) : VX G mi_Mo_check 4 68 50 [some (.ref l0), none, some (.int l2)] [] M qI (b_Mo_check_50 G l0 l2 M) := by
  unfold b_Mo_check_50
  refine V_open ok_Mo_check_50 ?_
  refine B_aload_n rfl ?_
  refine B_iload_n rfl ?_
  refine B_chk (fun t1 => ?_)
  refine C_V (vs := [.ref l0, .int l2]) (st := []) (ci_V lv_Mo_381 rfl rfl t1) rfl rfl rfl (s_Mo_shape l0 l2 M) (fun M2 => ?_)
  refine B_aload_n rfl ?_
  refine B_iload_n rfl ?_
  refine B_chk (fun t3 => ?_)
  refine C_I (vs := [.ref l0, .int l2]) (st := []) (ci_V lv_Mo_387 rfl rfl t3) rfl rfl rfl (s_Mo_numberOf l0 l2 M2) (fun v5 M4 => ?_)
  exact B_iret rfl
set_option maxRecDepth 100000 in
def b_Mo_check_47 (G : GT) (l0 : Nat) (l2 : Int32) (s0 : Nat) (s1 : Int32) (s2 : Int32) (M : PH) : Option (Int32 × PH) :=
  if hT M s0 = 11 then bV (f_Mo_keep G s0 s1 s2 M) fun M2 => (b_Mo_check_50 G l0 l2 M2) else none
set_option maxRecDepth 100000 in
set_option maxHeartbeats 4000000 in
theorem t_Mo_check_47 {G : GT} (l0 : Nat) (l2 : Int32) (s0 : Nat) (s1 : Int32) (s2 : Int32) (M : PH) : VX G mi_Mo_check 4 68 47 [some (.ref l0), none, some (.int l2)] [.int s2, .int s1, .ref s0] M qI (b_Mo_check_47 G l0 l2 s0 s1 s2 M) := by
  unfold b_Mo_check_47
  refine V_open ok_Mo_check_47 ?_
  refine B_chk (fun t1 => ?_)
  refine C_V (vs := [.ref s0, .int s1, .int s2]) (st := []) (ci_V lv_Mo_390 rfl rfl t1) rfl rfl rfl (s_Mo_keep s0 s1 s2 M) (fun M2 => ?_)
  refine V_close ?_
  exact V_weak (ls' := [some (.ref l0), none, some (.int l2)]) ⟨rfl, ⟨rfl, trivial⟩⟩ (t_Mo_check_50 l0 l2 M2)
set_option maxRecDepth 100000 in
def f_Mo_check (G : GT) (l0 : Nat) (l1 : Int32) (M : PH) : Option (Int32 × PH) :=
  if hT M l0 = 11 then bI (f_Mo_isLabel G l0 l1 M) fun v3 M2 => (if hT M2 l0 = 11 then bI (f_Mo_bars G l0 v3 M2) fun v6 M5 => (if v6 = 0 then (if hT M5 l0 = 11 then bI (f_Mo_lay G l0 l1 (12 : Int32) (12 : Int32) M5) fun v9 M8 => (if hT M8 l0 = 11 then bI (f_Mo_behaves G l0 v9 M8) fun v12 M11 => (if v12 = 0 then (b_Mo_check_50 G l0 v9 M11) else (if hT M11 l0 = 11 then bI (f_Mo_numberOf G l0 v9 M11) fun v15 M14 => (if v15 = 0 then (b_Mo_check_47 G l0 v9 l0 v9 (1 : Int32) M14) else (b_Mo_check_47 G l0 v9 l0 v9 (0 : Int32) M14)) else none)) else none) else none) else (some ((0 : Int32), M5))) else none) else none
set_option maxRecDepth 100000 in
set_option maxHeartbeats 4000000 in
theorem s_Mo_check {G : GT} (l0 : Nat) (l1 : Int32) (M : PH) : VX G mi_Mo_check 4 68 0 [some (.ref l0), some (.int l1), none] [] M qI (f_Mo_check G l0 l1 M) := by
  unfold f_Mo_check
  refine V_open ok_Mo_check_0 ?_
  refine B_aload_n rfl ?_
  refine B_aload_n rfl ?_
  refine B_iload_n rfl ?_
  refine B_chk (fun t1 => ?_)
  refine C_I (vs := [.ref l0, .int l1]) (st := [.ref l0]) (ci_V lv_Mo_343 rfl rfl t1) rfl rfl rfl (s_Mo_isLabel l0 l1 M) (fun v3 M2 => ?_)
  refine B_chk (fun t4 => ?_)
  refine C_I (vs := [.ref l0, .int v3]) (st := []) (ci_V lv_Mo_371 rfl rfl t4) rfl rfl rfl (s_Mo_bars l0 v3 M2) (fun v6 M5 => ?_)
  refine B_eq (tgt := 14) (by decide) ?_ ?_
  · skip
    refine V_open ok_Mo_check_14 ?_
    refine B_aload_n rfl ?_
    refine B_iload_n rfl ?_
    refine B_bipush (12 : Int32) bp_12 ?_
    refine B_bipush (12 : Int32) bp_12 ?_
    refine B_chk (fun t7 => ?_)
    refine C_I (vs := [.ref l0, .int l1, .int (12 : Int32), .int (12 : Int32)]) (st := []) (ci_V lv_Mo_375 rfl rfl t7) rfl rfl rfl (s_Mo_lay l0 l1 (12 : Int32) (12 : Int32) M5) (fun v9 M8 => ?_)
    refine S_in [some (.ref l0), some (.int l1), some (.int v9)] (by decide) rfl ?_
    refine B_aload_n rfl ?_
    refine B_iload_n rfl ?_
    refine B_chk (fun t10 => ?_)
    refine C_I (vs := [.ref l0, .int v9]) (st := []) (ci_V lv_Mo_378 rfl rfl t10) rfl rfl rfl (s_Mo_behaves l0 v9 M8) (fun v12 M11 => ?_)
    refine B_eq (tgt := 50) (by decide) ?_ ?_
    · skip
      exact V_weak (ls' := [some (.ref l0), none, some (.int v9)]) ⟨rfl, ⟨rfl, trivial⟩⟩ (t_Mo_check_50 l0 v9 M11)
    · skip
      refine B_aload_n rfl ?_
      refine B_iload_n rfl ?_
      refine B_aload_n rfl ?_
      refine B_iload_n rfl ?_
      refine B_chk (fun t13 => ?_)
      refine C_I (vs := [.ref l0, .int v9]) (st := [.int v9, .ref l0]) (ci_V lv_Mo_387 rfl rfl t13) rfl rfl rfl (s_Mo_numberOf l0 v9 M11) (fun v15 M14 => ?_)
      refine B_eq (tgt := 46) (by decide) ?_ ?_
      · skip
        refine V_open ok_Mo_check_46 ?_
        refine B_iconst (1 : Int32) ic_1 ?_
        refine V_close ?_
        exact V_weak (ls' := [some (.ref l0), none, some (.int v9)]) ⟨rfl, ⟨rfl, trivial⟩⟩ (t_Mo_check_47 l0 v9 l0 v9 (1 : Int32) M14)
      · skip
        refine B_iconst (0 : Int32) ic_0 ?_
        refine B_goto (tgt := 47) (by decide) ?_
        exact V_weak (ls' := [some (.ref l0), none, some (.int v9)]) ⟨rfl, ⟨rfl, trivial⟩⟩ (t_Mo_check_47 l0 v9 l0 v9 (0 : Int32) M14)
  · skip
    refine B_iconst (0 : Int32) ic_0 ?_
    exact B_iret rfl

-- PF_slider
theorem ok_PF_slider_0 : okb prog_1_method_38_code 0 [(.iload_n 1, 1), (.invokestatic 319, 3), (.ifCond .eq 40, 3), (.iload_n 2, 1), (.iconst 2, 1), (.if_icmp .lt 35, 3), (.iload_n 2, 1), (.sipush 200, 3), (.if_icmp .gt 28, 3), (.iload_n 3, 1), (.iload 4, 2), (.if_icmp .ge 22, 3), (.iload_n 3, 1), (.sipush (-1000), 3), (.if_icmp .lt 15, 3), (.iload 4, 2), (.sipush 1000, 3), (.if_icmp .gt 7, 3), (.iconst 1, 1), (.goto 4, 3)] = true := by decide +kernel
theorem ok_PF_slider_44 : okb prog_1_method_38_code 44 [(.iconst 0, 1)] = true := by decide +kernel
theorem ok_PF_slider_45 : okb prog_1_method_38_code 45 [(.invokestatic 260, 3), (.aload_n 0, 1), (.iload_n 1, 1), (.iload_n 2, 1), (.iconst 2, 1), (.invokevirtual 374, 3), (.aload_n 0, 1), (.iload_n 1, 1), (.invokevirtual 378, 3), (.istore 5, 2), (.aload_n 0, 1), (.iload 5, 2), (.iload_n 2, 1), (.invokevirtual 382, 3), (.pop, 1), (.iload_n 3, 1), (.aload_n 0, 1), (.getfield 19, 3), (.iload 5, 2), (.invokevirtual 391, 3), (.iload 4, 2), (.invokestatic 399, 3), (.invokestatic 404, 3), (.istore 6, 2), (.aload_n 0, 1), (.getfield 26, 3), (.getfield 185, 3), (.iload 5, 2), (.if_icmp .ne 50, 3), (.aload_n 0, 1), (.getfield 10, 3), (.getfield 188, 3), (.ifCond .eq 40, 3), (.iload_n 3, 1), (.iload_n 3, 1), (.aload_n 0, 1), (.getfield 10, 3), (.getfield 141, 3), (.aload_n 0, 1), (.getfield 72, 3), (.getfield 191, 3), (.isub, 1), (.iload 4, 2), (.iload_n 3, 1), (.isub, 1), (.imul, 1), (.iload_n 2, 1), (.iconst 1, 1), (.isub, 1), (.idiv, 1), (.iadd, 1), (.iload 4, 2), (.invokestatic 399, 3), (.invokestatic 404, 3), (.istore 6, 2)] = true := by decide +kernel
theorem ok_PF_slider_149 : okb prog_1_method_38_code 149 [(.aload_n 0, 1), (.getfield 26, 3), (.getfield 363, 3), (.iload 5, 2), (.if_icmp .ne 24, 3), (.aload_n 0, 1), (.getfield 10, 3), (.getfield 172, 3), (.iconst 2, 1), (.baload, 1), (.ifCond .eq 12, 3), (.iload 6, 2), (.iload_n 3, 1), (.if_icmp .le 6, 3), (.iinc 6 (-1), 3)] = true := by decide +kernel
theorem ok_PF_slider_182 : okb prog_1_method_38_code 182 [(.aload_n 0, 1), (.getfield 26, 3), (.getfield 363, 3), (.iload 5, 2), (.if_icmp .ne 25, 3), (.aload_n 0, 1), (.getfield 10, 3), (.getfield 172, 3), (.iconst 3, 1), (.baload, 1), (.ifCond .eq 13, 3), (.iload 6, 2), (.iload 4, 2), (.if_icmp .ge 6, 3), (.iinc 6 1, 3)] = true := by decide +kernel
theorem ok_PF_slider_216 : okb prog_1_method_38_code 216 [(.aload_n 0, 1), (.getfield 19, 3), (.iload 5, 2), (.iload 6, 2), (.invokevirtual 393, 3), (.aload_n 0, 1), (.iload 5, 2), (.invokevirtual 385, 3), (.aload_n 0, 1), (.iload_n 1, 1), (.invokevirtual 388, 3), (.iload 6, 2), (.ireturn, 1)] = true := by decide +kernel
set_option maxRecDepth 100000 in
def b_PF_slider_216 (G : GT) (l0 : Nat) (l1 : Int32) (l5 : Int32) (l6 : Int32) (M : PH) : Option (Nat × Int32 × PH) :=
  if hT M l0 = 10 then (hR M 2001 l0).bind fun a2 => if hT M a2 = 3 then bV (f_Store_put G a2 l5 l6 M) fun M5 => (if hT M5 l0 = 10 then bV (f_PF_draw G l0 l5 M5) fun M7 => (if hT M7 l0 = 10 then bV (f_PF_drawLabel G l0 l1 M7) fun M9 => (some (0, l6, M9)) else none) else none) else none else none
set_option maxRecDepth 100000 in
set_option maxHeartbeats 4000000 in
theorem t_PF_slider_216 {G : GT} (l0 : Nat) (l1 : Int32) (l5 : Int32) (l6 : Int32) (M : PH) : VX G mi_PF_slider 8 109 216 [some (.ref l0), some (.int l1), none, none, none, some (.int l5), some (.int l6)] [] M qT (b_PF_slider_216 G l0 l1 l5 l6 M) := by
  unfold b_PF_slider_216
  refine V_open ok_PF_slider_216 ?_
  refine B_aload_n rfl ?_
  refine B_chk (fun t1 => ?_)
  refine K_getR 10 1 2001 lf_PF_19 rfl rfl t1 (fun a2 r3 => ?_)
  refine B_iload rfl ?_
  refine B_iload rfl ?_
  refine B_chk (fun t4 => ?_)
  refine C_V (vs := [.ref a2, .int l5, .int l6]) (st := []) (ci_V lv_PF_393 rfl rfl t4) rfl rfl rfl (s_Store_put a2 l5 l6 M) (fun M5 => ?_)
  refine B_aload_n rfl ?_
  refine B_iload rfl ?_
  refine B_chk (fun t6 => ?_)
  refine C_V (vs := [.ref l0, .int l5]) (st := []) (ci_V lv_PF_385 rfl rfl t6) rfl rfl rfl (s_PF_draw l0 l5 M5) (fun M7 => ?_)
  refine B_aload_n rfl ?_
  refine B_iload_n rfl ?_
  refine B_chk (fun t8 => ?_)
  refine C_V (vs := [.ref l0, .int l1]) (st := []) (ci_V lv_PF_388 rfl rfl t8) rfl rfl rfl (s_PF_drawLabel l0 l1 M7) (fun M9 => ?_)
  refine B_iload rfl ?_
  exact B_tret rfl
set_option maxRecDepth 100000 in
def b_PF_slider_182 (G : GT) (l0 : Nat) (l1 : Int32) (l4 : Int32) (l5 : Int32) (l6 : Int32) (M : PH) : Option (Nat × Int32 × PH) :=
  if hT M l0 = 10 then (hR M 2002 l0).bind fun a2 => if hT M a2 = 9 then if ¬ hI M 1802 a2 = l5 then (b_PF_slider_216 G l0 l1 l5 l6 M) else ((hR M 2000 l0).bind fun a5 => if hT M a5 = 2 then (hR M 413 a5).bind fun a8 => if hT M a8 = 17 then if 3 < hN M a8 then if hA M a8 3 = 0 then (b_PF_slider_216 G l0 l1 l5 l6 M) else (if l4 ≤ l6 then (b_PF_slider_216 G l0 l1 l5 l6 M) else (b_PF_slider_216 G l0 l1 l5 (l6 + (1 : Int32)) M)) else none else none else none) else none else none
set_option maxRecDepth 100000 in
set_option maxHeartbeats 4000000 in
theorem t_PF_slider_182 {G : GT} (l0 : Nat) (l1 : Int32) (l4 : Int32) (l5 : Int32) (l6 : Int32) (M : PH) : VX G mi_PF_slider 8 109 182 [some (.ref l0), some (.int l1), none, none, some (.int l4), some (.int l5), some (.int l6)] [] M qT (b_PF_slider_182 G l0 l1 l4 l5 l6 M) := by
  unfold b_PF_slider_182
  refine V_open ok_PF_slider_182 ?_
  refine B_aload_n rfl ?_
  refine B_chk (fun t1 => ?_)
  refine K_getR 10 2 2002 lf_PF_26 rfl rfl t1 (fun a2 r3 => ?_)
  refine B_chk (fun t4 => ?_)
  refine K_getI 9 2 1802 lf_PF_363 rfl rfl t4 ?_
  refine B_iload rfl ?_
  refine B_ine (tgt := 216) (by decide) ?_ ?_
  · skip
    exact V_weak (ls' := [some (.ref l0), some (.int l1), none, none, none, some (.int l5), some (.int l6)]) ⟨rfl, ⟨rfl, ⟨rfl, ⟨rfl, trivial⟩⟩⟩⟩ (t_PF_slider_216 l0 l1 l5 l6 M)
  · skip
    refine B_aload_n rfl ?_
    refine K_getR 10 0 2000 lf_PF_10 rfl rfl t1 (fun a5 r6 => ?_)
    refine B_chk (fun t7 => ?_)
    refine K_getR 2 13 413 lf_PF_172 rfl rfl t7 (fun a8 r9 => ?_)
    refine B_iconst (3 : Int32) ic_3 ?_
    refine B_chk (fun t10 => ?_)
    refine K_zaldc 3 rfl t10 ?_
    refine B_eq (tgt := 216) (by decide) ?_ ?_
    · skip
      exact V_weak (ls' := [some (.ref l0), some (.int l1), none, none, none, some (.int l5), some (.int l6)]) ⟨rfl, ⟨rfl, ⟨rfl, ⟨rfl, trivial⟩⟩⟩⟩ (t_PF_slider_216 l0 l1 l5 l6 M)
    · skip
      refine B_iload rfl ?_
      refine B_iload rfl ?_
      refine B_ige (tgt := 216) (by decide) ?_ ?_
      · skip
        exact V_weak (ls' := [some (.ref l0), some (.int l1), none, none, none, some (.int l5), some (.int l6)]) ⟨rfl, ⟨rfl, ⟨rfl, ⟨rfl, trivial⟩⟩⟩⟩ (t_PF_slider_216 l0 l1 l5 l6 M)
      · skip
        refine S_inc (1 : Int32) [some (.ref l0), some (.int l1), none, none, some (.int l4), some (.int l5), some (.int (l6 + (1 : Int32)))] ic_1 rfl (by decide) rfl ?_
        refine V_close ?_
        exact V_weak (ls' := [some (.ref l0), some (.int l1), none, none, none, some (.int l5), some (.int (l6 + (1 : Int32)))]) ⟨rfl, ⟨rfl, ⟨rfl, ⟨rfl, trivial⟩⟩⟩⟩ (t_PF_slider_216 l0 l1 l5 (l6 + (1 : Int32)) M)
set_option maxRecDepth 100000 in
def b_PF_slider_149 (G : GT) (l0 : Nat) (l1 : Int32) (l3 : Int32) (l4 : Int32) (l5 : Int32) (l6 : Int32) (M : PH) : Option (Nat × Int32 × PH) :=
  if hT M l0 = 10 then (hR M 2002 l0).bind fun a2 => if hT M a2 = 9 then if ¬ hI M 1802 a2 = l5 then (b_PF_slider_182 G l0 l1 l4 l5 l6 M) else ((hR M 2000 l0).bind fun a5 => if hT M a5 = 2 then (hR M 413 a5).bind fun a8 => if hT M a8 = 17 then if 2 < hN M a8 then if hA M a8 2 = 0 then (b_PF_slider_182 G l0 l1 l4 l5 l6 M) else (if l6 ≤ l3 then (b_PF_slider_182 G l0 l1 l4 l5 l6 M) else (b_PF_slider_182 G l0 l1 l4 l5 (l6 + (-1 : Int32)) M)) else none else none else none) else none else none
set_option maxRecDepth 100000 in
set_option maxHeartbeats 4000000 in
theorem t_PF_slider_149 {G : GT} (l0 : Nat) (l1 : Int32) (l3 : Int32) (l4 : Int32) (l5 : Int32) (l6 : Int32) (M : PH) : VX G mi_PF_slider 8 109 149 [some (.ref l0), some (.int l1), none, some (.int l3), some (.int l4), some (.int l5), some (.int l6)] [] M qT (b_PF_slider_149 G l0 l1 l3 l4 l5 l6 M) := by
  unfold b_PF_slider_149
  refine V_open ok_PF_slider_149 ?_
  refine B_aload_n rfl ?_
  refine B_chk (fun t1 => ?_)
  refine K_getR 10 2 2002 lf_PF_26 rfl rfl t1 (fun a2 r3 => ?_)
  refine B_chk (fun t4 => ?_)
  refine K_getI 9 2 1802 lf_PF_363 rfl rfl t4 ?_
  refine B_iload rfl ?_
  refine B_ine (tgt := 182) (by decide) ?_ ?_
  · skip
    exact V_weak (ls' := [some (.ref l0), some (.int l1), none, none, some (.int l4), some (.int l5), some (.int l6)]) ⟨rfl, ⟨rfl, ⟨rfl, ⟨rfl, ⟨rfl, trivial⟩⟩⟩⟩⟩ (t_PF_slider_182 l0 l1 l4 l5 l6 M)
  · skip
    refine B_aload_n rfl ?_
    refine K_getR 10 0 2000 lf_PF_10 rfl rfl t1 (fun a5 r6 => ?_)
    refine B_chk (fun t7 => ?_)
    refine K_getR 2 13 413 lf_PF_172 rfl rfl t7 (fun a8 r9 => ?_)
    refine B_iconst (2 : Int32) ic_2 ?_
    refine B_chk (fun t10 => ?_)
    refine K_zaldc 2 rfl t10 ?_
    refine B_eq (tgt := 182) (by decide) ?_ ?_
    · skip
      exact V_weak (ls' := [some (.ref l0), some (.int l1), none, none, some (.int l4), some (.int l5), some (.int l6)]) ⟨rfl, ⟨rfl, ⟨rfl, ⟨rfl, ⟨rfl, trivial⟩⟩⟩⟩⟩ (t_PF_slider_182 l0 l1 l4 l5 l6 M)
    · skip
      refine B_iload rfl ?_
      refine B_iload_n rfl ?_
      refine B_ile (tgt := 182) (by decide) ?_ ?_
      · skip
        exact V_weak (ls' := [some (.ref l0), some (.int l1), none, none, some (.int l4), some (.int l5), some (.int l6)]) ⟨rfl, ⟨rfl, ⟨rfl, ⟨rfl, ⟨rfl, trivial⟩⟩⟩⟩⟩ (t_PF_slider_182 l0 l1 l4 l5 l6 M)
      · skip
        refine S_inc (-1 : Int32) [some (.ref l0), some (.int l1), none, some (.int l3), some (.int l4), some (.int l5), some (.int (l6 + (-1 : Int32)))] ic_m1 rfl (by decide) rfl ?_
        refine V_close ?_
        exact V_weak (ls' := [some (.ref l0), some (.int l1), none, none, some (.int l4), some (.int l5), some (.int (l6 + (-1 : Int32)))]) ⟨rfl, ⟨rfl, ⟨rfl, ⟨rfl, ⟨rfl, trivial⟩⟩⟩⟩⟩ (t_PF_slider_182 l0 l1 l4 l5 (l6 + (-1 : Int32)) M)
set_option maxRecDepth 100000 in
def b_PF_slider_45 (G : GT) (l0 : Nat) (l1 : Int32) (l2 : Int32) (l3 : Int32) (l4 : Int32) (s0 : Int32) (M : PH) : Option (Nat × Int32 × PH) :=
  bT (f_PF_want G s0 M) fun M1 => (if hT M1 l0 = 10 then bT (f_PF_wantItem G l0 l1 l2 (2 : Int32) M1) fun M3 => (if hT M3 l0 = 10 then bI (f_PF_idOf G l0 l1 M3) fun v6 M5 => (if hT M5 l0 = 10 then bI (f_PF_behave G l0 v6 l2 M5) fun v9 M8 => (if hT M8 l0 = 10 then (hR M8 2001 l0).bind fun a11 => if hT M8 a11 = 3 then bI (f_Store_number G a11 v6 M8) fun v15 M14 => (vb (jmax l3 (jmin v15 l4)) fun v16 => if hT M14 l0 = 10 then (hR M14 2002 l0).bind fun a18 => if hT M14 a18 = 9 then if ¬ hI M14 1800 a18 = v6 then (b_PF_slider_149 G l0 l1 l3 l4 v6 v16 M14) else ((hR M14 2000 l0).bind fun a21 => if hT M14 a21 = 2 then if hI M14 409 a21 = 0 then (b_PF_slider_149 G l0 l1 l3 l4 v6 v16 M14) else ((hR M14 2020 l0).bind fun a24 => if hT M14 a24 = 1 then if (l2 - (1 : Int32)) = 0 then none else vb (jmax l3 (jmin (l3 + ((((hI M14 405 a21) - (hI M14 200 a24)) * (l4 - l3)) / (l2 - (1 : Int32)))) l4)) fun v27 => b_PF_slider_149 G l0 l1 l3 l4 v6 v27 M14 else none) else none) else none else none) else none else none) else none) else none) else none)
set_option maxRecDepth 100000 in
set_option maxHeartbeats 4000000 in
theorem t_PF_slider_45 {G : GT} (l0 : Nat) (l1 : Int32) (l2 : Int32) (l3 : Int32) (l4 : Int32) (s0 : Int32) (M : PH) : VX G mi_PF_slider 8 109 45 [some (.ref l0), some (.int l1), some (.int l2), some (.int l3), some (.int l4), none, none] [.int s0] M qT (b_PF_slider_45 G l0 l1 l2 l3 l4 s0 M) := by
  unfold b_PF_slider_45
  refine V_open ok_PF_slider_45 ?_
  refine C_T (vs := [.int s0]) (st := []) rfl (ci_S ls_PF_260 rfl) rfl rfl rfl (s_PF_want s0 M) (fun M1 => ?_)
  refine B_aload_n rfl ?_
  refine B_iload_n rfl ?_
  refine B_iload_n rfl ?_
  refine B_iconst (2 : Int32) ic_2 ?_
  refine B_chk (fun t2 => ?_)
  refine C_T (vs := [.ref l0, .int l1, .int l2, .int (2 : Int32)]) (st := []) rfl (ci_V lv_PF_374 rfl rfl t2) rfl rfl rfl (s_PF_wantItem l0 l1 l2 (2 : Int32) M1) (fun M3 => ?_)
  refine B_aload_n rfl ?_
  refine B_iload_n rfl ?_
  refine B_chk (fun t4 => ?_)
  refine C_I (vs := [.ref l0, .int l1]) (st := []) (ci_V lv_PF_378 rfl rfl t4) rfl rfl rfl (s_PF_idOf l0 l1 M3) (fun v6 M5 => ?_)
  refine S_i [some (.ref l0), some (.int l1), some (.int l2), some (.int l3), some (.int l4), some (.int v6), none] (by decide) rfl ?_
  refine B_aload_n rfl ?_
  refine B_iload rfl ?_
  refine B_iload_n rfl ?_
  refine B_chk (fun t7 => ?_)
  refine C_I (vs := [.ref l0, .int v6, .int l2]) (st := []) (ci_V lv_PF_382 rfl rfl t7) rfl rfl rfl (s_PF_behave l0 v6 l2 M5) (fun v9 M8 => ?_)
  refine B_pop rfl ?_
  refine B_iload_n rfl ?_
  refine B_aload_n rfl ?_
  refine B_chk (fun t10 => ?_)
  refine K_getR 10 1 2001 lf_PF_19 rfl rfl t10 (fun a11 r12 => ?_)
  refine B_iload rfl ?_
  refine B_chk (fun t13 => ?_)
  refine C_I (vs := [.ref a11, .int v6]) (st := [.int l3]) (ci_V lv_PF_391 rfl rfl t13) rfl rfl rfl (s_Store_number a11 v6 M8) (fun v15 M14 => ?_)
  refine B_iload rfl ?_
  refine B_min lj_PF_399 rfl ?_
  refine B_max lj_PF_404 rfl ?_
  refine B_vb (fun v16 => ?_)
  refine S_i [some (.ref l0), some (.int l1), some (.int l2), some (.int l3), some (.int l4), some (.int v6), some (.int v16)] (by decide) rfl ?_
  refine B_aload_n rfl ?_
  refine B_chk (fun t17 => ?_)
  refine K_getR 10 2 2002 lf_PF_26 rfl rfl t17 (fun a18 r19 => ?_)
  refine B_chk (fun t20 => ?_)
  refine K_getI 9 0 1800 lf_PF_185 rfl rfl t20 ?_
  refine B_iload rfl ?_
  refine B_ine (tgt := 149) (by decide) ?_ ?_
  · skip
    exact V_weak (ls' := [some (.ref l0), some (.int l1), none, some (.int l3), some (.int l4), some (.int v6), some (.int v16)]) ⟨rfl, ⟨rfl, ⟨rfl, ⟨rfl, ⟨rfl, ⟨rfl, trivial⟩⟩⟩⟩⟩⟩ (t_PF_slider_149 l0 l1 l3 l4 v6 v16 M14)
  · skip
    refine B_aload_n rfl ?_
    refine K_getR 10 0 2000 lf_PF_10 rfl rfl t17 (fun a21 r22 => ?_)
    refine B_chk (fun t23 => ?_)
    refine K_getI 2 9 409 lf_PF_188 rfl rfl t23 ?_
    refine B_eq (tgt := 149) (by decide) ?_ ?_
    · skip
      exact V_weak (ls' := [some (.ref l0), some (.int l1), none, some (.int l3), some (.int l4), some (.int v6), some (.int v16)]) ⟨rfl, ⟨rfl, ⟨rfl, ⟨rfl, ⟨rfl, ⟨rfl, trivial⟩⟩⟩⟩⟩⟩ (t_PF_slider_149 l0 l1 l3 l4 v6 v16 M14)
    · skip
      refine B_iload_n rfl ?_
      refine B_iload_n rfl ?_
      refine B_aload_n rfl ?_
      refine K_getRk 10 0 2000 lf_PF_10 rfl rfl t17 r22 ?_
      refine K_getI 2 5 405 lf_PF_141 rfl rfl t23 ?_
      refine B_aload_n rfl ?_
      refine K_getR 10 20 2020 lf_PF_72 rfl rfl t17 (fun a24 r25 => ?_)
      refine B_chk (fun t26 => ?_)
      refine K_getI 1 0 200 lf_PF_191 rfl rfl t26 ?_
      refine B_isub ?_
      refine B_iload rfl ?_
      refine B_iload_n rfl ?_
      refine B_isub ?_
      refine B_imul ?_
      refine B_iload_n rfl ?_
      refine B_iconst (1 : Int32) ic_1 ?_
      refine B_isub ?_
      refine B_idiv ?_
      refine B_iadd ?_
      refine B_iload rfl ?_
      refine B_min lj_PF_399 rfl ?_
      refine B_max lj_PF_404 rfl ?_
      refine B_vb (fun v27 => ?_)
      refine S_i [some (.ref l0), some (.int l1), some (.int l2), some (.int l3), some (.int l4), some (.int v6), some (.int v27)] (by decide) rfl ?_
      refine V_close ?_
      exact V_weak (ls' := [some (.ref l0), some (.int l1), none, some (.int l3), some (.int l4), some (.int v6), some (.int v27)]) ⟨rfl, ⟨rfl, ⟨rfl, ⟨rfl, ⟨rfl, ⟨rfl, trivial⟩⟩⟩⟩⟩⟩ (t_PF_slider_149 l0 l1 l3 l4 v6 v27 M14)
set_option maxRecDepth 100000 in
def b_PF_slider_44 (G : GT) (l0 : Nat) (l1 : Int32) (l2 : Int32) (l3 : Int32) (l4 : Int32) (M : PH) : Option (Nat × Int32 × PH) :=
  b_PF_slider_45 G l0 l1 l2 l3 l4 (0 : Int32) M
set_option maxRecDepth 100000 in
set_option maxHeartbeats 4000000 in
theorem t_PF_slider_44 {G : GT} (l0 : Nat) (l1 : Int32) (l2 : Int32) (l3 : Int32) (l4 : Int32) (M : PH) : VX G mi_PF_slider 8 109 44 [some (.ref l0), some (.int l1), some (.int l2), some (.int l3), some (.int l4), none, none] [] M qT (b_PF_slider_44 G l0 l1 l2 l3 l4 M) := by
  unfold b_PF_slider_44
  refine V_open ok_PF_slider_44 ?_
  refine B_iconst (0 : Int32) ic_0 ?_
  refine V_close ?_
  exact V_weak (ls' := [some (.ref l0), some (.int l1), some (.int l2), some (.int l3), some (.int l4), none, none]) ⟨rfl, ⟨rfl, ⟨rfl, ⟨rfl, ⟨rfl, trivial⟩⟩⟩⟩⟩ (t_PF_slider_45 l0 l1 l2 l3 l4 (0 : Int32) M)
set_option maxRecDepth 100000 in
def f_PF_slider (G : GT) (l0 : Nat) (l1 : Int32) (l2 : Int32) (l3 : Int32) (l4 : Int32) (M : PH) : Option (Nat × Int32 × PH) :=
  bI (f_PF_isLabel G l1 M) fun v2 M1 => (if v2 = 0 then (b_PF_slider_44 G l0 l1 l2 l3 l4 M1) else (if l2 < (2 : Int32) then (b_PF_slider_44 G l0 l1 l2 l3 l4 M1) else (if (200 : Int32) < l2 then (b_PF_slider_44 G l0 l1 l2 l3 l4 M1) else (if l4 ≤ l3 then (b_PF_slider_44 G l0 l1 l2 l3 l4 M1) else (if l3 < (-1000 : Int32) then (b_PF_slider_44 G l0 l1 l2 l3 l4 M1) else (if (1000 : Int32) < l4 then (b_PF_slider_44 G l0 l1 l2 l3 l4 M1) else (b_PF_slider_45 G l0 l1 l2 l3 l4 (1 : Int32) M1)))))))
set_option maxRecDepth 100000 in
set_option maxHeartbeats 4000000 in
theorem s_PF_slider {G : GT} (l0 : Nat) (l1 : Int32) (l2 : Int32) (l3 : Int32) (l4 : Int32) (M : PH) : VX G mi_PF_slider 8 109 0 [some (.ref l0), some (.int l1), some (.int l2), some (.int l3), some (.int l4), none, none] [] M qT (f_PF_slider G l0 l1 l2 l3 l4 M) := by
  unfold f_PF_slider
  refine V_open ok_PF_slider_0 ?_
  refine B_iload_n rfl ?_
  refine C_I (vs := [.int l1]) (st := []) (ci_S ls_PF_319 rfl) rfl rfl rfl (s_PF_isLabel l1 M) (fun v2 M1 => ?_)
  refine B_eq (tgt := 44) (by decide) ?_ ?_
  · skip
    exact V_weak (ls' := [some (.ref l0), some (.int l1), some (.int l2), some (.int l3), some (.int l4), none, none]) ⟨rfl, ⟨rfl, ⟨rfl, ⟨rfl, ⟨rfl, trivial⟩⟩⟩⟩⟩ (t_PF_slider_44 l0 l1 l2 l3 l4 M1)
  · skip
    refine B_iload_n rfl ?_
    refine B_iconst (2 : Int32) ic_2 ?_
    refine B_ilt (tgt := 44) (by decide) ?_ ?_
    · skip
      exact V_weak (ls' := [some (.ref l0), some (.int l1), some (.int l2), some (.int l3), some (.int l4), none, none]) ⟨rfl, ⟨rfl, ⟨rfl, ⟨rfl, ⟨rfl, trivial⟩⟩⟩⟩⟩ (t_PF_slider_44 l0 l1 l2 l3 l4 M1)
    · skip
      refine B_iload_n rfl ?_
      refine B_sipush (200 : Int32) sp_200 ?_
      refine B_igt (tgt := 44) (by decide) ?_ ?_
      · skip
        exact V_weak (ls' := [some (.ref l0), some (.int l1), some (.int l2), some (.int l3), some (.int l4), none, none]) ⟨rfl, ⟨rfl, ⟨rfl, ⟨rfl, ⟨rfl, trivial⟩⟩⟩⟩⟩ (t_PF_slider_44 l0 l1 l2 l3 l4 M1)
      · skip
        refine B_iload_n rfl ?_
        refine B_iload rfl ?_
        refine B_ige (tgt := 44) (by decide) ?_ ?_
        · skip
          exact V_weak (ls' := [some (.ref l0), some (.int l1), some (.int l2), some (.int l3), some (.int l4), none, none]) ⟨rfl, ⟨rfl, ⟨rfl, ⟨rfl, ⟨rfl, trivial⟩⟩⟩⟩⟩ (t_PF_slider_44 l0 l1 l2 l3 l4 M1)
        · skip
          refine B_iload_n rfl ?_
          refine B_sipush (-1000 : Int32) sp_m1000 ?_
          refine B_ilt (tgt := 44) (by decide) ?_ ?_
          · skip
            exact V_weak (ls' := [some (.ref l0), some (.int l1), some (.int l2), some (.int l3), some (.int l4), none, none]) ⟨rfl, ⟨rfl, ⟨rfl, ⟨rfl, ⟨rfl, trivial⟩⟩⟩⟩⟩ (t_PF_slider_44 l0 l1 l2 l3 l4 M1)
          · skip
            refine B_iload rfl ?_
            refine B_sipush (1000 : Int32) sp_1000 ?_
            refine B_igt (tgt := 44) (by decide) ?_ ?_
            · skip
              exact V_weak (ls' := [some (.ref l0), some (.int l1), some (.int l2), some (.int l3), some (.int l4), none, none]) ⟨rfl, ⟨rfl, ⟨rfl, ⟨rfl, ⟨rfl, trivial⟩⟩⟩⟩⟩ (t_PF_slider_44 l0 l1 l2 l3 l4 M1)
            · skip
              refine B_iconst (1 : Int32) ic_1 ?_
              refine B_goto (tgt := 45) (by decide) ?_
              exact V_weak (ls' := [some (.ref l0), some (.int l1), some (.int l2), some (.int l3), some (.int l4), none, none]) ⟨rfl, ⟨rfl, ⟨rfl, ⟨rfl, ⟨rfl, trivial⟩⟩⟩⟩⟩ (t_PF_slider_45 l0 l1 l2 l3 l4 (1 : Int32) M1)

-- Law_slider
theorem ok_Law_slider_0 : okb method_11_code 0 [(.aload 5, 2), (.iconst 0, 1), (.aload_n 0, 1), (.iload_n 1, 1), (.iload_n 2, 1), (.iload_n 3, 1), (.iload 4, 2), (.invokevirtual 43, 3), (.i2l, 1), (.lastore, 1), (.goto 11, 3)] = true := by decide +kernel
theorem ok_Law_slider_17 : okb method_11_code 17 [(.astore 6, 2), (.iconst 1, 1), (.ireturn, 1)] = true := by decide +kernel
theorem ok_Law_slider_21 : okb method_11_code 21 [(.astore 6, 2), (.iconst 2, 1), (.ireturn, 1)] = true := by decide +kernel
theorem ok_Law_slider_25 : okb method_11_code 25 [(.iconst 0, 1), (.ireturn, 1)] = true := by decide +kernel
set_option maxRecDepth 100000 in
def f_Law_slider (G : GT) (l0 : Nat) (l1 : Int32) (l2 : Int32) (l3 : Int32) (l4 : Int32) (l5 : Nat) (M : PH) : Option (Int32 × PH) :=
  if hT M l0 = 10 then bH2 (f_PF_slider G l0 l1 l2 l3 l4 M) (fun v3 M2 => if hT M2 l5 = 19 then if 0 < hN M2 l5 then hb (sL M2 l5 0 v3.toInt64) fun M6 => (some ((0 : Int32), M6)) else none else none) (fun M2 => some ((1 : Int32), M2)) (fun M2 => some ((2 : Int32), M2)) else none
set_option maxRecDepth 100000 in
set_option maxHeartbeats 4000000 in
theorem s_Law_slider {G : GT} (l0 : Nat) (l1 : Int32) (l2 : Int32) (l3 : Int32) (l4 : Int32) (l5 : Nat) (M : PH) : VX G mi_Law_slider 9 129 0 [some (.ref l0), some (.int l1), some (.int l2), some (.int l3), some (.int l4), some (.ref l5), none] [] M qI (f_Law_slider G l0 l1 l2 l3 l4 l5 M) := by
  unfold f_Law_slider
  refine V_open ok_Law_slider_0 ?_
  refine B_aload rfl ?_
  refine B_iconst (0 : Int32) ic_0 ?_
  refine B_aload_n rfl ?_
  refine B_iload_n rfl ?_
  refine B_iload_n rfl ?_
  refine B_iload_n rfl ?_
  refine B_iload rfl ?_
  refine B_chk (fun t1 => ?_)
  refine C_H2 (vs := [.ref l0, .int l1, .int l2, .int l3, .int l4]) (st := [.int (0 : Int32), .ref l5]) 14 17 22 21 13 (by decide) rfl lh_Law_22 lh_Law_13 (ci_V lv_Law_43 rfl rfl t1) rfl rfl rfl (s_PF_slider l0 l1 l2 l3 l4 M) (fun v3 M2 => ?_) (fun ah M2 => ?_) (fun ah M2 => ?_)
  · skip
    refine B_i2l ?_
    refine B_chk (fun t4 => ?_)
    refine K_lastc 0 rfl t4 (fun M6 e5 => ?_)
    refine B_goto (tgt := 25) (by decide) ?_
    refine V_open ok_Law_slider_25 ?_
    refine B_iconst (0 : Int32) ic_0 ?_
    exact B_iret rfl
  · skip
    refine V_open ok_Law_slider_17 ?_
    refine S_a [some (.ref l0), some (.int l1), some (.int l2), some (.int l3), some (.int l4), some (.ref l5), some (.ref ah)] (by decide) rfl ?_
    refine B_iconst (1 : Int32) ic_1 ?_
    exact B_iret rfl
  · skip
    refine V_open ok_Law_slider_21 ?_
    refine S_a [some (.ref l0), some (.int l1), some (.int l2), some (.int l3), some (.int l4), some (.ref l5), some (.ref ah)] (by decide) rfl ?_
    refine B_iconst (2 : Int32) ic_2 ?_
    exact B_iret rfl

-- Mo_slider
theorem ok_Mo_slider_0 : okb prog_13_method_54_code 0 [(.aload_n 0, 1), (.aload_n 0, 1), (.iload_n 1, 1), (.invokevirtual 343, 3), (.ifCond .eq 40, 3), (.iload_n 2, 1), (.iconst 2, 1), (.if_icmp .lt 35, 3), (.iload_n 2, 1), (.sipush 200, 3), (.if_icmp .gt 28, 3), (.iload_n 3, 1), (.iload 4, 2), (.if_icmp .ge 22, 3), (.iload_n 3, 1), (.sipush (-1000), 3), (.if_icmp .lt 15, 3), (.iload 4, 2), (.sipush 1000, 3), (.if_icmp .gt 7, 3), (.iconst 1, 1), (.goto 4, 3)] = true := by decide +kernel
theorem ok_Mo_slider_46 : okb prog_13_method_54_code 46 [(.iconst 0, 1)] = true := by decide +kernel
theorem ok_Mo_slider_47 : okb prog_13_method_54_code 47 [(.invokevirtual 371, 3), (.ifCond .eq 5, 3), (.iconst 0, 1), (.ireturn, 1)] = true := by decide +kernel
theorem ok_Mo_slider_55 : okb prog_13_method_54_code 55 [(.aload_n 0, 1), (.iload_n 1, 1), (.iload_n 2, 1), (.bipush 12, 2), (.invokevirtual 375, 3), (.istore 5, 2), (.aload_n 0, 1), (.iload 5, 2), (.invokevirtual 378, 3), (.pop, 1), (.aload_n 0, 1), (.iload 5, 2), (.invokevirtual 387, 3), (.iload_n 3, 1), (.iload 4, 2), (.invokestatic 327, 3), (.istore 6, 2), (.aload_n 0, 1), (.getfield 255, 3), (.iload 5, 2), (.if_icmp .ne 40, 3), (.aload_n 0, 1), (.getfield 198, 3), (.ifCond .eq 33, 3), (.iload_n 3, 1), (.aload_n 0, 1), (.getfield 192, 3), (.aload_n 0, 1), (.getfield 150, 3), (.iconst 0, 1), (.iaload, 1), (.isub, 1), (.iload 4, 2), (.iload_n 3, 1), (.isub, 1), (.imul, 1), (.iload_n 2, 1), (.iconst 1, 1), (.isub, 1), (.idiv, 1), (.iadd, 1), (.iload_n 3, 1), (.iload 4, 2), (.invokestatic 327, 3), (.istore 6, 2)] = true := by decide +kernel
theorem ok_Mo_slider_132 : okb prog_13_method_54_code 132 [(.aload_n 0, 1), (.getfield 294, 3), (.iload 5, 2), (.if_icmp .ne 21, 3), (.aload_n 0, 1), (.getfield 17, 3), (.iconst 2, 1), (.baload, 1), (.ifCond .eq 12, 3), (.iload 6, 2), (.iload_n 3, 1), (.if_icmp .le 6, 3), (.iinc 6 (-1), 3)] = true := by decide +kernel
theorem ok_Mo_slider_159 : okb prog_13_method_54_code 159 [(.aload_n 0, 1), (.getfield 294, 3), (.iload 5, 2), (.if_icmp .ne 22, 3), (.aload_n 0, 1), (.getfield 17, 3), (.iconst 3, 1), (.baload, 1), (.ifCond .eq 13, 3), (.iload 6, 2), (.iload 4, 2), (.if_icmp .ge 6, 3), (.iinc 6 1, 3)] = true := by decide +kernel
theorem ok_Mo_slider_187 : okb prog_13_method_54_code 187 [(.aload_n 0, 1), (.iload 5, 2), (.iload 6, 2), (.invokevirtual 390, 3), (.aload_n 0, 1), (.iload 5, 2), (.invokevirtual 381, 3), (.aload_n 0, 1), (.iload_n 1, 1), (.invokevirtual 384, 3), (.iload 6, 2), (.ireturn, 1)] = true := by decide +kernel
set_option maxRecDepth 100000 in
def b_Mo_slider_187 (G : GT) (l0 : Nat) (l1 : Int32) (l5 : Int32) (l6 : Int32) (M : PH) : Option (Int32 × PH) :=
  if hT M l0 = 11 then bV (f_Mo_keep G l0 l5 l6 M) fun M2 => (if hT M2 l0 = 11 then bV (f_Mo_shape G l0 l5 M2) fun M4 => (if hT M4 l0 = 11 then bV (f_Mo_digits G l0 l1 M4) fun M6 => (some (l6, M6)) else none) else none) else none
set_option maxRecDepth 100000 in
set_option maxHeartbeats 4000000 in
theorem t_Mo_slider_187 {G : GT} (l0 : Nat) (l1 : Int32) (l5 : Int32) (l6 : Int32) (M : PH) : VX G mi_Mo_slider 4 70 187 [some (.ref l0), some (.int l1), none, none, none, some (.int l5), some (.int l6)] [] M qI (b_Mo_slider_187 G l0 l1 l5 l6 M) := by
  unfold b_Mo_slider_187
  refine V_open ok_Mo_slider_187 ?_
  refine B_aload_n rfl ?_
  refine B_iload rfl ?_
  refine B_iload rfl ?_
  refine B_chk (fun t1 => ?_)
  refine C_V (vs := [.ref l0, .int l5, .int l6]) (st := []) (ci_V lv_Mo_390 rfl rfl t1) rfl rfl rfl (s_Mo_keep l0 l5 l6 M) (fun M2 => ?_)
  refine B_aload_n rfl ?_
  refine B_iload rfl ?_
  refine B_chk (fun t3 => ?_)
  refine C_V (vs := [.ref l0, .int l5]) (st := []) (ci_V lv_Mo_381 rfl rfl t3) rfl rfl rfl (s_Mo_shape l0 l5 M2) (fun M4 => ?_)
  refine B_aload_n rfl ?_
  refine B_iload_n rfl ?_
  refine B_chk (fun t5 => ?_)
  refine C_V (vs := [.ref l0, .int l1]) (st := []) (ci_V lv_Mo_384 rfl rfl t5) rfl rfl rfl (s_Mo_digits l0 l1 M4) (fun M6 => ?_)
  refine B_iload rfl ?_
  exact B_iret rfl
set_option maxRecDepth 100000 in
def b_Mo_slider_159 (G : GT) (l0 : Nat) (l1 : Int32) (l4 : Int32) (l5 : Int32) (l6 : Int32) (M : PH) : Option (Int32 × PH) :=
  if hT M l0 = 11 then if ¬ hI M 2221 l0 = l5 then (b_Mo_slider_187 G l0 l1 l5 l6 M) else ((hR M 2211 l0).bind fun a2 => if hT M a2 = 17 then if 3 < hN M a2 then if hA M a2 3 = 0 then (b_Mo_slider_187 G l0 l1 l5 l6 M) else (if l4 ≤ l6 then (b_Mo_slider_187 G l0 l1 l5 l6 M) else (b_Mo_slider_187 G l0 l1 l5 (l6 + (1 : Int32)) M)) else none else none) else none
set_option maxRecDepth 100000 in
set_option maxHeartbeats 4000000 in
theorem t_Mo_slider_159 {G : GT} (l0 : Nat) (l1 : Int32) (l4 : Int32) (l5 : Int32) (l6 : Int32) (M : PH) : VX G mi_Mo_slider 4 70 159 [some (.ref l0), some (.int l1), none, none, some (.int l4), some (.int l5), some (.int l6)] [] M qI (b_Mo_slider_159 G l0 l1 l4 l5 l6 M) := by
  unfold b_Mo_slider_159
  refine V_open ok_Mo_slider_159 ?_
  refine B_aload_n rfl ?_
  refine B_chk (fun t1 => ?_)
  refine K_getI 11 21 2221 lf_Mo_294 rfl rfl t1 ?_
  refine B_iload rfl ?_
  refine B_ine (tgt := 187) (by decide) ?_ ?_
  · skip
    exact V_weak (ls' := [some (.ref l0), some (.int l1), none, none, none, some (.int l5), some (.int l6)]) ⟨rfl, ⟨rfl, ⟨rfl, ⟨rfl, trivial⟩⟩⟩⟩ (t_Mo_slider_187 l0 l1 l5 l6 M)
  · skip
    refine B_aload_n rfl ?_
    refine K_getR 11 11 2211 lf_Mo_17 rfl rfl t1 (fun a2 r3 => ?_)
    refine B_iconst (3 : Int32) ic_3 ?_
    refine B_chk (fun t4 => ?_)
    refine K_zaldc 3 rfl t4 ?_
    refine B_eq (tgt := 187) (by decide) ?_ ?_
    · skip
      exact V_weak (ls' := [some (.ref l0), some (.int l1), none, none, none, some (.int l5), some (.int l6)]) ⟨rfl, ⟨rfl, ⟨rfl, ⟨rfl, trivial⟩⟩⟩⟩ (t_Mo_slider_187 l0 l1 l5 l6 M)
    · skip
      refine B_iload rfl ?_
      refine B_iload rfl ?_
      refine B_ige (tgt := 187) (by decide) ?_ ?_
      · skip
        exact V_weak (ls' := [some (.ref l0), some (.int l1), none, none, none, some (.int l5), some (.int l6)]) ⟨rfl, ⟨rfl, ⟨rfl, ⟨rfl, trivial⟩⟩⟩⟩ (t_Mo_slider_187 l0 l1 l5 l6 M)
      · skip
        refine S_inc (1 : Int32) [some (.ref l0), some (.int l1), none, none, some (.int l4), some (.int l5), some (.int (l6 + (1 : Int32)))] ic_1 rfl (by decide) rfl ?_
        refine V_close ?_
        exact V_weak (ls' := [some (.ref l0), some (.int l1), none, none, none, some (.int l5), some (.int (l6 + (1 : Int32)))]) ⟨rfl, ⟨rfl, ⟨rfl, ⟨rfl, trivial⟩⟩⟩⟩ (t_Mo_slider_187 l0 l1 l5 (l6 + (1 : Int32)) M)
set_option maxRecDepth 100000 in
def b_Mo_slider_132 (G : GT) (l0 : Nat) (l1 : Int32) (l3 : Int32) (l4 : Int32) (l5 : Int32) (l6 : Int32) (M : PH) : Option (Int32 × PH) :=
  if hT M l0 = 11 then if ¬ hI M 2221 l0 = l5 then (b_Mo_slider_159 G l0 l1 l4 l5 l6 M) else ((hR M 2211 l0).bind fun a2 => if hT M a2 = 17 then if 2 < hN M a2 then if hA M a2 2 = 0 then (b_Mo_slider_159 G l0 l1 l4 l5 l6 M) else (if l6 ≤ l3 then (b_Mo_slider_159 G l0 l1 l4 l5 l6 M) else (b_Mo_slider_159 G l0 l1 l4 l5 (l6 + (-1 : Int32)) M)) else none else none) else none
set_option maxRecDepth 100000 in
set_option maxHeartbeats 4000000 in
theorem t_Mo_slider_132 {G : GT} (l0 : Nat) (l1 : Int32) (l3 : Int32) (l4 : Int32) (l5 : Int32) (l6 : Int32) (M : PH) : VX G mi_Mo_slider 4 70 132 [some (.ref l0), some (.int l1), none, some (.int l3), some (.int l4), some (.int l5), some (.int l6)] [] M qI (b_Mo_slider_132 G l0 l1 l3 l4 l5 l6 M) := by
  unfold b_Mo_slider_132
  refine V_open ok_Mo_slider_132 ?_
  refine B_aload_n rfl ?_
  refine B_chk (fun t1 => ?_)
  refine K_getI 11 21 2221 lf_Mo_294 rfl rfl t1 ?_
  refine B_iload rfl ?_
  refine B_ine (tgt := 159) (by decide) ?_ ?_
  · skip
    exact V_weak (ls' := [some (.ref l0), some (.int l1), none, none, some (.int l4), some (.int l5), some (.int l6)]) ⟨rfl, ⟨rfl, ⟨rfl, ⟨rfl, ⟨rfl, trivial⟩⟩⟩⟩⟩ (t_Mo_slider_159 l0 l1 l4 l5 l6 M)
  · skip
    refine B_aload_n rfl ?_
    refine K_getR 11 11 2211 lf_Mo_17 rfl rfl t1 (fun a2 r3 => ?_)
    refine B_iconst (2 : Int32) ic_2 ?_
    refine B_chk (fun t4 => ?_)
    refine K_zaldc 2 rfl t4 ?_
    refine B_eq (tgt := 159) (by decide) ?_ ?_
    · skip
      exact V_weak (ls' := [some (.ref l0), some (.int l1), none, none, some (.int l4), some (.int l5), some (.int l6)]) ⟨rfl, ⟨rfl, ⟨rfl, ⟨rfl, ⟨rfl, trivial⟩⟩⟩⟩⟩ (t_Mo_slider_159 l0 l1 l4 l5 l6 M)
    · skip
      refine B_iload rfl ?_
      refine B_iload_n rfl ?_
      refine B_ile (tgt := 159) (by decide) ?_ ?_
      · skip
        exact V_weak (ls' := [some (.ref l0), some (.int l1), none, none, some (.int l4), some (.int l5), some (.int l6)]) ⟨rfl, ⟨rfl, ⟨rfl, ⟨rfl, ⟨rfl, trivial⟩⟩⟩⟩⟩ (t_Mo_slider_159 l0 l1 l4 l5 l6 M)
      · skip
        refine S_inc (-1 : Int32) [some (.ref l0), some (.int l1), none, some (.int l3), some (.int l4), some (.int l5), some (.int (l6 + (-1 : Int32)))] ic_m1 rfl (by decide) rfl ?_
        refine V_close ?_
        exact V_weak (ls' := [some (.ref l0), some (.int l1), none, none, some (.int l4), some (.int l5), some (.int (l6 + (-1 : Int32)))]) ⟨rfl, ⟨rfl, ⟨rfl, ⟨rfl, ⟨rfl, trivial⟩⟩⟩⟩⟩ (t_Mo_slider_159 l0 l1 l4 l5 (l6 + (-1 : Int32)) M)
set_option maxRecDepth 100000 in
def b_Mo_slider_47 (G : GT) (l0 : Nat) (l1 : Int32) (l2 : Int32) (l3 : Int32) (l4 : Int32) (s0 : Nat) (s1 : Int32) (M : PH) : Option (Int32 × PH) :=
  if hT M s0 = 11 then bI (f_Mo_bars G s0 s1 M) fun v3 M2 => (if v3 = 0 then (if hT M2 l0 = 11 then bI (f_Mo_lay G l0 l1 l2 (12 : Int32) M2) fun v6 M5 => (if hT M5 l0 = 11 then bI (f_Mo_behaves G l0 v6 M5) fun v9 M8 => (if hT M8 l0 = 11 then bI (f_Mo_numberOf G l0 v6 M8) fun v12 M11 => (bI (f_Mo_between G v12 l3 l4 M11) fun v14 M13 => (if hT M13 l0 = 11 then if ¬ hI M13 2219 l0 = v6 then (b_Mo_slider_132 G l0 l1 l3 l4 v6 v14 M13) else (if hI M13 2209 l0 = 0 then (b_Mo_slider_132 G l0 l1 l3 l4 v6 v14 M13) else ((hR M13 2273 l0).bind fun a16 => if hT M13 a16 = 16 then if 0 < hN M13 a16 then if (l2 - (1 : Int32)) = 0 then none else bI (f_Mo_between G (l3 + ((((hI M13 2203 l0) - (hA M13 a16 0)) * (l4 - l3)) / (l2 - (1 : Int32)))) l3 l4 M13) fun v20 M19 => (b_Mo_slider_132 G l0 l1 l3 l4 v6 v20 M19) else none else none)) else none)) else none) else none) else none) else (some ((0 : Int32), M2))) else none
set_option maxRecDepth 100000 in
set_option maxHeartbeats 4000000 in
theorem t_Mo_slider_47 {G : GT} (l0 : Nat) (l1 : Int32) (l2 : Int32) (l3 : Int32) (l4 : Int32) (s0 : Nat) (s1 : Int32) (M : PH) : VX G mi_Mo_slider 4 70 47 [some (.ref l0), some (.int l1), some (.int l2), some (.int l3), some (.int l4), none, none] [.int s1, .ref s0] M qI (b_Mo_slider_47 G l0 l1 l2 l3 l4 s0 s1 M) := by
  unfold b_Mo_slider_47
  refine V_open ok_Mo_slider_47 ?_
  refine B_chk (fun t1 => ?_)
  refine C_I (vs := [.ref s0, .int s1]) (st := []) (ci_V lv_Mo_371 rfl rfl t1) rfl rfl rfl (s_Mo_bars s0 s1 M) (fun v3 M2 => ?_)
  refine B_eq (tgt := 55) (by decide) ?_ ?_
  · skip
    refine V_open ok_Mo_slider_55 ?_
    refine B_aload_n rfl ?_
    refine B_iload_n rfl ?_
    refine B_iload_n rfl ?_
    refine B_bipush (12 : Int32) bp_12 ?_
    refine B_chk (fun t4 => ?_)
    refine C_I (vs := [.ref l0, .int l1, .int l2, .int (12 : Int32)]) (st := []) (ci_V lv_Mo_375 rfl rfl t4) rfl rfl rfl (s_Mo_lay l0 l1 l2 (12 : Int32) M2) (fun v6 M5 => ?_)
    refine S_i [some (.ref l0), some (.int l1), some (.int l2), some (.int l3), some (.int l4), some (.int v6), none] (by decide) rfl ?_
    refine B_aload_n rfl ?_
    refine B_iload rfl ?_
    refine B_chk (fun t7 => ?_)
    refine C_I (vs := [.ref l0, .int v6]) (st := []) (ci_V lv_Mo_378 rfl rfl t7) rfl rfl rfl (s_Mo_behaves l0 v6 M5) (fun v9 M8 => ?_)
    refine B_pop rfl ?_
    refine B_aload_n rfl ?_
    refine B_iload rfl ?_
    refine B_chk (fun t10 => ?_)
    refine C_I (vs := [.ref l0, .int v6]) (st := []) (ci_V lv_Mo_387 rfl rfl t10) rfl rfl rfl (s_Mo_numberOf l0 v6 M8) (fun v12 M11 => ?_)
    refine B_iload_n rfl ?_
    refine B_iload rfl ?_
    refine C_I (vs := [.int v12, .int l3, .int l4]) (st := []) (ci_S ls_Mo_327 rfl) rfl rfl rfl (s_Mo_between v12 l3 l4 M11) (fun v14 M13 => ?_)
    refine S_i [some (.ref l0), some (.int l1), some (.int l2), some (.int l3), some (.int l4), some (.int v6), some (.int v14)] (by decide) rfl ?_
    refine B_aload_n rfl ?_
    refine B_chk (fun t15 => ?_)
    refine K_getI 11 19 2219 lf_Mo_255 rfl rfl t15 ?_
    refine B_iload rfl ?_
    refine B_ine (tgt := 132) (by decide) ?_ ?_
    · skip
      exact V_weak (ls' := [some (.ref l0), some (.int l1), none, some (.int l3), some (.int l4), some (.int v6), some (.int v14)]) ⟨rfl, ⟨rfl, ⟨rfl, ⟨rfl, ⟨rfl, ⟨rfl, trivial⟩⟩⟩⟩⟩⟩ (t_Mo_slider_132 l0 l1 l3 l4 v6 v14 M13)
    · skip
      refine B_aload_n rfl ?_
      refine K_getI 11 9 2209 lf_Mo_198 rfl rfl t15 ?_
      refine B_eq (tgt := 132) (by decide) ?_ ?_
      · skip
        exact V_weak (ls' := [some (.ref l0), some (.int l1), none, some (.int l3), some (.int l4), some (.int v6), some (.int v14)]) ⟨rfl, ⟨rfl, ⟨rfl, ⟨rfl, ⟨rfl, ⟨rfl, trivial⟩⟩⟩⟩⟩⟩ (t_Mo_slider_132 l0 l1 l3 l4 v6 v14 M13)
      · skip
        refine B_iload_n rfl ?_
        refine B_aload_n rfl ?_
        refine K_getI 11 3 2203 lf_Mo_192 rfl rfl t15 ?_
        refine B_aload_n rfl ?_
        refine K_getR 11 73 2273 lf_Mo_150 rfl rfl t15 (fun a16 r17 => ?_)
        refine B_iconst (0 : Int32) ic_0 ?_
        refine B_chk (fun t18 => ?_)
        refine K_ialdc 0 rfl t18 ?_
        refine B_isub ?_
        refine B_iload rfl ?_
        refine B_iload_n rfl ?_
        refine B_isub ?_
        refine B_imul ?_
        refine B_iload_n rfl ?_
        refine B_iconst (1 : Int32) ic_1 ?_
        refine B_isub ?_
        refine B_idiv ?_
        refine B_iadd ?_
        refine B_iload_n rfl ?_
        refine B_iload rfl ?_
        refine C_I (vs := [.int (l3 + ((((hI M13 2203 l0) - (hA M13 a16 0)) * (l4 - l3)) / (l2 - (1 : Int32)))), .int l3, .int l4]) (st := []) (ci_S ls_Mo_327 rfl) rfl rfl rfl (s_Mo_between (l3 + ((((hI M13 2203 l0) - (hA M13 a16 0)) * (l4 - l3)) / (l2 - (1 : Int32)))) l3 l4 M13) (fun v20 M19 => ?_)
        refine S_i [some (.ref l0), some (.int l1), some (.int l2), some (.int l3), some (.int l4), some (.int v6), some (.int v20)] (by decide) rfl ?_
        refine V_close ?_
        exact V_weak (ls' := [some (.ref l0), some (.int l1), none, some (.int l3), some (.int l4), some (.int v6), some (.int v20)]) ⟨rfl, ⟨rfl, ⟨rfl, ⟨rfl, ⟨rfl, ⟨rfl, trivial⟩⟩⟩⟩⟩⟩ (t_Mo_slider_132 l0 l1 l3 l4 v6 v20 M19)
  · skip
    refine B_iconst (0 : Int32) ic_0 ?_
    exact B_iret rfl
set_option maxRecDepth 100000 in
def b_Mo_slider_46 (G : GT) (l0 : Nat) (l1 : Int32) (l2 : Int32) (l3 : Int32) (l4 : Int32) (s0 : Nat) (M : PH) : Option (Int32 × PH) :=
  b_Mo_slider_47 G l0 l1 l2 l3 l4 s0 (0 : Int32) M
set_option maxRecDepth 100000 in
set_option maxHeartbeats 4000000 in
theorem t_Mo_slider_46 {G : GT} (l0 : Nat) (l1 : Int32) (l2 : Int32) (l3 : Int32) (l4 : Int32) (s0 : Nat) (M : PH) : VX G mi_Mo_slider 4 70 46 [some (.ref l0), some (.int l1), some (.int l2), some (.int l3), some (.int l4), none, none] [.ref s0] M qI (b_Mo_slider_46 G l0 l1 l2 l3 l4 s0 M) := by
  unfold b_Mo_slider_46
  refine V_open ok_Mo_slider_46 ?_
  refine B_iconst (0 : Int32) ic_0 ?_
  refine V_close ?_
  exact V_weak (ls' := [some (.ref l0), some (.int l1), some (.int l2), some (.int l3), some (.int l4), none, none]) ⟨rfl, ⟨rfl, ⟨rfl, ⟨rfl, ⟨rfl, trivial⟩⟩⟩⟩⟩ (t_Mo_slider_47 l0 l1 l2 l3 l4 s0 (0 : Int32) M)
set_option maxRecDepth 100000 in
def f_Mo_slider (G : GT) (l0 : Nat) (l1 : Int32) (l2 : Int32) (l3 : Int32) (l4 : Int32) (M : PH) : Option (Int32 × PH) :=
  if hT M l0 = 11 then bI (f_Mo_isLabel G l0 l1 M) fun v3 M2 => (if v3 = 0 then (b_Mo_slider_46 G l0 l1 l2 l3 l4 l0 M2) else (if l2 < (2 : Int32) then (b_Mo_slider_46 G l0 l1 l2 l3 l4 l0 M2) else (if (200 : Int32) < l2 then (b_Mo_slider_46 G l0 l1 l2 l3 l4 l0 M2) else (if l4 ≤ l3 then (b_Mo_slider_46 G l0 l1 l2 l3 l4 l0 M2) else (if l3 < (-1000 : Int32) then (b_Mo_slider_46 G l0 l1 l2 l3 l4 l0 M2) else (if (1000 : Int32) < l4 then (b_Mo_slider_46 G l0 l1 l2 l3 l4 l0 M2) else (b_Mo_slider_47 G l0 l1 l2 l3 l4 l0 (1 : Int32) M2))))))) else none
set_option maxRecDepth 100000 in
set_option maxHeartbeats 4000000 in
theorem s_Mo_slider {G : GT} (l0 : Nat) (l1 : Int32) (l2 : Int32) (l3 : Int32) (l4 : Int32) (M : PH) : VX G mi_Mo_slider 4 70 0 [some (.ref l0), some (.int l1), some (.int l2), some (.int l3), some (.int l4), none, none] [] M qI (f_Mo_slider G l0 l1 l2 l3 l4 M) := by
  unfold f_Mo_slider
  refine V_open ok_Mo_slider_0 ?_
  refine B_aload_n rfl ?_
  refine B_aload_n rfl ?_
  refine B_iload_n rfl ?_
  refine B_chk (fun t1 => ?_)
  refine C_I (vs := [.ref l0, .int l1]) (st := [.ref l0]) (ci_V lv_Mo_343 rfl rfl t1) rfl rfl rfl (s_Mo_isLabel l0 l1 M) (fun v3 M2 => ?_)
  refine B_eq (tgt := 46) (by decide) ?_ ?_
  · skip
    exact V_weak (ls' := [some (.ref l0), some (.int l1), some (.int l2), some (.int l3), some (.int l4), none, none]) ⟨rfl, ⟨rfl, ⟨rfl, ⟨rfl, ⟨rfl, trivial⟩⟩⟩⟩⟩ (t_Mo_slider_46 l0 l1 l2 l3 l4 l0 M2)
  · skip
    refine B_iload_n rfl ?_
    refine B_iconst (2 : Int32) ic_2 ?_
    refine B_ilt (tgt := 46) (by decide) ?_ ?_
    · skip
      exact V_weak (ls' := [some (.ref l0), some (.int l1), some (.int l2), some (.int l3), some (.int l4), none, none]) ⟨rfl, ⟨rfl, ⟨rfl, ⟨rfl, ⟨rfl, trivial⟩⟩⟩⟩⟩ (t_Mo_slider_46 l0 l1 l2 l3 l4 l0 M2)
    · skip
      refine B_iload_n rfl ?_
      refine B_sipush (200 : Int32) sp_200 ?_
      refine B_igt (tgt := 46) (by decide) ?_ ?_
      · skip
        exact V_weak (ls' := [some (.ref l0), some (.int l1), some (.int l2), some (.int l3), some (.int l4), none, none]) ⟨rfl, ⟨rfl, ⟨rfl, ⟨rfl, ⟨rfl, trivial⟩⟩⟩⟩⟩ (t_Mo_slider_46 l0 l1 l2 l3 l4 l0 M2)
      · skip
        refine B_iload_n rfl ?_
        refine B_iload rfl ?_
        refine B_ige (tgt := 46) (by decide) ?_ ?_
        · skip
          exact V_weak (ls' := [some (.ref l0), some (.int l1), some (.int l2), some (.int l3), some (.int l4), none, none]) ⟨rfl, ⟨rfl, ⟨rfl, ⟨rfl, ⟨rfl, trivial⟩⟩⟩⟩⟩ (t_Mo_slider_46 l0 l1 l2 l3 l4 l0 M2)
        · skip
          refine B_iload_n rfl ?_
          refine B_sipush (-1000 : Int32) sp_m1000 ?_
          refine B_ilt (tgt := 46) (by decide) ?_ ?_
          · skip
            exact V_weak (ls' := [some (.ref l0), some (.int l1), some (.int l2), some (.int l3), some (.int l4), none, none]) ⟨rfl, ⟨rfl, ⟨rfl, ⟨rfl, ⟨rfl, trivial⟩⟩⟩⟩⟩ (t_Mo_slider_46 l0 l1 l2 l3 l4 l0 M2)
          · skip
            refine B_iload rfl ?_
            refine B_sipush (1000 : Int32) sp_1000 ?_
            refine B_igt (tgt := 46) (by decide) ?_ ?_
            · skip
              exact V_weak (ls' := [some (.ref l0), some (.int l1), some (.int l2), some (.int l3), some (.int l4), none, none]) ⟨rfl, ⟨rfl, ⟨rfl, ⟨rfl, ⟨rfl, trivial⟩⟩⟩⟩⟩ (t_Mo_slider_46 l0 l1 l2 l3 l4 l0 M2)
            · skip
              refine B_iconst (1 : Int32) ic_1 ?_
              refine B_goto (tgt := 47) (by decide) ?_
              exact V_weak (ls' := [some (.ref l0), some (.int l1), some (.int l2), some (.int l3), some (.int l4), none, none]) ⟨rfl, ⟨rfl, ⟨rfl, ⟨rfl, ⟨rfl, trivial⟩⟩⟩⟩⟩ (t_Mo_slider_47 l0 l1 l2 l3 l4 l0 (1 : Int32) M2)

-- Store_shift
theorem ok_Store_shift_0 : okb prog_11_method_7_code 0 [(.iload_n 3, 1), (.ifCond .le 54, 3), (.aload_n 0, 1), (.getfield 18, 3), (.iload_n 1, 1), (.iaload, 1), (.iconst 1, 1), (.isub, 1), (.istore 4, 2)] = true := by decide +kernel
theorem ok_Store_shift_14 : okb prog_11_method_7_code 14 [(.iload 4, 2), (.iload_n 2, 1), (.if_icmp .lt 35, 3), (.aload_n 0, 1), (.getfield 24, 3), (.bipush 12, 2), (.iload_n 1, 1), (.imul, 1), (.iload 4, 2), (.iadd, 1), (.iconst 1, 1), (.iadd, 1), (.aload_n 0, 1), (.getfield 24, 3), (.bipush 12, 2), (.iload_n 1, 1), (.imul, 1), (.iload 4, 2), (.iadd, 1), (.baload, 1), (.bastore, 1), (.iinc 4 (-1), 3), (.goto (-35), 3)] = true := by decide +kernel
theorem ok_Store_shift_52 : okb prog_11_method_7_code 52 [(.goto 49, 3)] = true := by decide +kernel
theorem ok_Store_shift_55 : okb prog_11_method_7_code 55 [(.iload_n 2, 1), (.istore 4, 2)] = true := by decide +kernel
theorem ok_Store_shift_58 : okb prog_11_method_7_code 58 [(.iload 4, 2), (.aload_n 0, 1), (.getfield 18, 3), (.iload_n 1, 1), (.iaload, 1), (.if_icmp .ge 35, 3), (.aload_n 0, 1), (.getfield 24, 3), (.bipush 12, 2), (.iload_n 1, 1), (.imul, 1), (.iload 4, 2), (.iadd, 1), (.iconst 1, 1), (.isub, 1), (.aload_n 0, 1), (.getfield 24, 3), (.bipush 12, 2), (.iload_n 1, 1), (.imul, 1), (.iload 4, 2), (.iadd, 1), (.baload, 1), (.bastore, 1), (.iinc 4 1, 3), (.goto (-40), 3)] = true := by decide +kernel
theorem ok_Store_shift_101 : okb prog_11_method_7_code 101 [(.aload_n 0, 1), (.getfield 18, 3), (.iload_n 1, 1), (.dup2, 1), (.iaload, 1), (.iload_n 3, 1), (.iadd, 1), (.iastore, 1), (.aload_n 0, 1), (.getfield 21, 3), (.iload_n 1, 1), (.dup2, 1), (.iaload, 1), (.iload_n 3, 1), (.iadd, 1), (.iastore, 1), (.return_, 1)] = true := by decide +kernel
set_option maxRecDepth 100000 in
def b_Store_shift_101 (G : GT) (l0 : Nat) (l1 : Int32) (l3 : Int32) (M : PH) : Option (PH) :=
  if hT M l0 = 3 then (hR M 602 l0).bind fun a2 => if hT M a2 = 16 then if ib l1 (hN M a2) = true then if ib l1 (hN M a2) = true then hb (sA M a2 l1.toNatClampNeg ((hA M a2 l1.toNatClampNeg) + l3)) fun M6 => ((hR M6 603 l0).bind fun a8 => if hT M6 a8 = 16 then if ib l1 (hN M6 a8) = true then if ib l1 (hN M6 a8) = true then hb (sA M6 a8 l1.toNatClampNeg ((hA M6 a8 l1.toNatClampNeg) + l3)) fun M12 => (some M12) else none else none else none) else none else none else none else none
set_option maxRecDepth 100000 in
set_option maxHeartbeats 4000000 in
theorem t_Store_shift_101 {G : GT} (l0 : Nat) (l1 : Int32) (l3 : Int32) (M : PH) : VX G mi_Store_shift 0 0 101 [some (.ref l0), some (.int l1), none, some (.int l3), none] [] M qV (b_Store_shift_101 G l0 l1 l3 M) := by
  unfold b_Store_shift_101
  refine V_open ok_Store_shift_101 ?_
  refine B_aload_n rfl ?_
  refine B_chk (fun t1 => ?_)
  refine K_getR 3 2 602 lf_Store_18 rfl rfl t1 (fun a2 r3 => ?_)
  refine B_iload_n rfl ?_
  refine B_dup2 rfl rfl ?_
  refine B_chk (fun t4 => ?_)
  refine K_iald t4 ?_
  refine B_iload_n rfl ?_
  refine B_iadd ?_
  refine K_iast t4 (fun M6 e5 => ?_)
  refine B_aload_n rfl ?_
  have h7 : hT M6 l0 = 3 := by rw [e5]; exact t1
  refine K_getR 3 3 603 lf_Store_21 rfl rfl h7 (fun a8 r9 => ?_)
  refine B_iload_n rfl ?_
  refine B_dup2 rfl rfl ?_
  refine B_chk (fun t10 => ?_)
  refine K_iald t10 ?_
  refine B_iload_n rfl ?_
  refine B_iadd ?_
  refine K_iast t10 (fun M12 e11 => ?_)
  exact B_vret rfl
set_option maxRecDepth 100000 in
def b_Store_shift_14 (G : GT) (k14 : Nat → Int32 → Int32 → Int32 → Int32 → PH → Option (PH)) (l0 : Nat) (l1 : Int32) (l2 : Int32) (l3 : Int32) (l4 : Int32) (M : PH) : Option (PH) :=
  if l4 < l2 then (b_Store_shift_101 G l0 l1 l3 M) else (if hT M l0 = 3 then (hR M 604 l0).bind fun a2 => if hT M a2 = 18 then if ib (((12 : Int32) * l1) + l4) (hN M a2) = true then if ib ((((12 : Int32) * l1) + l4) + (1 : Int32)) (hN M a2) = true then hb (sA M a2 ((((12 : Int32) * l1) + l4) + (1 : Int32)).toNatClampNeg (hA M a2 (((12 : Int32) * l1) + l4).toNatClampNeg).toInt8.toInt32) fun M6 => (k14 l0 l1 l2 l3 (l4 + (-1 : Int32)) M6) else none else none else none else none)
set_option maxRecDepth 100000 in
set_option maxHeartbeats 4000000 in
theorem t_Store_shift_14 {G : GT} {k14 : Nat → Int32 → Int32 → Int32 → Int32 → PH → Option (PH)} (hk14 : ∀ (l0 : Nat) (l1 : Int32) (l2 : Int32) (l3 : Int32) (l4 : Int32) (M : PH), VX G mi_Store_shift 0 0 14 [some (.ref l0), some (.int l1), some (.int l2), some (.int l3), some (.int l4)] [] M qV (k14 l0 l1 l2 l3 l4 M)) (l0 : Nat) (l1 : Int32) (l2 : Int32) (l3 : Int32) (l4 : Int32) (M : PH) : VX G mi_Store_shift 0 0 14 [some (.ref l0), some (.int l1), some (.int l2), some (.int l3), some (.int l4)] [] M qV (b_Store_shift_14 G k14 l0 l1 l2 l3 l4 M) := by
  unfold b_Store_shift_14
  refine V_open ok_Store_shift_14 ?_
  refine B_iload rfl ?_
  refine B_iload_n rfl ?_
  refine B_ilt (tgt := 52) (by decide) ?_ ?_
  · skip
    refine V_open ok_Store_shift_52 ?_
    refine B_goto (tgt := 101) (by decide) ?_
    exact V_weak (ls' := [some (.ref l0), some (.int l1), none, some (.int l3), none]) ⟨rfl, ⟨rfl, ⟨rfl, trivial⟩⟩⟩ (t_Store_shift_101 l0 l1 l3 M)
  · skip
    refine B_aload_n rfl ?_
    refine B_chk (fun t1 => ?_)
    refine K_getR 3 4 604 lf_Store_24 rfl rfl t1 (fun a2 r3 => ?_)
    refine B_bipush (12 : Int32) bp_12 ?_
    refine B_iload_n rfl ?_
    refine B_imul ?_
    refine B_iload rfl ?_
    refine B_iadd ?_
    refine B_iconst (1 : Int32) ic_1 ?_
    refine B_iadd ?_
    refine B_aload_n rfl ?_
    refine K_getRk 3 4 604 lf_Store_24 rfl rfl t1 r3 ?_
    refine B_bipush (12 : Int32) bp_12 ?_
    refine B_iload_n rfl ?_
    refine B_imul ?_
    refine B_iload rfl ?_
    refine B_iadd ?_
    refine B_chk (fun t4 => ?_)
    refine K_bald t4 ?_
    refine K_bast t4 (fun M6 e5 => ?_)
    refine S_inc (-1 : Int32) [some (.ref l0), some (.int l1), some (.int l2), some (.int l3), some (.int (l4 + (-1 : Int32)))] ic_m1 rfl (by decide) rfl ?_
    refine B_goto (tgt := 14) (by decide) ?_
    exact V_weak (ls' := [some (.ref l0), some (.int l1), some (.int l2), some (.int l3), some (.int (l4 + (-1 : Int32)))]) ⟨rfl, ⟨rfl, ⟨rfl, ⟨rfl, ⟨rfl, trivial⟩⟩⟩⟩⟩ (hk14 l0 l1 l2 l3 (l4 + (-1 : Int32)) M6)
set_option maxRecDepth 100000 in
def w_Store_shift_14 (G : GT) : Nat → Nat → Int32 → Int32 → Int32 → Int32 → PH → Option (PH)
  | 0 => fun _ _ _ _ _ _ => none
  | n + 1 => b_Store_shift_14 G (w_Store_shift_14 G n)
set_option maxRecDepth 100000 in
set_option maxHeartbeats 4000000 in
theorem tw_Store_shift_14 {G : GT} : ∀ (n : Nat) (l0 : Nat) (l1 : Int32) (l2 : Int32) (l3 : Int32) (l4 : Int32) (M : PH), VX G mi_Store_shift 0 0 14 [some (.ref l0), some (.int l1), some (.int l2), some (.int l3), some (.int l4)] [] M qV (w_Store_shift_14 G n l0 l1 l2 l3 l4 M)
  | 0, _, _, _, _, _, _ => X_none
  | n + 1, l0, l1, l2, l3, l4, M => t_Store_shift_14 (tw_Store_shift_14 n) l0 l1 l2 l3 l4 M
set_option maxRecDepth 100000 in
def b_Store_shift_58 (G : GT) (k58 : Nat → Int32 → Int32 → Int32 → PH → Option (PH)) (l0 : Nat) (l1 : Int32) (l3 : Int32) (l4 : Int32) (M : PH) : Option (PH) :=
  if hT M l0 = 3 then (hR M 602 l0).bind fun a2 => if hT M a2 = 16 then if ib l1 (hN M a2) = true then if hA M a2 l1.toNatClampNeg ≤ l4 then (b_Store_shift_101 G l0 l1 l3 M) else ((hR M 604 l0).bind fun a5 => if hT M a5 = 18 then if ib (((12 : Int32) * l1) + l4) (hN M a5) = true then if ib ((((12 : Int32) * l1) + l4) - (1 : Int32)) (hN M a5) = true then hb (sA M a5 ((((12 : Int32) * l1) + l4) - (1 : Int32)).toNatClampNeg (hA M a5 (((12 : Int32) * l1) + l4).toNatClampNeg).toInt8.toInt32) fun M9 => (k58 l0 l1 l3 (l4 + (1 : Int32)) M9) else none else none else none) else none else none else none
set_option maxRecDepth 100000 in
set_option maxHeartbeats 4000000 in
theorem t_Store_shift_58 {G : GT} {k58 : Nat → Int32 → Int32 → Int32 → PH → Option (PH)} (hk58 : ∀ (l0 : Nat) (l1 : Int32) (l3 : Int32) (l4 : Int32) (M : PH), VX G mi_Store_shift 0 0 58 [some (.ref l0), some (.int l1), none, some (.int l3), some (.int l4)] [] M qV (k58 l0 l1 l3 l4 M)) (l0 : Nat) (l1 : Int32) (l3 : Int32) (l4 : Int32) (M : PH) : VX G mi_Store_shift 0 0 58 [some (.ref l0), some (.int l1), none, some (.int l3), some (.int l4)] [] M qV (b_Store_shift_58 G k58 l0 l1 l3 l4 M) := by
  unfold b_Store_shift_58
  refine V_open ok_Store_shift_58 ?_
  refine B_iload rfl ?_
  refine B_aload_n rfl ?_
  refine B_chk (fun t1 => ?_)
  refine K_getR 3 2 602 lf_Store_18 rfl rfl t1 (fun a2 r3 => ?_)
  refine B_iload_n rfl ?_
  refine B_chk (fun t4 => ?_)
  refine K_iald t4 ?_
  refine B_ige (tgt := 101) (by decide) ?_ ?_
  · skip
    exact V_weak (ls' := [some (.ref l0), some (.int l1), none, some (.int l3), none]) ⟨rfl, ⟨rfl, ⟨rfl, trivial⟩⟩⟩ (t_Store_shift_101 l0 l1 l3 M)
  · skip
    refine B_aload_n rfl ?_
    refine K_getR 3 4 604 lf_Store_24 rfl rfl t1 (fun a5 r6 => ?_)
    refine B_bipush (12 : Int32) bp_12 ?_
    refine B_iload_n rfl ?_
    refine B_imul ?_
    refine B_iload rfl ?_
    refine B_iadd ?_
    refine B_iconst (1 : Int32) ic_1 ?_
    refine B_isub ?_
    refine B_aload_n rfl ?_
    refine K_getRk 3 4 604 lf_Store_24 rfl rfl t1 r6 ?_
    refine B_bipush (12 : Int32) bp_12 ?_
    refine B_iload_n rfl ?_
    refine B_imul ?_
    refine B_iload rfl ?_
    refine B_iadd ?_
    refine B_chk (fun t7 => ?_)
    refine K_bald t7 ?_
    refine K_bast t7 (fun M9 e8 => ?_)
    refine S_inc (1 : Int32) [some (.ref l0), some (.int l1), none, some (.int l3), some (.int (l4 + (1 : Int32)))] ic_1 rfl (by decide) rfl ?_
    refine B_goto (tgt := 58) (by decide) ?_
    exact V_weak (ls' := [some (.ref l0), some (.int l1), none, some (.int l3), some (.int (l4 + (1 : Int32)))]) ⟨rfl, ⟨rfl, ⟨rfl, ⟨rfl, trivial⟩⟩⟩⟩ (hk58 l0 l1 l3 (l4 + (1 : Int32)) M9)
set_option maxRecDepth 100000 in
def w_Store_shift_58 (G : GT) : Nat → Nat → Int32 → Int32 → Int32 → PH → Option (PH)
  | 0 => fun _ _ _ _ _ => none
  | n + 1 => b_Store_shift_58 G (w_Store_shift_58 G n)
set_option maxRecDepth 100000 in
set_option maxHeartbeats 4000000 in
theorem tw_Store_shift_58 {G : GT} : ∀ (n : Nat) (l0 : Nat) (l1 : Int32) (l3 : Int32) (l4 : Int32) (M : PH), VX G mi_Store_shift 0 0 58 [some (.ref l0), some (.int l1), none, some (.int l3), some (.int l4)] [] M qV (w_Store_shift_58 G n l0 l1 l3 l4 M)
  | 0, _, _, _, _, _ => X_none
  | n + 1, l0, l1, l3, l4, M => t_Store_shift_58 (tw_Store_shift_58 n) l0 l1 l3 l4 M
set_option maxRecDepth 100000 in
def f_Store_shift (G : GT) (l0 : Nat) (l1 : Int32) (l2 : Int32) (l3 : Int32) (M : PH) : Option (PH) :=
  if l3 ≤ 0 then (w_Store_shift_58 G FU l0 l1 l3 l2 M) else (if hT M l0 = 3 then (hR M 602 l0).bind fun a2 => if hT M a2 = 16 then if ib l1 (hN M a2) = true then vb ((hA M a2 l1.toNatClampNeg) - (1 : Int32)) fun v5 => w_Store_shift_14 G FU l0 l1 l2 l3 v5 M else none else none else none)
set_option maxRecDepth 100000 in
set_option maxHeartbeats 4000000 in
theorem s_Store_shift {G : GT} (l0 : Nat) (l1 : Int32) (l2 : Int32) (l3 : Int32) (M : PH) : VX G mi_Store_shift 0 0 0 [some (.ref l0), some (.int l1), some (.int l2), some (.int l3), none] [] M qV (f_Store_shift G l0 l1 l2 l3 M) := by
  unfold f_Store_shift
  refine V_open ok_Store_shift_0 ?_
  refine B_iload_n rfl ?_
  refine B_le (tgt := 55) (by decide) ?_ ?_
  · skip
    refine V_open ok_Store_shift_55 ?_
    refine B_iload_n rfl ?_
    refine S_i [some (.ref l0), some (.int l1), some (.int l2), some (.int l3), some (.int l2)] (by decide) rfl ?_
    refine V_close ?_
    exact V_weak (ls' := [some (.ref l0), some (.int l1), none, some (.int l3), some (.int l2)]) ⟨rfl, ⟨rfl, ⟨rfl, ⟨rfl, trivial⟩⟩⟩⟩ (tw_Store_shift_58 FU l0 l1 l3 l2 M)
  · skip
    refine B_aload_n rfl ?_
    refine B_chk (fun t1 => ?_)
    refine K_getR 3 2 602 lf_Store_18 rfl rfl t1 (fun a2 r3 => ?_)
    refine B_iload_n rfl ?_
    refine B_chk (fun t4 => ?_)
    refine K_iald t4 ?_
    refine B_iconst (1 : Int32) ic_1 ?_
    refine B_isub ?_
    refine B_vb (fun v5 => ?_)
    refine S_i [some (.ref l0), some (.int l1), some (.int l2), some (.int l3), some (.int v5)] (by decide) rfl ?_
    refine V_close ?_
    exact V_weak (ls' := [some (.ref l0), some (.int l1), some (.int l2), some (.int l3), some (.int v5)]) ⟨rfl, ⟨rfl, ⟨rfl, ⟨rfl, ⟨rfl, trivial⟩⟩⟩⟩⟩ (tw_Store_shift_14 FU l0 l1 l2 l3 v5 M)
