-- Store_edit
theorem ok_Store_edit_0 : okb prog_11_method_8_code 0 [(.aload_n 0, 1), (.iload_n 1, 1), (.invokevirtual 36, 3), (.istore_n 3, 1), (.iload_n 3, 1), (.ifCond .lt 111, 3), (.aload_n 2, 1), (.getfield 42, 3), (.iconst 5, 1), (.baload, 1), (.ifCond .eq 10, 3), (.aload_n 0, 1), (.getfield 21, 3), (.iload_n 3, 1), (.iconst 0, 1), (.iastore, 1)] = true := by decide +kernel
theorem ok_Store_edit_26 : okb prog_11_method_8_code 26 [(.aload_n 2, 1), (.getfield 42, 3), (.iconst 2, 1), (.baload, 1), (.ifCond .eq 22, 3), (.aload_n 0, 1), (.getfield 21, 3), (.iload_n 3, 1), (.iaload, 1), (.ifCond .le 13, 3), (.aload_n 0, 1), (.getfield 21, 3), (.iload_n 3, 1), (.dup2, 1), (.iaload, 1), (.iconst 1, 1), (.isub, 1), (.iastore, 1)] = true := by decide +kernel
theorem ok_Store_edit_54 : okb prog_11_method_8_code 54 [(.aload_n 2, 1), (.getfield 42, 3), (.iconst 3, 1), (.baload, 1), (.ifCond .eq 28, 3), (.aload_n 0, 1), (.getfield 21, 3), (.iload_n 3, 1), (.iaload, 1), (.aload_n 0, 1), (.getfield 18, 3), (.iload_n 3, 1), (.iaload, 1), (.if_icmp .ge 13, 3), (.aload_n 0, 1), (.getfield 21, 3), (.iload_n 3, 1), (.dup2, 1), (.iaload, 1), (.iconst 1, 1), (.iadd, 1), (.iastore, 1)] = true := by decide +kernel
theorem ok_Store_edit_88 : okb prog_11_method_8_code 88 [(.aload_n 2, 1), (.getfield 42, 3), (.iconst 4, 1), (.baload, 1), (.ifCond .eq 24, 3), (.aload_n 0, 1), (.getfield 21, 3), (.iload_n 3, 1), (.iaload, 1), (.ifCond .le 15, 3), (.aload_n 0, 1), (.iload_n 3, 1), (.aload_n 0, 1), (.getfield 21, 3), (.iload_n 3, 1), (.iaload, 1), (.iconst (-1), 1), (.invokevirtual 48, 3)] = true := by decide +kernel
theorem ok_Store_edit_118 : okb prog_11_method_8_code 118 [(.iconst 0, 1), (.istore 4, 2)] = true := by decide +kernel
theorem ok_Store_edit_121 : okb prog_11_method_8_code 121 [(.iload 4, 2), (.aload_n 2, 1), (.getfield 52, 3), (.if_icmp .ge 73, 3), (.iload_n 3, 1), (.ifCond .ge 9, 3), (.aload_n 0, 1), (.iload_n 1, 1), (.invokevirtual 39, 3), (.istore_n 3, 1)] = true := by decide +kernel
theorem ok_Store_edit_140 : okb prog_11_method_8_code 140 [(.iload_n 3, 1), (.ifCond .lt 14, 3), (.aload_n 0, 1), (.getfield 18, 3), (.iload_n 3, 1), (.iaload, 1), (.bipush 12, 2), (.if_icmp .ne 4, 3), (.return_, 1)] = true := by decide +kernel
theorem ok_Store_edit_155 : okb prog_11_method_8_code 155 [(.return_, 1)] = true := by decide +kernel
theorem ok_Store_edit_156 : okb prog_11_method_8_code 156 [(.aload_n 0, 1), (.iload_n 3, 1), (.aload_n 0, 1), (.getfield 21, 3), (.iload_n 3, 1), (.iaload, 1), (.iconst 1, 1), (.invokevirtual 48, 3), (.aload_n 0, 1), (.getfield 24, 3), (.bipush 12, 2), (.iload_n 3, 1), (.imul, 1), (.aload_n 0, 1), (.getfield 21, 3), (.iload_n 3, 1), (.iaload, 1), (.iadd, 1), (.iconst 1, 1), (.isub, 1), (.aload_n 2, 1), (.getfield 54, 3), (.iload 4, 2), (.iaload, 1), (.i2b, 1), (.bastore, 1), (.iinc 4 1, 3), (.goto (-76), 3)] = true := by decide +kernel
theorem ok_Store_edit_200 : okb prog_11_method_8_code 200 [(.return_, 1)] = true := by decide +kernel
set_option maxRecDepth 100000 in
def b_Store_edit_140 (G : GT) (k121 : Nat → Int32 → Nat → Int32 → Int32 → PH → Option (PH)) (l0 : Nat) (l1 : Int32) (l2 : Nat) (l3 : Int32) (l4 : Int32) (M : PH) : Option (PH) :=
  if l3 < 0 then (some M) else (if hT M l0 = 3 then (hR M 602 l0).bind fun a2 => if hT M a2 = 16 then if ib l3 (hN M a2) = true then if ¬ hA M a2 l3.toNatClampNeg = (12 : Int32) then ((hR M 603 l0).bind fun a5 => if hT M a5 = 16 then if ib l3 (hN M a5) = true then bV (f_Store_shift G l0 l3 (hA M a5 l3.toNatClampNeg) (1 : Int32) M) fun M8 => (if hT M8 l0 = 3 then (hR M8 604 l0).bind fun a10 => (hR M8 603 l0).bind fun a12 => if hT M8 a12 = 16 then if ib l3 (hN M8 a12) = true then if hT M8 l2 = 2 then (hR M8 415 l2).bind fun a16 => if hT M8 a16 = 16 then if ib l4 (hN M8 a16) = true then if hT M8 a10 = 18 then if ib ((((12 : Int32) * l3) + (hA M8 a12 l3.toNatClampNeg)) - (1 : Int32)) (hN M8 a10) = true then hb (sA M8 a10 ((((12 : Int32) * l3) + (hA M8 a12 l3.toNatClampNeg)) - (1 : Int32)).toNatClampNeg ((hA M8 a16 l4.toNatClampNeg).toInt8.toInt32).toInt8.toInt32) fun M21 => (k121 l0 l1 l2 l3 (l4 + (1 : Int32)) M21) else none else none else none else none else none else none else none else none) else none else none) else (some M) else none else none else none)
set_option maxRecDepth 100000 in
set_option maxHeartbeats 4000000 in
theorem t_Store_edit_140 {G : GT} {k121 : Nat → Int32 → Nat → Int32 → Int32 → PH → Option (PH)} (hk121 : ∀ (l0 : Nat) (l1 : Int32) (l2 : Nat) (l3 : Int32) (l4 : Int32) (M : PH), VX G mi_Store_edit 2 28 121 [some (.ref l0), some (.int l1), some (.ref l2), some (.int l3), some (.int l4)] [] M qV (k121 l0 l1 l2 l3 l4 M)) (l0 : Nat) (l1 : Int32) (l2 : Nat) (l3 : Int32) (l4 : Int32) (M : PH) : VX G mi_Store_edit 2 28 140 [some (.ref l0), some (.int l1), some (.ref l2), some (.int l3), some (.int l4)] [] M qV (b_Store_edit_140 G k121 l0 l1 l2 l3 l4 M) := by
  unfold b_Store_edit_140
  refine V_open ok_Store_edit_140 ?_
  refine B_iload_n rfl ?_
  refine B_lt (tgt := 155) (by decide) ?_ ?_
  · skip
    refine V_open ok_Store_edit_155 ?_
    exact B_vret rfl
  · skip
    refine B_aload_n rfl ?_
    refine B_chk (fun t1 => ?_)
    refine K_getR 3 2 602 lf_Store_18 rfl rfl t1 (fun a2 r3 => ?_)
    refine B_iload_n rfl ?_
    refine B_chk (fun t4 => ?_)
    refine K_iald t4 ?_
    refine B_bipush (12 : Int32) bp_12 ?_
    refine B_ine (tgt := 156) (by decide) ?_ ?_
    · skip
      refine V_open ok_Store_edit_156 ?_
      refine B_aload_n rfl ?_
      refine B_iload_n rfl ?_
      refine B_aload_n rfl ?_
      refine K_getR 3 3 603 lf_Store_21 rfl rfl t1 (fun a5 r6 => ?_)
      refine B_iload_n rfl ?_
      refine B_chk (fun t7 => ?_)
      refine K_iald t7 ?_
      refine B_iconst (1 : Int32) ic_1 ?_
      refine C_V (vs := [.ref l0, .int l3, .int (hA M a5 l3.toNatClampNeg), .int (1 : Int32)]) (st := []) (ci_V lv_Store_48 rfl rfl t1) rfl rfl rfl (s_Store_shift l0 l3 (hA M a5 l3.toNatClampNeg) (1 : Int32) M) (fun M8 => ?_)
      refine B_aload_n rfl ?_
      refine B_chk (fun t9 => ?_)
      refine K_getR 3 4 604 lf_Store_24 rfl rfl t9 (fun a10 r11 => ?_)
      refine B_bipush (12 : Int32) bp_12 ?_
      refine B_iload_n rfl ?_
      refine B_imul ?_
      refine B_aload_n rfl ?_
      refine K_getR 3 3 603 lf_Store_21 rfl rfl t9 (fun a12 r13 => ?_)
      refine B_iload_n rfl ?_
      refine B_chk (fun t14 => ?_)
      refine K_iald t14 ?_
      refine B_iadd ?_
      refine B_iconst (1 : Int32) ic_1 ?_
      refine B_isub ?_
      refine B_aload_n rfl ?_
      refine B_chk (fun t15 => ?_)
      refine K_getR 2 15 415 lf_Store_54 rfl rfl t15 (fun a16 r17 => ?_)
      refine B_iload rfl ?_
      refine B_chk (fun t18 => ?_)
      refine K_iald t18 ?_
      refine B_i2b ?_
      refine B_chk (fun t19 => ?_)
      refine K_bast t19 (fun M21 e20 => ?_)
      refine S_inc (1 : Int32) [some (.ref l0), some (.int l1), some (.ref l2), some (.int l3), some (.int (l4 + (1 : Int32)))] ic_1 rfl (by decide) rfl ?_
      refine B_goto (tgt := 121) (by decide) ?_
      exact V_weak (ls' := [some (.ref l0), some (.int l1), some (.ref l2), some (.int l3), some (.int (l4 + (1 : Int32)))]) ⟨rfl, ⟨rfl, ⟨rfl, ⟨rfl, ⟨rfl, trivial⟩⟩⟩⟩⟩ (hk121 l0 l1 l2 l3 (l4 + (1 : Int32)) M21)
    · skip
      exact B_vret rfl
set_option maxRecDepth 100000 in
def b_Store_edit_121 (G : GT) (k121 : Nat → Int32 → Nat → Int32 → Int32 → PH → Option (PH)) (l0 : Nat) (l1 : Int32) (l2 : Nat) (l3 : Int32) (l4 : Int32) (M : PH) : Option (PH) :=
  if hT M l2 = 2 then if hI M 408 l2 ≤ l4 then (some M) else (if 0 ≤ l3 then (b_Store_edit_140 G k121 l0 l1 l2 l3 l4 M) else (if hT M l0 = 3 then bI (f_Store_make G l0 l1 M) fun v4 M3 => (b_Store_edit_140 G k121 l0 l1 l2 v4 l4 M3) else none)) else none
set_option maxRecDepth 100000 in
set_option maxHeartbeats 4000000 in
theorem t_Store_edit_121 {G : GT} {k121 : Nat → Int32 → Nat → Int32 → Int32 → PH → Option (PH)} (hk121 : ∀ (l0 : Nat) (l1 : Int32) (l2 : Nat) (l3 : Int32) (l4 : Int32) (M : PH), VX G mi_Store_edit 2 28 121 [some (.ref l0), some (.int l1), some (.ref l2), some (.int l3), some (.int l4)] [] M qV (k121 l0 l1 l2 l3 l4 M)) (l0 : Nat) (l1 : Int32) (l2 : Nat) (l3 : Int32) (l4 : Int32) (M : PH) : VX G mi_Store_edit 2 28 121 [some (.ref l0), some (.int l1), some (.ref l2), some (.int l3), some (.int l4)] [] M qV (b_Store_edit_121 G k121 l0 l1 l2 l3 l4 M) := by
  unfold b_Store_edit_121
  refine V_open ok_Store_edit_121 ?_
  refine B_iload rfl ?_
  refine B_aload_n rfl ?_
  refine B_chk (fun t1 => ?_)
  refine K_getI 2 8 408 lf_Store_52 rfl rfl t1 ?_
  refine B_ige (tgt := 200) (by decide) ?_ ?_
  · skip
    refine V_open ok_Store_edit_200 ?_
    exact B_vret rfl
  · skip
    refine B_iload_n rfl ?_
    refine B_ge (tgt := 140) (by decide) ?_ ?_
    · skip
      exact V_weak (ls' := [some (.ref l0), some (.int l1), some (.ref l2), some (.int l3), some (.int l4)]) ⟨rfl, ⟨rfl, ⟨rfl, ⟨rfl, ⟨rfl, trivial⟩⟩⟩⟩⟩ (t_Store_edit_140 hk121 l0 l1 l2 l3 l4 M)
    · skip
      refine B_aload_n rfl ?_
      refine B_iload_n rfl ?_
      refine B_chk (fun t2 => ?_)
      refine C_I (vs := [.ref l0, .int l1]) (st := []) (ci_V lv_Store_39 rfl rfl t2) rfl rfl rfl (s_Store_make l0 l1 M) (fun v4 M3 => ?_)
      refine S_in [some (.ref l0), some (.int l1), some (.ref l2), some (.int v4), some (.int l4)] (by decide) rfl ?_
      refine V_close ?_
      exact V_weak (ls' := [some (.ref l0), some (.int l1), some (.ref l2), some (.int v4), some (.int l4)]) ⟨rfl, ⟨rfl, ⟨rfl, ⟨rfl, ⟨rfl, trivial⟩⟩⟩⟩⟩ (t_Store_edit_140 hk121 l0 l1 l2 v4 l4 M3)
set_option maxRecDepth 100000 in
def w_Store_edit_121 (G : GT) : Nat → Nat → Int32 → Nat → Int32 → Int32 → PH → Option (PH)
  | 0 => fun _ _ _ _ _ _ => none
  | n + 1 => b_Store_edit_121 G (w_Store_edit_121 G n)
set_option maxRecDepth 100000 in
set_option maxHeartbeats 4000000 in
theorem tw_Store_edit_121 {G : GT} : ∀ (n : Nat) (l0 : Nat) (l1 : Int32) (l2 : Nat) (l3 : Int32) (l4 : Int32) (M : PH), VX G mi_Store_edit 2 28 121 [some (.ref l0), some (.int l1), some (.ref l2), some (.int l3), some (.int l4)] [] M qV (w_Store_edit_121 G n l0 l1 l2 l3 l4 M)
  | 0, _, _, _, _, _, _ => X_none
  | n + 1, l0, l1, l2, l3, l4, M => t_Store_edit_121 (tw_Store_edit_121 n) l0 l1 l2 l3 l4 M
set_option maxRecDepth 100000 in
def b_Store_edit_118 (G : GT) (l0 : Nat) (l1 : Int32) (l2 : Nat) (l3 : Int32) (M : PH) : Option (PH) :=
  w_Store_edit_121 G FU l0 l1 l2 l3 (0 : Int32) M
set_option maxRecDepth 100000 in
set_option maxHeartbeats 4000000 in
theorem t_Store_edit_118 {G : GT} (l0 : Nat) (l1 : Int32) (l2 : Nat) (l3 : Int32) (M : PH) : VX G mi_Store_edit 2 28 118 [some (.ref l0), some (.int l1), some (.ref l2), some (.int l3), none] [] M qV (b_Store_edit_118 G l0 l1 l2 l3 M) := by
  unfold b_Store_edit_118
  refine V_open ok_Store_edit_118 ?_
  refine B_iconst (0 : Int32) ic_0 ?_
  refine S_i [some (.ref l0), some (.int l1), some (.ref l2), some (.int l3), some (.int (0 : Int32))] (by decide) rfl ?_
  refine V_close ?_
  exact V_weak (ls' := [some (.ref l0), some (.int l1), some (.ref l2), some (.int l3), some (.int (0 : Int32))]) ⟨rfl, ⟨rfl, ⟨rfl, ⟨rfl, ⟨rfl, trivial⟩⟩⟩⟩⟩ (tw_Store_edit_121 FU l0 l1 l2 l3 (0 : Int32) M)
set_option maxRecDepth 100000 in
def b_Store_edit_88 (G : GT) (l0 : Nat) (l1 : Int32) (l2 : Nat) (l3 : Int32) (M : PH) : Option (PH) :=
  if hT M l2 = 2 then (hR M 413 l2).bind fun a2 => if hT M a2 = 17 then if 4 < hN M a2 then if hA M a2 4 = 0 then (b_Store_edit_118 G l0 l1 l2 l3 M) else (if hT M l0 = 3 then (hR M 603 l0).bind fun a6 => if hT M a6 = 16 then if ib l3 (hN M a6) = true then if hA M a6 l3.toNatClampNeg ≤ 0 then (b_Store_edit_118 G l0 l1 l2 l3 M) else (if ib l3 (hN M a6) = true then bV (f_Store_shift G l0 l3 (hA M a6 l3.toNatClampNeg) (-1 : Int32) M) fun M9 => (b_Store_edit_118 G l0 l1 l2 l3 M9) else none) else none else none else none) else none else none else none
set_option maxRecDepth 100000 in
set_option maxHeartbeats 4000000 in
theorem t_Store_edit_88 {G : GT} (l0 : Nat) (l1 : Int32) (l2 : Nat) (l3 : Int32) (M : PH) : VX G mi_Store_edit 2 28 88 [some (.ref l0), some (.int l1), some (.ref l2), some (.int l3), none] [] M qV (b_Store_edit_88 G l0 l1 l2 l3 M) := by
  unfold b_Store_edit_88
  refine V_open ok_Store_edit_88 ?_
  refine B_aload_n rfl ?_
  refine B_chk (fun t1 => ?_)
  refine K_getR 2 13 413 lf_Store_42 rfl rfl t1 (fun a2 r3 => ?_)
  refine B_iconst (4 : Int32) ic_4 ?_
  refine B_chk (fun t4 => ?_)
  refine K_zaldc 4 rfl t4 ?_
  refine B_eq (tgt := 118) (by decide) ?_ ?_
  · skip
    exact V_weak (ls' := [some (.ref l0), some (.int l1), some (.ref l2), some (.int l3), none]) ⟨rfl, ⟨rfl, ⟨rfl, ⟨rfl, trivial⟩⟩⟩⟩ (t_Store_edit_118 l0 l1 l2 l3 M)
  · skip
    refine B_aload_n rfl ?_
    refine B_chk (fun t5 => ?_)
    refine K_getR 3 3 603 lf_Store_21 rfl rfl t5 (fun a6 r7 => ?_)
    refine B_iload_n rfl ?_
    refine B_chk (fun t8 => ?_)
    refine K_iald t8 ?_
    refine B_le (tgt := 118) (by decide) ?_ ?_
    · skip
      exact V_weak (ls' := [some (.ref l0), some (.int l1), some (.ref l2), some (.int l3), none]) ⟨rfl, ⟨rfl, ⟨rfl, ⟨rfl, trivial⟩⟩⟩⟩ (t_Store_edit_118 l0 l1 l2 l3 M)
    · skip
      refine B_aload_n rfl ?_
      refine B_iload_n rfl ?_
      refine B_aload_n rfl ?_
      refine K_getRk 3 3 603 lf_Store_21 rfl rfl t5 r7 ?_
      refine B_iload_n rfl ?_
      refine K_iald t8 ?_
      refine B_iconst (-1 : Int32) ic_m1 ?_
      refine C_V (vs := [.ref l0, .int l3, .int (hA M a6 l3.toNatClampNeg), .int (-1 : Int32)]) (st := []) (ci_V lv_Store_48 rfl rfl t5) rfl rfl rfl (s_Store_shift l0 l3 (hA M a6 l3.toNatClampNeg) (-1 : Int32) M) (fun M9 => ?_)
      refine V_close ?_
      exact V_weak (ls' := [some (.ref l0), some (.int l1), some (.ref l2), some (.int l3), none]) ⟨rfl, ⟨rfl, ⟨rfl, ⟨rfl, trivial⟩⟩⟩⟩ (t_Store_edit_118 l0 l1 l2 l3 M9)
set_option maxRecDepth 100000 in
def b_Store_edit_54 (G : GT) (l0 : Nat) (l1 : Int32) (l2 : Nat) (l3 : Int32) (M : PH) : Option (PH) :=
  if hT M l2 = 2 then (hR M 413 l2).bind fun a2 => if hT M a2 = 17 then if 3 < hN M a2 then if hA M a2 3 = 0 then (b_Store_edit_88 G l0 l1 l2 l3 M) else (if hT M l0 = 3 then (hR M 603 l0).bind fun a6 => if hT M a6 = 16 then if ib l3 (hN M a6) = true then (hR M 602 l0).bind fun a9 => if hT M a9 = 16 then if ib l3 (hN M a9) = true then if hA M a9 l3.toNatClampNeg ≤ hA M a6 l3.toNatClampNeg then (b_Store_edit_88 G l0 l1 l2 l3 M) else (if ib l3 (hN M a6) = true then if ib l3 (hN M a6) = true then hb (sA M a6 l3.toNatClampNeg ((hA M a6 l3.toNatClampNeg) + (1 : Int32))) fun M13 => (b_Store_edit_88 G l0 l1 l2 l3 M13) else none else none) else none else none else none else none else none) else none else none else none
set_option maxRecDepth 100000 in
set_option maxHeartbeats 4000000 in
theorem t_Store_edit_54 {G : GT} (l0 : Nat) (l1 : Int32) (l2 : Nat) (l3 : Int32) (M : PH) : VX G mi_Store_edit 2 28 54 [some (.ref l0), some (.int l1), some (.ref l2), some (.int l3), none] [] M qV (b_Store_edit_54 G l0 l1 l2 l3 M) := by
  unfold b_Store_edit_54
  refine V_open ok_Store_edit_54 ?_
  refine B_aload_n rfl ?_
  refine B_chk (fun t1 => ?_)
  refine K_getR 2 13 413 lf_Store_42 rfl rfl t1 (fun a2 r3 => ?_)
  refine B_iconst (3 : Int32) ic_3 ?_
  refine B_chk (fun t4 => ?_)
  refine K_zaldc 3 rfl t4 ?_
  refine B_eq (tgt := 88) (by decide) ?_ ?_
  · skip
    exact V_weak (ls' := [some (.ref l0), some (.int l1), some (.ref l2), some (.int l3), none]) ⟨rfl, ⟨rfl, ⟨rfl, ⟨rfl, trivial⟩⟩⟩⟩ (t_Store_edit_88 l0 l1 l2 l3 M)
  · skip
    refine B_aload_n rfl ?_
    refine B_chk (fun t5 => ?_)
    refine K_getR 3 3 603 lf_Store_21 rfl rfl t5 (fun a6 r7 => ?_)
    refine B_iload_n rfl ?_
    refine B_chk (fun t8 => ?_)
    refine K_iald t8 ?_
    refine B_aload_n rfl ?_
    refine K_getR 3 2 602 lf_Store_18 rfl rfl t5 (fun a9 r10 => ?_)
    refine B_iload_n rfl ?_
    refine B_chk (fun t11 => ?_)
    refine K_iald t11 ?_
    refine B_ige (tgt := 88) (by decide) ?_ ?_
    · skip
      exact V_weak (ls' := [some (.ref l0), some (.int l1), some (.ref l2), some (.int l3), none]) ⟨rfl, ⟨rfl, ⟨rfl, ⟨rfl, trivial⟩⟩⟩⟩ (t_Store_edit_88 l0 l1 l2 l3 M)
    · skip
      refine B_aload_n rfl ?_
      refine K_getRk 3 3 603 lf_Store_21 rfl rfl t5 r7 ?_
      refine B_iload_n rfl ?_
      refine B_dup2 rfl rfl ?_
      refine K_iald t8 ?_
      refine B_iconst (1 : Int32) ic_1 ?_
      refine B_iadd ?_
      refine K_iast t8 (fun M13 e12 => ?_)
      refine V_close ?_
      exact V_weak (ls' := [some (.ref l0), some (.int l1), some (.ref l2), some (.int l3), none]) ⟨rfl, ⟨rfl, ⟨rfl, ⟨rfl, trivial⟩⟩⟩⟩ (t_Store_edit_88 l0 l1 l2 l3 M13)
set_option maxRecDepth 100000 in
def b_Store_edit_26 (G : GT) (l0 : Nat) (l1 : Int32) (l2 : Nat) (l3 : Int32) (M : PH) : Option (PH) :=
  if hT M l2 = 2 then (hR M 413 l2).bind fun a2 => if hT M a2 = 17 then if 2 < hN M a2 then if hA M a2 2 = 0 then (b_Store_edit_54 G l0 l1 l2 l3 M) else (if hT M l0 = 3 then (hR M 603 l0).bind fun a6 => if hT M a6 = 16 then if ib l3 (hN M a6) = true then if hA M a6 l3.toNatClampNeg ≤ 0 then (b_Store_edit_54 G l0 l1 l2 l3 M) else (if ib l3 (hN M a6) = true then if ib l3 (hN M a6) = true then hb (sA M a6 l3.toNatClampNeg ((hA M a6 l3.toNatClampNeg) - (1 : Int32))) fun M10 => (b_Store_edit_54 G l0 l1 l2 l3 M10) else none else none) else none else none else none) else none else none else none
set_option maxRecDepth 100000 in
set_option maxHeartbeats 4000000 in
theorem t_Store_edit_26 {G : GT} (l0 : Nat) (l1 : Int32) (l2 : Nat) (l3 : Int32) (M : PH) : VX G mi_Store_edit 2 28 26 [some (.ref l0), some (.int l1), some (.ref l2), some (.int l3), none] [] M qV (b_Store_edit_26 G l0 l1 l2 l3 M) := by
  unfold b_Store_edit_26
  refine V_open ok_Store_edit_26 ?_
  refine B_aload_n rfl ?_
  refine B_chk (fun t1 => ?_)
  refine K_getR 2 13 413 lf_Store_42 rfl rfl t1 (fun a2 r3 => ?_)
  refine B_iconst (2 : Int32) ic_2 ?_
  refine B_chk (fun t4 => ?_)
  refine K_zaldc 2 rfl t4 ?_
  refine B_eq (tgt := 54) (by decide) ?_ ?_
  · skip
    exact V_weak (ls' := [some (.ref l0), some (.int l1), some (.ref l2), some (.int l3), none]) ⟨rfl, ⟨rfl, ⟨rfl, ⟨rfl, trivial⟩⟩⟩⟩ (t_Store_edit_54 l0 l1 l2 l3 M)
  · skip
    refine B_aload_n rfl ?_
    refine B_chk (fun t5 => ?_)
    refine K_getR 3 3 603 lf_Store_21 rfl rfl t5 (fun a6 r7 => ?_)
    refine B_iload_n rfl ?_
    refine B_chk (fun t8 => ?_)
    refine K_iald t8 ?_
    refine B_le (tgt := 54) (by decide) ?_ ?_
    · skip
      exact V_weak (ls' := [some (.ref l0), some (.int l1), some (.ref l2), some (.int l3), none]) ⟨rfl, ⟨rfl, ⟨rfl, ⟨rfl, trivial⟩⟩⟩⟩ (t_Store_edit_54 l0 l1 l2 l3 M)
    · skip
      refine B_aload_n rfl ?_
      refine K_getRk 3 3 603 lf_Store_21 rfl rfl t5 r7 ?_
      refine B_iload_n rfl ?_
      refine B_dup2 rfl rfl ?_
      refine K_iald t8 ?_
      refine B_iconst (1 : Int32) ic_1 ?_
      refine B_isub ?_
      refine K_iast t8 (fun M10 e9 => ?_)
      refine V_close ?_
      exact V_weak (ls' := [some (.ref l0), some (.int l1), some (.ref l2), some (.int l3), none]) ⟨rfl, ⟨rfl, ⟨rfl, ⟨rfl, trivial⟩⟩⟩⟩ (t_Store_edit_54 l0 l1 l2 l3 M10)
set_option maxRecDepth 100000 in
def f_Store_edit (G : GT) (l0 : Nat) (l1 : Int32) (l2 : Nat) (M : PH) : Option (PH) :=
  if hT M l0 = 3 then bI (f_Store_find G l0 l1 M) fun v3 M2 => (if v3 < 0 then (b_Store_edit_118 G l0 l1 l2 v3 M2) else (if hT M2 l2 = 2 then (hR M2 413 l2).bind fun a5 => if hT M2 a5 = 17 then if 5 < hN M2 a5 then if hA M2 a5 5 = 0 then (b_Store_edit_26 G l0 l1 l2 v3 M2) else (if hT M2 l0 = 3 then (hR M2 603 l0).bind fun a9 => if hT M2 a9 = 16 then if ib v3 (hN M2 a9) = true then hb (sA M2 a9 v3.toNatClampNeg (0 : Int32)) fun M13 => (b_Store_edit_26 G l0 l1 l2 v3 M13) else none else none else none) else none else none else none)) else none
set_option maxRecDepth 100000 in
set_option maxHeartbeats 4000000 in
theorem s_Store_edit {G : GT} (l0 : Nat) (l1 : Int32) (l2 : Nat) (M : PH) : VX G mi_Store_edit 2 28 0 [some (.ref l0), some (.int l1), some (.ref l2), none, none] [] M qV (f_Store_edit G l0 l1 l2 M) := by
  unfold f_Store_edit
  refine V_open ok_Store_edit_0 ?_
  refine B_aload_n rfl ?_
  refine B_iload_n rfl ?_
  refine B_chk (fun t1 => ?_)
  refine C_I (vs := [.ref l0, .int l1]) (st := []) (ci_V lv_Store_36 rfl rfl t1) rfl rfl rfl (s_Store_find l0 l1 M) (fun v3 M2 => ?_)
  refine S_in [some (.ref l0), some (.int l1), some (.ref l2), some (.int v3), none] (by decide) rfl ?_
  refine B_iload_n rfl ?_
  refine B_lt (tgt := 118) (by decide) ?_ ?_
  · skip
    exact V_weak (ls' := [some (.ref l0), some (.int l1), some (.ref l2), some (.int v3), none]) ⟨rfl, ⟨rfl, ⟨rfl, ⟨rfl, trivial⟩⟩⟩⟩ (t_Store_edit_118 l0 l1 l2 v3 M2)
  · skip
    refine B_aload_n rfl ?_
    refine B_chk (fun t4 => ?_)
    refine K_getR 2 13 413 lf_Store_42 rfl rfl t4 (fun a5 r6 => ?_)
    refine B_iconst (5 : Int32) ic_5 ?_
    refine B_chk (fun t7 => ?_)
    refine K_zaldc 5 rfl t7 ?_
    refine B_eq (tgt := 26) (by decide) ?_ ?_
    · skip
      exact V_weak (ls' := [some (.ref l0), some (.int l1), some (.ref l2), some (.int v3), none]) ⟨rfl, ⟨rfl, ⟨rfl, ⟨rfl, trivial⟩⟩⟩⟩ (t_Store_edit_26 l0 l1 l2 v3 M2)
    · skip
      refine B_aload_n rfl ?_
      refine B_chk (fun t8 => ?_)
      refine K_getR 3 3 603 lf_Store_21 rfl rfl t8 (fun a9 r10 => ?_)
      refine B_iload_n rfl ?_
      refine B_iconst (0 : Int32) ic_0 ?_
      refine B_chk (fun t11 => ?_)
      refine K_iast t11 (fun M13 e12 => ?_)
      refine V_close ?_
      exact V_weak (ls' := [some (.ref l0), some (.int l1), some (.ref l2), some (.int v3), none]) ⟨rfl, ⟨rfl, ⟨rfl, ⟨rfl, trivial⟩⟩⟩⟩ (t_Store_edit_26 l0 l1 l2 v3 M13)

-- PF_field
theorem ok_PF_field_0 : okb prog_1_method_39_code 0 [(.aload_n 0, 1), (.iload_n 1, 1), (.iload_n 2, 1), (.iconst 1, 1), (.invokevirtual 374, 3), (.aload_n 0, 1), (.iload_n 1, 1), (.invokevirtual 378, 3), (.istore_n 3, 1), (.aload_n 0, 1), (.iload_n 3, 1), (.iload_n 2, 1), (.invokevirtual 382, 3), (.pop, 1), (.aload_n 0, 1), (.getfield 26, 3), (.getfield 363, 3), (.iload_n 3, 1), (.if_icmp .ne 15, 3), (.aload_n 0, 1), (.getfield 19, 3), (.iload_n 3, 1), (.aload_n 0, 1), (.getfield 10, 3), (.invokevirtual 407, 3)] = true := by decide +kernel
theorem ok_PF_field_43 : okb prog_1_method_39_code 43 [(.aload_n 0, 1), (.iload_n 3, 1), (.invokevirtual 385, 3), (.aload_n 0, 1), (.getfield 19, 3), (.iload_n 3, 1), (.invokevirtual 411, 3), (.istore 4, 2), (.iload 4, 2), (.ifCond .ge 7, 3), (.iconst 0, 1), (.goto 13, 3)] = true := by decide +kernel
theorem ok_PF_field_67 : okb prog_1_method_39_code 67 [(.aload_n 0, 1), (.getfield 19, 3), (.getfield 414, 3), (.iload 4, 2), (.iaload, 1)] = true := by decide +kernel
theorem ok_PF_field_77 : okb prog_1_method_39_code 77 [(.istore 5, 2), (.iconst 0, 1), (.istore 6, 2)] = true := by decide +kernel
theorem ok_PF_field_82 : okb prog_1_method_39_code 82 [(.iload 6, 2), (.iload 5, 2), (.if_icmp .ge 31, 3), (.aload_n 0, 1), (.iload 6, 2), (.aload_n 0, 1), (.getfield 19, 3), (.getfield 417, 3), (.bipush 12, 2), (.iload 4, 2), (.imul, 1), (.iload 6, 2), (.iadd, 1), (.baload, 1), (.invokevirtual 371, 3), (.iinc 6 1, 3), (.goto (-32), 3)] = true := by decide +kernel
theorem ok_PF_field_117 : okb prog_1_method_39_code 117 [(.iload 5, 2), (.ireturn, 1)] = true := by decide +kernel
set_option maxRecDepth 100000 in
def b_PF_field_82 (G : GT) (k82 : Nat → Int32 → Int32 → Int32 → PH → Option (Nat × Int32 × PH)) (l0 : Nat) (l4 : Int32) (l5 : Int32) (l6 : Int32) (M : PH) : Option (Nat × Int32 × PH) :=
  if l5 ≤ l6 then (some (0, l5, M)) else (if hT M l0 = 10 then (hR M 2001 l0).bind fun a2 => if hT M a2 = 3 then (hR M 604 a2).bind fun a5 => if hT M a5 = 18 then if ib (((12 : Int32) * l4) + l6) (hN M a5) = true then bV (f_PF_drawSign G l0 l6 (hA M a5 (((12 : Int32) * l4) + l6).toNatClampNeg) M) fun M8 => (k82 l0 l4 l5 (l6 + (1 : Int32)) M8) else none else none else none else none)
set_option maxRecDepth 100000 in
set_option maxHeartbeats 4000000 in
theorem t_PF_field_82 {G : GT} {k82 : Nat → Int32 → Int32 → Int32 → PH → Option (Nat × Int32 × PH)} (hk82 : ∀ (l0 : Nat) (l4 : Int32) (l5 : Int32) (l6 : Int32) (M : PH), VX G mi_PF_field 8 109 82 [some (.ref l0), none, none, none, some (.int l4), some (.int l5), some (.int l6)] [] M qT (k82 l0 l4 l5 l6 M)) (l0 : Nat) (l4 : Int32) (l5 : Int32) (l6 : Int32) (M : PH) : VX G mi_PF_field 8 109 82 [some (.ref l0), none, none, none, some (.int l4), some (.int l5), some (.int l6)] [] M qT (b_PF_field_82 G k82 l0 l4 l5 l6 M) := by
  unfold b_PF_field_82
  refine V_open ok_PF_field_82 ?_
  refine B_iload rfl ?_
  refine B_iload rfl ?_
  refine B_ige (tgt := 117) (by decide) ?_ ?_
  · skip
    refine V_open ok_PF_field_117 ?_
    refine B_iload rfl ?_
    exact B_tret rfl
  · skip
    refine B_aload_n rfl ?_
    refine B_iload rfl ?_
    refine B_aload_n rfl ?_
    refine B_chk (fun t1 => ?_)
    refine K_getR 10 1 2001 lf_PF_19 rfl rfl t1 (fun a2 r3 => ?_)
    refine B_chk (fun t4 => ?_)
    refine K_getR 3 4 604 lf_PF_417 rfl rfl t4 (fun a5 r6 => ?_)
    refine B_bipush (12 : Int32) bp_12 ?_
    refine B_iload rfl ?_
    refine B_imul ?_
    refine B_iload rfl ?_
    refine B_iadd ?_
    refine B_chk (fun t7 => ?_)
    refine K_bald t7 ?_
    refine C_V (vs := [.ref l0, .int l6, .int (hA M a5 (((12 : Int32) * l4) + l6).toNatClampNeg)]) (st := []) (ci_V lv_PF_371 rfl rfl t1) rfl rfl rfl (s_PF_drawSign l0 l6 (hA M a5 (((12 : Int32) * l4) + l6).toNatClampNeg) M) (fun M8 => ?_)
    refine S_inc (1 : Int32) [some (.ref l0), none, none, none, some (.int l4), some (.int l5), some (.int (l6 + (1 : Int32)))] ic_1 rfl (by decide) rfl ?_
    refine B_goto (tgt := 82) (by decide) ?_
    exact V_weak (ls' := [some (.ref l0), none, none, none, some (.int l4), some (.int l5), some (.int (l6 + (1 : Int32)))]) ⟨rfl, ⟨rfl, ⟨rfl, ⟨rfl, trivial⟩⟩⟩⟩ (hk82 l0 l4 l5 (l6 + (1 : Int32)) M8)
set_option maxRecDepth 100000 in
def w_PF_field_82 (G : GT) : Nat → Nat → Int32 → Int32 → Int32 → PH → Option (Nat × Int32 × PH)
  | 0 => fun _ _ _ _ _ => none
  | n + 1 => b_PF_field_82 G (w_PF_field_82 G n)
set_option maxRecDepth 100000 in
set_option maxHeartbeats 4000000 in
theorem tw_PF_field_82 {G : GT} : ∀ (n : Nat) (l0 : Nat) (l4 : Int32) (l5 : Int32) (l6 : Int32) (M : PH), VX G mi_PF_field 8 109 82 [some (.ref l0), none, none, none, some (.int l4), some (.int l5), some (.int l6)] [] M qT (w_PF_field_82 G n l0 l4 l5 l6 M)
  | 0, _, _, _, _, _ => X_none
  | n + 1, l0, l4, l5, l6, M => t_PF_field_82 (tw_PF_field_82 n) l0 l4 l5 l6 M
set_option maxRecDepth 100000 in
def b_PF_field_77 (G : GT) (l0 : Nat) (l4 : Int32) (s0 : Int32) (M : PH) : Option (Nat × Int32 × PH) :=
  w_PF_field_82 G FU l0 l4 s0 (0 : Int32) M
set_option maxRecDepth 100000 in
set_option maxHeartbeats 4000000 in
theorem t_PF_field_77 {G : GT} (l0 : Nat) (l4 : Int32) (s0 : Int32) (M : PH) : VX G mi_PF_field 8 109 77 [some (.ref l0), none, none, none, some (.int l4), none, none] [.int s0] M qT (b_PF_field_77 G l0 l4 s0 M) := by
  unfold b_PF_field_77
  refine V_open ok_PF_field_77 ?_
  refine S_i [some (.ref l0), none, none, none, some (.int l4), some (.int s0), none] (by decide) rfl ?_
  refine B_iconst (0 : Int32) ic_0 ?_
  refine S_i [some (.ref l0), none, none, none, some (.int l4), some (.int s0), some (.int (0 : Int32))] (by decide) rfl ?_
  refine V_close ?_
  exact V_weak (ls' := [some (.ref l0), none, none, none, some (.int l4), some (.int s0), some (.int (0 : Int32))]) ⟨rfl, ⟨rfl, ⟨rfl, ⟨rfl, trivial⟩⟩⟩⟩ (tw_PF_field_82 FU l0 l4 s0 (0 : Int32) M)
set_option maxRecDepth 100000 in
def b_PF_field_43 (G : GT) (l0 : Nat) (l3 : Int32) (M : PH) : Option (Nat × Int32 × PH) :=
  if hT M l0 = 10 then bV (f_PF_draw G l0 l3 M) fun M2 => (if hT M2 l0 = 10 then (hR M2 2001 l0).bind fun a4 => if hT M2 a4 = 3 then bI (f_Store_find G a4 l3 M2) fun v8 M7 => (if 0 ≤ v8 then (if hT M7 l0 = 10 then (hR M7 2001 l0).bind fun a10 => if hT M7 a10 = 3 then (hR M7 602 a10).bind fun a13 => if hT M7 a13 = 16 then if ib v8 (hN M7 a13) = true then b_PF_field_77 G l0 v8 (hA M7 a13 v8.toNatClampNeg) M7 else none else none else none else none) else (b_PF_field_77 G l0 v8 (0 : Int32) M7)) else none else none) else none
set_option maxRecDepth 100000 in
set_option maxHeartbeats 4000000 in
theorem t_PF_field_43 {G : GT} (l0 : Nat) (l3 : Int32) (M : PH) : VX G mi_PF_field 8 109 43 [some (.ref l0), none, none, some (.int l3), none, none, none] [] M qT (b_PF_field_43 G l0 l3 M) := by
  unfold b_PF_field_43
  refine V_open ok_PF_field_43 ?_
  refine B_aload_n rfl ?_
  refine B_iload_n rfl ?_
  refine B_chk (fun t1 => ?_)
  refine C_V (vs := [.ref l0, .int l3]) (st := []) (ci_V lv_PF_385 rfl rfl t1) rfl rfl rfl (s_PF_draw l0 l3 M) (fun M2 => ?_)
  refine B_aload_n rfl ?_
  refine B_chk (fun t3 => ?_)
  refine K_getR 10 1 2001 lf_PF_19 rfl rfl t3 (fun a4 r5 => ?_)
  refine B_iload_n rfl ?_
  refine B_chk (fun t6 => ?_)
  refine C_I (vs := [.ref a4, .int l3]) (st := []) (ci_V lv_PF_411 rfl rfl t6) rfl rfl rfl (s_Store_find a4 l3 M2) (fun v8 M7 => ?_)
  refine S_i [some (.ref l0), none, none, some (.int l3), some (.int v8), none, none] (by decide) rfl ?_
  refine B_iload rfl ?_
  refine B_ge (tgt := 67) (by decide) ?_ ?_
  · skip
    refine V_open ok_PF_field_67 ?_
    refine B_aload_n rfl ?_
    refine B_chk (fun t9 => ?_)
    refine K_getR 10 1 2001 lf_PF_19 rfl rfl t9 (fun a10 r11 => ?_)
    refine B_chk (fun t12 => ?_)
    refine K_getR 3 2 602 lf_PF_414 rfl rfl t12 (fun a13 r14 => ?_)
    refine B_iload rfl ?_
    refine B_chk (fun t15 => ?_)
    refine K_iald t15 ?_
    refine V_close ?_
    exact V_weak (ls' := [some (.ref l0), none, none, none, some (.int v8), none, none]) ⟨rfl, ⟨rfl, trivial⟩⟩ (t_PF_field_77 l0 v8 (hA M7 a13 v8.toNatClampNeg) M7)
  · skip
    refine B_iconst (0 : Int32) ic_0 ?_
    refine B_goto (tgt := 77) (by decide) ?_
    exact V_weak (ls' := [some (.ref l0), none, none, none, some (.int v8), none, none]) ⟨rfl, ⟨rfl, trivial⟩⟩ (t_PF_field_77 l0 v8 (0 : Int32) M7)
set_option maxRecDepth 100000 in
def f_PF_field (G : GT) (l0 : Nat) (l1 : Int32) (l2 : Int32) (M : PH) : Option (Nat × Int32 × PH) :=
  if hT M l0 = 10 then bT (f_PF_wantItem G l0 l1 l2 (1 : Int32) M) fun M2 => (if hT M2 l0 = 10 then bI (f_PF_idOf G l0 l1 M2) fun v5 M4 => (if hT M4 l0 = 10 then bI (f_PF_behave G l0 v5 l2 M4) fun v8 M7 => (if hT M7 l0 = 10 then (hR M7 2002 l0).bind fun a10 => if hT M7 a10 = 9 then if ¬ hI M7 1802 a10 = v5 then (b_PF_field_43 G l0 v5 M7) else ((hR M7 2001 l0).bind fun a13 => (hR M7 2000 l0).bind fun a15 => if hT M7 a13 = 3 then bV (f_Store_edit G a13 v5 a15 M7) fun M18 => (b_PF_field_43 G l0 v5 M18) else none) else none else none) else none) else none) else none
set_option maxRecDepth 100000 in
set_option maxHeartbeats 4000000 in
theorem s_PF_field {G : GT} (l0 : Nat) (l1 : Int32) (l2 : Int32) (M : PH) : VX G mi_PF_field 8 109 0 [some (.ref l0), some (.int l1), some (.int l2), none, none, none, none] [] M qT (f_PF_field G l0 l1 l2 M) := by
  unfold f_PF_field
  refine V_open ok_PF_field_0 ?_
  refine B_aload_n rfl ?_
  refine B_iload_n rfl ?_
  refine B_iload_n rfl ?_
  refine B_iconst (1 : Int32) ic_1 ?_
  refine B_chk (fun t1 => ?_)
  refine C_T (vs := [.ref l0, .int l1, .int l2, .int (1 : Int32)]) (st := []) rfl (ci_V lv_PF_374 rfl rfl t1) rfl rfl rfl (s_PF_wantItem l0 l1 l2 (1 : Int32) M) (fun M2 => ?_)
  refine B_aload_n rfl ?_
  refine B_iload_n rfl ?_
  refine B_chk (fun t3 => ?_)
  refine C_I (vs := [.ref l0, .int l1]) (st := []) (ci_V lv_PF_378 rfl rfl t3) rfl rfl rfl (s_PF_idOf l0 l1 M2) (fun v5 M4 => ?_)
  refine S_in [some (.ref l0), some (.int l1), some (.int l2), some (.int v5), none, none, none] (by decide) rfl ?_
  refine B_aload_n rfl ?_
  refine B_iload_n rfl ?_
  refine B_iload_n rfl ?_
  refine B_chk (fun t6 => ?_)
  refine C_I (vs := [.ref l0, .int v5, .int l2]) (st := []) (ci_V lv_PF_382 rfl rfl t6) rfl rfl rfl (s_PF_behave l0 v5 l2 M4) (fun v8 M7 => ?_)
  refine B_pop rfl ?_
  refine B_aload_n rfl ?_
  refine B_chk (fun t9 => ?_)
  refine K_getR 10 2 2002 lf_PF_26 rfl rfl t9 (fun a10 r11 => ?_)
  refine B_chk (fun t12 => ?_)
  refine K_getI 9 2 1802 lf_PF_363 rfl rfl t12 ?_
  refine B_iload_n rfl ?_
  refine B_ine (tgt := 43) (by decide) ?_ ?_
  · skip
    exact V_weak (ls' := [some (.ref l0), none, none, some (.int v5), none, none, none]) ⟨rfl, ⟨rfl, trivial⟩⟩ (t_PF_field_43 l0 v5 M7)
  · skip
    refine B_aload_n rfl ?_
    refine K_getR 10 1 2001 lf_PF_19 rfl rfl t9 (fun a13 r14 => ?_)
    refine B_iload_n rfl ?_
    refine B_aload_n rfl ?_
    refine K_getR 10 0 2000 lf_PF_10 rfl rfl t9 (fun a15 r16 => ?_)
    refine B_chk (fun t17 => ?_)
    refine C_V (vs := [.ref a13, .int v5, .ref a15]) (st := []) (ci_V lv_PF_407 rfl rfl t17) rfl rfl rfl (s_Store_edit a13 v5 a15 M7) (fun M18 => ?_)
    refine V_close ?_
    exact V_weak (ls' := [some (.ref l0), none, none, some (.int v5), none, none, none]) ⟨rfl, ⟨rfl, trivial⟩⟩ (t_PF_field_43 l0 v5 M18)

-- Law_field
theorem ok_Law_field_0 : okb method_12_code 0 [(.aload_n 3, 1), (.iconst 0, 1), (.aload_n 0, 1), (.iload_n 1, 1), (.iload_n 2, 1), (.invokevirtual 47, 3), (.i2l, 1), (.lastore, 1), (.goto 11, 3)] = true := by decide +kernel
theorem ok_Law_field_13 : okb method_12_code 13 [(.astore 4, 2), (.iconst 1, 1), (.ireturn, 1)] = true := by decide +kernel
theorem ok_Law_field_17 : okb method_12_code 17 [(.astore 4, 2), (.iconst 2, 1), (.ireturn, 1)] = true := by decide +kernel
theorem ok_Law_field_21 : okb method_12_code 21 [(.iconst 0, 1), (.ireturn, 1)] = true := by decide +kernel
set_option maxRecDepth 100000 in
def f_Law_field (G : GT) (l0 : Nat) (l1 : Int32) (l2 : Int32) (l3 : Nat) (M : PH) : Option (Int32 × PH) :=
  if hT M l0 = 10 then bH2 (f_PF_field G l0 l1 l2 M) (fun v3 M2 => if hT M2 l3 = 19 then if 0 < hN M2 l3 then hb (sL M2 l3 0 v3.toInt64) fun M6 => (some ((0 : Int32), M6)) else none else none) (fun M2 => some ((1 : Int32), M2)) (fun M2 => some ((2 : Int32), M2)) else none
set_option maxRecDepth 100000 in
set_option maxHeartbeats 4000000 in
theorem s_Law_field {G : GT} (l0 : Nat) (l1 : Int32) (l2 : Int32) (l3 : Nat) (M : PH) : VX G mi_Law_field 9 129 0 [some (.ref l0), some (.int l1), some (.int l2), some (.ref l3), none] [] M qI (f_Law_field G l0 l1 l2 l3 M) := by
  unfold f_Law_field
  refine V_open ok_Law_field_0 ?_
  refine B_aload_n rfl ?_
  refine B_iconst (0 : Int32) ic_0 ?_
  refine B_aload_n rfl ?_
  refine B_iload_n rfl ?_
  refine B_iload_n rfl ?_
  refine B_chk (fun t1 => ?_)
  refine C_H2 (vs := [.ref l0, .int l1, .int l2]) (st := [.int (0 : Int32), .ref l3]) 10 13 22 17 13 (by decide) rfl lh_Law_22 lh_Law_13 (ci_V lv_Law_47 rfl rfl t1) rfl rfl rfl (s_PF_field l0 l1 l2 M) (fun v3 M2 => ?_) (fun ah M2 => ?_) (fun ah M2 => ?_)
  · skip
    refine B_i2l ?_
    refine B_chk (fun t4 => ?_)
    refine K_lastc 0 rfl t4 (fun M6 e5 => ?_)
    refine B_goto (tgt := 21) (by decide) ?_
    refine V_open ok_Law_field_21 ?_
    refine B_iconst (0 : Int32) ic_0 ?_
    exact B_iret rfl
  · skip
    refine V_open ok_Law_field_13 ?_
    refine S_a [some (.ref l0), some (.int l1), some (.int l2), some (.ref l3), some (.ref ah)] (by decide) rfl ?_
    refine B_iconst (1 : Int32) ic_1 ?_
    exact B_iret rfl
  · skip
    refine V_open ok_Law_field_17 ?_
    refine S_a [some (.ref l0), some (.int l1), some (.int l2), some (.ref l3), some (.ref ah)] (by decide) rfl ?_
    refine B_iconst (2 : Int32) ic_2 ?_
    exact B_iret rfl

-- Mo_edit
theorem ok_Mo_edit_0 : okb prog_13_method_56_code 0 [(.aload_n 0, 1), (.getfield 217, 3), (.ifCond .le 11, 3), (.aload_n 0, 1), (.iload_n 1, 1), (.invokevirtual 368, 3), (.goto 8, 3)] = true := by decide +kernel
theorem ok_Mo_edit_15 : okb prog_13_method_56_code 15 [(.aload_n 0, 1), (.iload_n 1, 1), (.invokevirtual 365, 3)] = true := by decide +kernel
theorem ok_Mo_edit_20 : okb prog_13_method_56_code 20 [(.istore_n 2, 1), (.iload_n 2, 1), (.iconst (-1), 1), (.if_icmp .ne 4, 3), (.return_, 1)] = true := by decide +kernel
theorem ok_Mo_edit_27 : okb prog_13_method_56_code 27 [(.aload_n 0, 1), (.getfield 17, 3), (.iconst 5, 1), (.baload, 1), (.ifCond .eq 10, 3), (.aload_n 0, 1), (.getfield 165, 3), (.iload_n 2, 1), (.iconst 0, 1), (.iastore, 1)] = true := by decide +kernel
theorem ok_Mo_edit_43 : okb prog_13_method_56_code 43 [(.aload_n 0, 1), (.getfield 17, 3), (.iconst 2, 1), (.baload, 1), (.ifCond .eq 22, 3), (.aload_n 0, 1), (.getfield 165, 3), (.iload_n 2, 1), (.iaload, 1), (.ifCond .le 13, 3), (.aload_n 0, 1), (.getfield 165, 3), (.iload_n 2, 1), (.dup2, 1), (.iaload, 1), (.iconst 1, 1), (.isub, 1), (.iastore, 1)] = true := by decide +kernel
theorem ok_Mo_edit_71 : okb prog_13_method_56_code 71 [(.aload_n 0, 1), (.getfield 17, 3), (.iconst 3, 1), (.baload, 1), (.ifCond .eq 28, 3), (.aload_n 0, 1), (.getfield 165, 3), (.iload_n 2, 1), (.iaload, 1), (.aload_n 0, 1), (.getfield 162, 3), (.iload_n 2, 1), (.iaload, 1), (.if_icmp .ge 13, 3), (.aload_n 0, 1), (.getfield 165, 3), (.iload_n 2, 1), (.dup2, 1), (.iaload, 1), (.iconst 1, 1), (.iadd, 1), (.iastore, 1)] = true := by decide +kernel
theorem ok_Mo_edit_105 : okb prog_13_method_56_code 105 [(.aload_n 0, 1), (.getfield 17, 3), (.iconst 4, 1), (.baload, 1), (.ifCond .eq 79, 3), (.aload_n 0, 1), (.getfield 165, 3), (.iload_n 2, 1), (.iaload, 1), (.ifCond .le 70, 3), (.aload_n 0, 1), (.getfield 165, 3), (.iload_n 2, 1), (.iaload, 1), (.istore_n 3, 1)] = true := by decide +kernel
theorem ok_Mo_edit_130 : okb prog_13_method_56_code 130 [(.iload_n 3, 1), (.aload_n 0, 1), (.getfield 162, 3), (.iload_n 2, 1), (.iaload, 1), (.if_icmp .ge 33, 3), (.aload_n 0, 1), (.getfield 159, 3), (.bipush 12, 2), (.iload_n 2, 1), (.imul, 1), (.iload_n 3, 1), (.iadd, 1), (.iconst 1, 1), (.isub, 1), (.aload_n 0, 1), (.getfield 159, 3), (.bipush 12, 2), (.iload_n 2, 1), (.imul, 1), (.iload_n 3, 1), (.iadd, 1), (.iaload, 1), (.iastore, 1), (.iinc 3 1, 3), (.goto (-37), 3)] = true := by decide +kernel
theorem ok_Mo_edit_170 : okb prog_13_method_56_code 170 [(.aload_n 0, 1), (.getfield 165, 3), (.iload_n 2, 1), (.dup2, 1), (.iaload, 1), (.iconst 1, 1), (.isub, 1), (.iastore, 1), (.aload_n 0, 1), (.getfield 162, 3), (.iload_n 2, 1), (.dup2, 1), (.iaload, 1), (.iconst 1, 1), (.isub, 1), (.iastore, 1)] = true := by decide +kernel
theorem ok_Mo_edit_190 : okb prog_13_method_56_code 190 [(.iconst 0, 1), (.istore_n 3, 1)] = true := by decide +kernel
theorem ok_Mo_edit_192 : okb prog_13_method_56_code 192 [(.iload_n 3, 1), (.aload_n 0, 1), (.getfield 217, 3), (.if_icmp .ge 113, 3), (.aload_n 0, 1), (.getfield 162, 3), (.iload_n 2, 1), (.iaload, 1), (.bipush 12, 2), (.if_icmp .ge 102, 3), (.aload_n 0, 1), (.getfield 162, 3), (.iload_n 2, 1), (.iaload, 1), (.istore 4, 2)] = true := by decide +kernel
theorem ok_Mo_edit_219 : okb prog_13_method_56_code 219 [(.iload 4, 2), (.aload_n 0, 1), (.getfield 165, 3), (.iload_n 2, 1), (.iaload, 1), (.if_icmp .le 35, 3), (.aload_n 0, 1), (.getfield 159, 3), (.bipush 12, 2), (.iload_n 2, 1), (.imul, 1), (.iload 4, 2), (.iadd, 1), (.aload_n 0, 1), (.getfield 159, 3), (.bipush 12, 2), (.iload_n 2, 1), (.imul, 1), (.iload 4, 2), (.iadd, 1), (.iconst 1, 1), (.isub, 1), (.iaload, 1), (.iastore, 1), (.iinc 4 (-1), 3), (.goto (-40), 3)] = true := by decide +kernel
theorem ok_Mo_edit_262 : okb prog_13_method_56_code 262 [(.aload_n 0, 1), (.getfield 159, 3), (.bipush 12, 2), (.iload_n 2, 1), (.imul, 1), (.aload_n 0, 1), (.getfield 165, 3), (.iload_n 2, 1), (.iaload, 1), (.iadd, 1), (.aload_n 0, 1), (.getfield 23, 3), (.iload_n 3, 1), (.iaload, 1), (.iastore, 1), (.aload_n 0, 1), (.getfield 165, 3), (.iload_n 2, 1), (.dup2, 1), (.iaload, 1), (.iconst 1, 1), (.iadd, 1), (.iastore, 1), (.aload_n 0, 1), (.getfield 162, 3), (.iload_n 2, 1), (.dup2, 1), (.iaload, 1), (.iconst 1, 1), (.iadd, 1), (.iastore, 1), (.iinc 3 1, 3), (.goto (-115), 3)] = true := by decide +kernel
theorem ok_Mo_edit_310 : okb prog_13_method_56_code 310 [(.return_, 1)] = true := by decide +kernel
set_option maxRecDepth 100000 in
def b_Mo_edit_219 (G : GT) (k192 : Nat → Int32 → Int32 → PH → Option (PH)) (k219 : Nat → Int32 → Int32 → Int32 → PH → Option (PH)) (l0 : Nat) (l2 : Int32) (l3 : Int32) (l4 : Int32) (M : PH) : Option (PH) :=
  if hT M l0 = 11 then (hR M 2278 l0).bind fun a2 => if hT M a2 = 16 then if ib l2 (hN M a2) = true then if l4 ≤ hA M a2 l2.toNatClampNeg then ((hR M 2276 l0).bind fun a5 => if ib l2 (hN M a2) = true then (hR M 2217 l0).bind fun a7 => if hT M a7 = 16 then if ib l3 (hN M a7) = true then if hT M a5 = 16 then if ib (((12 : Int32) * l2) + (hA M a2 l2.toNatClampNeg)) (hN M a5) = true then hb (sA M a5 (((12 : Int32) * l2) + (hA M a2 l2.toNatClampNeg)).toNatClampNeg (hA M a7 l3.toNatClampNeg)) fun M12 => (if ib l2 (hN M12 a2) = true then if ib l2 (hN M12 a2) = true then hb (sA M12 a2 l2.toNatClampNeg ((hA M12 a2 l2.toNatClampNeg) + (1 : Int32))) fun M17 => ((hR M17 2277 l0).bind fun a19 => if hT M17 a19 = 16 then if ib l2 (hN M17 a19) = true then if ib l2 (hN M17 a19) = true then hb (sA M17 a19 l2.toNatClampNeg ((hA M17 a19 l2.toNatClampNeg) + (1 : Int32))) fun M23 => (k192 l0 l2 (l3 + (1 : Int32)) M23) else none else none else none) else none else none) else none else none else none else none else none) else ((hR M 2276 l0).bind fun a24 => if hT M a24 = 16 then if ib ((((12 : Int32) * l2) + l4) - (1 : Int32)) (hN M a24) = true then if ib (((12 : Int32) * l2) + l4) (hN M a24) = true then hb (sA M a24 (((12 : Int32) * l2) + l4).toNatClampNeg (hA M a24 ((((12 : Int32) * l2) + l4) - (1 : Int32)).toNatClampNeg)) fun M28 => (k219 l0 l2 l3 (l4 + (-1 : Int32)) M28) else none else none else none) else none else none else none
set_option maxRecDepth 100000 in
set_option maxHeartbeats 4000000 in
theorem t_Mo_edit_219 {G : GT} {k192 : Nat → Int32 → Int32 → PH → Option (PH)} (hk192 : ∀ (l0 : Nat) (l2 : Int32) (l3 : Int32) (M : PH), VX G mi_Mo_edit 2 28 192 [some (.ref l0), none, some (.int l2), some (.int l3), none] [] M qV (k192 l0 l2 l3 M)) {k219 : Nat → Int32 → Int32 → Int32 → PH → Option (PH)} (hk219 : ∀ (l0 : Nat) (l2 : Int32) (l3 : Int32) (l4 : Int32) (M : PH), VX G mi_Mo_edit 2 28 219 [some (.ref l0), none, some (.int l2), some (.int l3), some (.int l4)] [] M qV (k219 l0 l2 l3 l4 M)) (l0 : Nat) (l2 : Int32) (l3 : Int32) (l4 : Int32) (M : PH) : VX G mi_Mo_edit 2 28 219 [some (.ref l0), none, some (.int l2), some (.int l3), some (.int l4)] [] M qV (b_Mo_edit_219 G k192 k219 l0 l2 l3 l4 M) := by
  unfold b_Mo_edit_219
  refine V_open ok_Mo_edit_219 ?_
  refine B_iload rfl ?_
  refine B_aload_n rfl ?_
  refine B_chk (fun t1 => ?_)
  refine K_getR 11 78 2278 lf_Mo_165 rfl rfl t1 (fun a2 r3 => ?_)
  refine B_iload_n rfl ?_
  refine B_chk (fun t4 => ?_)
  refine K_iald t4 ?_
  refine B_ile (tgt := 262) (by decide) ?_ ?_
  · skip
    refine V_open ok_Mo_edit_262 ?_
    refine B_aload_n rfl ?_
    refine K_getR 11 76 2276 lf_Mo_159 rfl rfl t1 (fun a5 r6 => ?_)
    refine B_bipush (12 : Int32) bp_12 ?_
    refine B_iload_n rfl ?_
    refine B_imul ?_
    refine B_aload_n rfl ?_
    refine K_getRk 11 78 2278 lf_Mo_165 rfl rfl t1 r3 ?_
    refine B_iload_n rfl ?_
    refine K_iald t4 ?_
    refine B_iadd ?_
    refine B_aload_n rfl ?_
    refine K_getR 11 17 2217 lf_Mo_23 rfl rfl t1 (fun a7 r8 => ?_)
    refine B_iload_n rfl ?_
    refine B_chk (fun t9 => ?_)
    refine K_iald t9 ?_
    refine B_chk (fun t10 => ?_)
    refine K_iast t10 (fun M12 e11 => ?_)
    refine B_aload_n rfl ?_
    have h13 : hT M12 l0 = 11 := by rw [e11]; exact t1
    have h14 : hR M12 2278 l0 = some a2 := by rw [e11]; exact r3
    refine K_getRk 11 78 2278 lf_Mo_165 rfl rfl h13 h14 ?_
    refine B_iload_n rfl ?_
    refine B_dup2 rfl rfl ?_
    have h15 : hT M12 a2 = 16 := by rw [e11]; exact t4
    refine K_iald h15 ?_
    refine B_iconst (1 : Int32) ic_1 ?_
    refine B_iadd ?_
    refine K_iast h15 (fun M17 e16 => ?_)
    refine B_aload_n rfl ?_
    have h18 : hT M17 l0 = 11 := by rw [e16]; exact h13
    refine K_getR 11 77 2277 lf_Mo_162 rfl rfl h18 (fun a19 r20 => ?_)
    refine B_iload_n rfl ?_
    refine B_dup2 rfl rfl ?_
    refine B_chk (fun t21 => ?_)
    refine K_iald t21 ?_
    refine B_iconst (1 : Int32) ic_1 ?_
    refine B_iadd ?_
    refine K_iast t21 (fun M23 e22 => ?_)
    refine S_inc (1 : Int32) [some (.ref l0), none, some (.int l2), some (.int (l3 + (1 : Int32))), some (.int l4)] ic_1 rfl (by decide) rfl ?_
    refine B_goto (tgt := 192) (by decide) ?_
    exact V_weak (ls' := [some (.ref l0), none, some (.int l2), some (.int (l3 + (1 : Int32))), none]) ⟨rfl, ⟨rfl, ⟨rfl, trivial⟩⟩⟩ (hk192 l0 l2 (l3 + (1 : Int32)) M23)
  · skip
    refine B_aload_n rfl ?_
    refine K_getR 11 76 2276 lf_Mo_159 rfl rfl t1 (fun a24 r25 => ?_)
    refine B_bipush (12 : Int32) bp_12 ?_
    refine B_iload_n rfl ?_
    refine B_imul ?_
    refine B_iload rfl ?_
    refine B_iadd ?_
    refine B_aload_n rfl ?_
    refine K_getRk 11 76 2276 lf_Mo_159 rfl rfl t1 r25 ?_
    refine B_bipush (12 : Int32) bp_12 ?_
    refine B_iload_n rfl ?_
    refine B_imul ?_
    refine B_iload rfl ?_
    refine B_iadd ?_
    refine B_iconst (1 : Int32) ic_1 ?_
    refine B_isub ?_
    refine B_chk (fun t26 => ?_)
    refine K_iald t26 ?_
    refine K_iast t26 (fun M28 e27 => ?_)
    refine S_inc (-1 : Int32) [some (.ref l0), none, some (.int l2), some (.int l3), some (.int (l4 + (-1 : Int32)))] ic_m1 rfl (by decide) rfl ?_
    refine B_goto (tgt := 219) (by decide) ?_
    exact V_weak (ls' := [some (.ref l0), none, some (.int l2), some (.int l3), some (.int (l4 + (-1 : Int32)))]) ⟨rfl, ⟨rfl, ⟨rfl, ⟨rfl, trivial⟩⟩⟩⟩ (hk219 l0 l2 l3 (l4 + (-1 : Int32)) M28)
set_option maxRecDepth 100000 in
def w_Mo_edit_219 (G : GT) (k192 : Nat → Int32 → Int32 → PH → Option (PH)) : Nat → Nat → Int32 → Int32 → Int32 → PH → Option (PH)
  | 0 => fun _ _ _ _ _ => none
  | n + 1 => b_Mo_edit_219 G k192 (w_Mo_edit_219 G k192 n)
set_option maxRecDepth 100000 in
set_option maxHeartbeats 4000000 in
theorem tw_Mo_edit_219 {G : GT} {k192 : Nat → Int32 → Int32 → PH → Option (PH)} (hk192 : ∀ (l0 : Nat) (l2 : Int32) (l3 : Int32) (M : PH), VX G mi_Mo_edit 2 28 192 [some (.ref l0), none, some (.int l2), some (.int l3), none] [] M qV (k192 l0 l2 l3 M)) : ∀ (n : Nat) (l0 : Nat) (l2 : Int32) (l3 : Int32) (l4 : Int32) (M : PH), VX G mi_Mo_edit 2 28 219 [some (.ref l0), none, some (.int l2), some (.int l3), some (.int l4)] [] M qV (w_Mo_edit_219 G k192 n l0 l2 l3 l4 M)
  | 0, _, _, _, _, _ => X_none
  | n + 1, l0, l2, l3, l4, M => t_Mo_edit_219 hk192 (tw_Mo_edit_219 hk192 n) l0 l2 l3 l4 M
set_option maxRecDepth 100000 in
def b_Mo_edit_192 (G : GT) (k192 : Nat → Int32 → Int32 → PH → Option (PH)) (l0 : Nat) (l2 : Int32) (l3 : Int32) (M : PH) : Option (PH) :=
  if hT M l0 = 11 then if hI M 2216 l0 ≤ l3 then (some M) else ((hR M 2277 l0).bind fun a2 => if hT M a2 = 16 then if ib l2 (hN M a2) = true then if (12 : Int32) ≤ hA M a2 l2.toNatClampNeg then (some M) else (if ib l2 (hN M a2) = true then vb (hA M a2 l2.toNatClampNeg) fun v5 => w_Mo_edit_219 G k192 FU l0 l2 l3 v5 M else none) else none else none) else none
set_option maxRecDepth 100000 in
set_option maxHeartbeats 4000000 in
theorem t_Mo_edit_192 {G : GT} {k192 : Nat → Int32 → Int32 → PH → Option (PH)} (hk192 : ∀ (l0 : Nat) (l2 : Int32) (l3 : Int32) (M : PH), VX G mi_Mo_edit 2 28 192 [some (.ref l0), none, some (.int l2), some (.int l3), none] [] M qV (k192 l0 l2 l3 M)) (l0 : Nat) (l2 : Int32) (l3 : Int32) (M : PH) : VX G mi_Mo_edit 2 28 192 [some (.ref l0), none, some (.int l2), some (.int l3), none] [] M qV (b_Mo_edit_192 G k192 l0 l2 l3 M) := by
  unfold b_Mo_edit_192
  refine V_open ok_Mo_edit_192 ?_
  refine B_iload_n rfl ?_
  refine B_aload_n rfl ?_
  refine B_chk (fun t1 => ?_)
  refine K_getI 11 16 2216 lf_Mo_217 rfl rfl t1 ?_
  refine B_ige (tgt := 310) (by decide) ?_ ?_
  · skip
    refine V_open ok_Mo_edit_310 ?_
    exact B_vret rfl
  · skip
    refine B_aload_n rfl ?_
    refine K_getR 11 77 2277 lf_Mo_162 rfl rfl t1 (fun a2 r3 => ?_)
    refine B_iload_n rfl ?_
    refine B_chk (fun t4 => ?_)
    refine K_iald t4 ?_
    refine B_bipush (12 : Int32) bp_12 ?_
    refine B_ige (tgt := 310) (by decide) ?_ ?_
    · skip
      refine V_open ok_Mo_edit_310 ?_
      exact B_vret rfl
    · skip
      refine B_aload_n rfl ?_
      refine K_getRk 11 77 2277 lf_Mo_162 rfl rfl t1 r3 ?_
      refine B_iload_n rfl ?_
      refine K_iald t4 ?_
      refine B_vb (fun v5 => ?_)
      refine S_i [some (.ref l0), none, some (.int l2), some (.int l3), some (.int v5)] (by decide) rfl ?_
      refine V_close ?_
      exact V_weak (ls' := [some (.ref l0), none, some (.int l2), some (.int l3), some (.int v5)]) ⟨rfl, ⟨rfl, ⟨rfl, ⟨rfl, trivial⟩⟩⟩⟩ (tw_Mo_edit_219 hk192 FU l0 l2 l3 v5 M)
set_option maxRecDepth 100000 in
def w_Mo_edit_192 (G : GT) : Nat → Nat → Int32 → Int32 → PH → Option (PH)
  | 0 => fun _ _ _ _ => none
  | n + 1 => b_Mo_edit_192 G (w_Mo_edit_192 G n)
set_option maxRecDepth 100000 in
set_option maxHeartbeats 4000000 in
theorem tw_Mo_edit_192 {G : GT} : ∀ (n : Nat) (l0 : Nat) (l2 : Int32) (l3 : Int32) (M : PH), VX G mi_Mo_edit 2 28 192 [some (.ref l0), none, some (.int l2), some (.int l3), none] [] M qV (w_Mo_edit_192 G n l0 l2 l3 M)
  | 0, _, _, _, _ => X_none
  | n + 1, l0, l2, l3, M => t_Mo_edit_192 (tw_Mo_edit_192 n) l0 l2 l3 M
set_option maxRecDepth 100000 in
def b_Mo_edit_190 (G : GT) (l0 : Nat) (l2 : Int32) (M : PH) : Option (PH) :=
  w_Mo_edit_192 G FU l0 l2 (0 : Int32) M
set_option maxRecDepth 100000 in
set_option maxHeartbeats 4000000 in
theorem t_Mo_edit_190 {G : GT} (l0 : Nat) (l2 : Int32) (M : PH) : VX G mi_Mo_edit 2 28 190 [some (.ref l0), none, some (.int l2), none, none] [] M qV (b_Mo_edit_190 G l0 l2 M) := by
  unfold b_Mo_edit_190
  refine V_open ok_Mo_edit_190 ?_
  refine B_iconst (0 : Int32) ic_0 ?_
  refine S_in [some (.ref l0), none, some (.int l2), some (.int (0 : Int32)), none] (by decide) rfl ?_
  refine V_close ?_
  exact V_weak (ls' := [some (.ref l0), none, some (.int l2), some (.int (0 : Int32)), none]) ⟨rfl, ⟨rfl, ⟨rfl, trivial⟩⟩⟩ (tw_Mo_edit_192 FU l0 l2 (0 : Int32) M)
set_option maxRecDepth 100000 in
def b_Mo_edit_130 (G : GT) (k130 : Nat → Int32 → Int32 → PH → Option (PH)) (l0 : Nat) (l2 : Int32) (l3 : Int32) (M : PH) : Option (PH) :=
  if hT M l0 = 11 then (hR M 2277 l0).bind fun a2 => if hT M a2 = 16 then if ib l2 (hN M a2) = true then if hA M a2 l2.toNatClampNeg ≤ l3 then ((hR M 2278 l0).bind fun a5 => if hT M a5 = 16 then if ib l2 (hN M a5) = true then if ib l2 (hN M a5) = true then hb (sA M a5 l2.toNatClampNeg ((hA M a5 l2.toNatClampNeg) - (1 : Int32))) fun M9 => (if ib l2 (hN M9 a2) = true then if ib l2 (hN M9 a2) = true then hb (sA M9 a2 l2.toNatClampNeg ((hA M9 a2 l2.toNatClampNeg) - (1 : Int32))) fun M14 => (b_Mo_edit_190 G l0 l2 M14) else none else none) else none else none else none) else ((hR M 2276 l0).bind fun a15 => if hT M a15 = 16 then if ib (((12 : Int32) * l2) + l3) (hN M a15) = true then if ib ((((12 : Int32) * l2) + l3) - (1 : Int32)) (hN M a15) = true then hb (sA M a15 ((((12 : Int32) * l2) + l3) - (1 : Int32)).toNatClampNeg (hA M a15 (((12 : Int32) * l2) + l3).toNatClampNeg)) fun M19 => (k130 l0 l2 (l3 + (1 : Int32)) M19) else none else none else none) else none else none else none
set_option maxRecDepth 100000 in
set_option maxHeartbeats 4000000 in
theorem t_Mo_edit_130 {G : GT} {k130 : Nat → Int32 → Int32 → PH → Option (PH)} (hk130 : ∀ (l0 : Nat) (l2 : Int32) (l3 : Int32) (M : PH), VX G mi_Mo_edit 2 28 130 [some (.ref l0), none, some (.int l2), some (.int l3), none] [] M qV (k130 l0 l2 l3 M)) (l0 : Nat) (l2 : Int32) (l3 : Int32) (M : PH) : VX G mi_Mo_edit 2 28 130 [some (.ref l0), none, some (.int l2), some (.int l3), none] [] M qV (b_Mo_edit_130 G k130 l0 l2 l3 M) := by
  unfold b_Mo_edit_130
  refine V_open ok_Mo_edit_130 ?_
  refine B_iload_n rfl ?_
  refine B_aload_n rfl ?_
  refine B_chk (fun t1 => ?_)
  refine K_getR 11 77 2277 lf_Mo_162 rfl rfl t1 (fun a2 r3 => ?_)
  refine B_iload_n rfl ?_
  refine B_chk (fun t4 => ?_)
  refine K_iald t4 ?_
  refine B_ige (tgt := 170) (by decide) ?_ ?_
  · skip
    refine V_open ok_Mo_edit_170 ?_
    refine B_aload_n rfl ?_
    refine K_getR 11 78 2278 lf_Mo_165 rfl rfl t1 (fun a5 r6 => ?_)
    refine B_iload_n rfl ?_
    refine B_dup2 rfl rfl ?_
    refine B_chk (fun t7 => ?_)
    refine K_iald t7 ?_
    refine B_iconst (1 : Int32) ic_1 ?_
    refine B_isub ?_
    refine K_iast t7 (fun M9 e8 => ?_)
    refine B_aload_n rfl ?_
    have h10 : hT M9 l0 = 11 := by rw [e8]; exact t1
    have h11 : hR M9 2277 l0 = some a2 := by rw [e8]; exact r3
    refine K_getRk 11 77 2277 lf_Mo_162 rfl rfl h10 h11 ?_
    refine B_iload_n rfl ?_
    refine B_dup2 rfl rfl ?_
    have h12 : hT M9 a2 = 16 := by rw [e8]; exact t4
    refine K_iald h12 ?_
    refine B_iconst (1 : Int32) ic_1 ?_
    refine B_isub ?_
    refine K_iast h12 (fun M14 e13 => ?_)
    refine V_close ?_
    exact V_weak (ls' := [some (.ref l0), none, some (.int l2), none, none]) ⟨rfl, ⟨rfl, trivial⟩⟩ (t_Mo_edit_190 l0 l2 M14)
  · skip
    refine B_aload_n rfl ?_
    refine K_getR 11 76 2276 lf_Mo_159 rfl rfl t1 (fun a15 r16 => ?_)
    refine B_bipush (12 : Int32) bp_12 ?_
    refine B_iload_n rfl ?_
    refine B_imul ?_
    refine B_iload_n rfl ?_
    refine B_iadd ?_
    refine B_iconst (1 : Int32) ic_1 ?_
    refine B_isub ?_
    refine B_aload_n rfl ?_
    refine K_getRk 11 76 2276 lf_Mo_159 rfl rfl t1 r16 ?_
    refine B_bipush (12 : Int32) bp_12 ?_
    refine B_iload_n rfl ?_
    refine B_imul ?_
    refine B_iload_n rfl ?_
    refine B_iadd ?_
    refine B_chk (fun t17 => ?_)
    refine K_iald t17 ?_
    refine K_iast t17 (fun M19 e18 => ?_)
    refine S_inc (1 : Int32) [some (.ref l0), none, some (.int l2), some (.int (l3 + (1 : Int32))), none] ic_1 rfl (by decide) rfl ?_
    refine B_goto (tgt := 130) (by decide) ?_
    exact V_weak (ls' := [some (.ref l0), none, some (.int l2), some (.int (l3 + (1 : Int32))), none]) ⟨rfl, ⟨rfl, ⟨rfl, trivial⟩⟩⟩ (hk130 l0 l2 (l3 + (1 : Int32)) M19)
set_option maxRecDepth 100000 in
def w_Mo_edit_130 (G : GT) : Nat → Nat → Int32 → Int32 → PH → Option (PH)
  | 0 => fun _ _ _ _ => none
  | n + 1 => b_Mo_edit_130 G (w_Mo_edit_130 G n)
set_option maxRecDepth 100000 in
set_option maxHeartbeats 4000000 in
theorem tw_Mo_edit_130 {G : GT} : ∀ (n : Nat) (l0 : Nat) (l2 : Int32) (l3 : Int32) (M : PH), VX G mi_Mo_edit 2 28 130 [some (.ref l0), none, some (.int l2), some (.int l3), none] [] M qV (w_Mo_edit_130 G n l0 l2 l3 M)
  | 0, _, _, _, _ => X_none
  | n + 1, l0, l2, l3, M => t_Mo_edit_130 (tw_Mo_edit_130 n) l0 l2 l3 M
set_option maxRecDepth 100000 in
def b_Mo_edit_105 (G : GT) (l0 : Nat) (l2 : Int32) (M : PH) : Option (PH) :=
  if hT M l0 = 11 then (hR M 2211 l0).bind fun a2 => if hT M a2 = 17 then if 4 < hN M a2 then if hA M a2 4 = 0 then (b_Mo_edit_190 G l0 l2 M) else ((hR M 2278 l0).bind fun a5 => if hT M a5 = 16 then if ib l2 (hN M a5) = true then if hA M a5 l2.toNatClampNeg ≤ 0 then (b_Mo_edit_190 G l0 l2 M) else (if ib l2 (hN M a5) = true then vb (hA M a5 l2.toNatClampNeg) fun v8 => w_Mo_edit_130 G FU l0 l2 v8 M else none) else none else none) else none else none else none
set_option maxRecDepth 100000 in
set_option maxHeartbeats 4000000 in
theorem t_Mo_edit_105 {G : GT} (l0 : Nat) (l2 : Int32) (M : PH) : VX G mi_Mo_edit 2 28 105 [some (.ref l0), none, some (.int l2), none, none] [] M qV (b_Mo_edit_105 G l0 l2 M) := by
  unfold b_Mo_edit_105
  refine V_open ok_Mo_edit_105 ?_
  refine B_aload_n rfl ?_
  refine B_chk (fun t1 => ?_)
  refine K_getR 11 11 2211 lf_Mo_17 rfl rfl t1 (fun a2 r3 => ?_)
  refine B_iconst (4 : Int32) ic_4 ?_
  refine B_chk (fun t4 => ?_)
  refine K_zaldc 4 rfl t4 ?_
  refine B_eq (tgt := 190) (by decide) ?_ ?_
  · skip
    exact V_weak (ls' := [some (.ref l0), none, some (.int l2), none, none]) ⟨rfl, ⟨rfl, trivial⟩⟩ (t_Mo_edit_190 l0 l2 M)
  · skip
    refine B_aload_n rfl ?_
    refine K_getR 11 78 2278 lf_Mo_165 rfl rfl t1 (fun a5 r6 => ?_)
    refine B_iload_n rfl ?_
    refine B_chk (fun t7 => ?_)
    refine K_iald t7 ?_
    refine B_le (tgt := 190) (by decide) ?_ ?_
    · skip
      exact V_weak (ls' := [some (.ref l0), none, some (.int l2), none, none]) ⟨rfl, ⟨rfl, trivial⟩⟩ (t_Mo_edit_190 l0 l2 M)
    · skip
      refine B_aload_n rfl ?_
      refine K_getRk 11 78 2278 lf_Mo_165 rfl rfl t1 r6 ?_
      refine B_iload_n rfl ?_
      refine K_iald t7 ?_
      refine B_vb (fun v8 => ?_)
      refine S_in [some (.ref l0), none, some (.int l2), some (.int v8), none] (by decide) rfl ?_
      refine V_close ?_
      exact V_weak (ls' := [some (.ref l0), none, some (.int l2), some (.int v8), none]) ⟨rfl, ⟨rfl, ⟨rfl, trivial⟩⟩⟩ (tw_Mo_edit_130 FU l0 l2 v8 M)
set_option maxRecDepth 100000 in
def b_Mo_edit_71 (G : GT) (l0 : Nat) (l2 : Int32) (M : PH) : Option (PH) :=
  if hT M l0 = 11 then (hR M 2211 l0).bind fun a2 => if hT M a2 = 17 then if 3 < hN M a2 then if hA M a2 3 = 0 then (b_Mo_edit_105 G l0 l2 M) else ((hR M 2278 l0).bind fun a5 => if hT M a5 = 16 then if ib l2 (hN M a5) = true then (hR M 2277 l0).bind fun a8 => if hT M a8 = 16 then if ib l2 (hN M a8) = true then if hA M a8 l2.toNatClampNeg ≤ hA M a5 l2.toNatClampNeg then (b_Mo_edit_105 G l0 l2 M) else (if ib l2 (hN M a5) = true then if ib l2 (hN M a5) = true then hb (sA M a5 l2.toNatClampNeg ((hA M a5 l2.toNatClampNeg) + (1 : Int32))) fun M12 => (b_Mo_edit_105 G l0 l2 M12) else none else none) else none else none else none else none) else none else none else none
set_option maxRecDepth 100000 in
set_option maxHeartbeats 4000000 in
theorem t_Mo_edit_71 {G : GT} (l0 : Nat) (l2 : Int32) (M : PH) : VX G mi_Mo_edit 2 28 71 [some (.ref l0), none, some (.int l2), none, none] [] M qV (b_Mo_edit_71 G l0 l2 M) := by
  unfold b_Mo_edit_71
  refine V_open ok_Mo_edit_71 ?_
  refine B_aload_n rfl ?_
  refine B_chk (fun t1 => ?_)
  refine K_getR 11 11 2211 lf_Mo_17 rfl rfl t1 (fun a2 r3 => ?_)
  refine B_iconst (3 : Int32) ic_3 ?_
  refine B_chk (fun t4 => ?_)
  refine K_zaldc 3 rfl t4 ?_
  refine B_eq (tgt := 105) (by decide) ?_ ?_
  · skip
    exact V_weak (ls' := [some (.ref l0), none, some (.int l2), none, none]) ⟨rfl, ⟨rfl, trivial⟩⟩ (t_Mo_edit_105 l0 l2 M)
  · skip
    refine B_aload_n rfl ?_
    refine K_getR 11 78 2278 lf_Mo_165 rfl rfl t1 (fun a5 r6 => ?_)
    refine B_iload_n rfl ?_
    refine B_chk (fun t7 => ?_)
    refine K_iald t7 ?_
    refine B_aload_n rfl ?_
    refine K_getR 11 77 2277 lf_Mo_162 rfl rfl t1 (fun a8 r9 => ?_)
    refine B_iload_n rfl ?_
    refine B_chk (fun t10 => ?_)
    refine K_iald t10 ?_
    refine B_ige (tgt := 105) (by decide) ?_ ?_
    · skip
      exact V_weak (ls' := [some (.ref l0), none, some (.int l2), none, none]) ⟨rfl, ⟨rfl, trivial⟩⟩ (t_Mo_edit_105 l0 l2 M)
    · skip
      refine B_aload_n rfl ?_
      refine K_getRk 11 78 2278 lf_Mo_165 rfl rfl t1 r6 ?_
      refine B_iload_n rfl ?_
      refine B_dup2 rfl rfl ?_
      refine K_iald t7 ?_
      refine B_iconst (1 : Int32) ic_1 ?_
      refine B_iadd ?_
      refine K_iast t7 (fun M12 e11 => ?_)
      refine V_close ?_
      exact V_weak (ls' := [some (.ref l0), none, some (.int l2), none, none]) ⟨rfl, ⟨rfl, trivial⟩⟩ (t_Mo_edit_105 l0 l2 M12)
set_option maxRecDepth 100000 in
def b_Mo_edit_43 (G : GT) (l0 : Nat) (l2 : Int32) (M : PH) : Option (PH) :=
  if hT M l0 = 11 then (hR M 2211 l0).bind fun a2 => if hT M a2 = 17 then if 2 < hN M a2 then if hA M a2 2 = 0 then (b_Mo_edit_71 G l0 l2 M) else ((hR M 2278 l0).bind fun a5 => if hT M a5 = 16 then if ib l2 (hN M a5) = true then if hA M a5 l2.toNatClampNeg ≤ 0 then (b_Mo_edit_71 G l0 l2 M) else (if ib l2 (hN M a5) = true then if ib l2 (hN M a5) = true then hb (sA M a5 l2.toNatClampNeg ((hA M a5 l2.toNatClampNeg) - (1 : Int32))) fun M9 => (b_Mo_edit_71 G l0 l2 M9) else none else none) else none else none) else none else none else none
set_option maxRecDepth 100000 in
set_option maxHeartbeats 4000000 in
theorem t_Mo_edit_43 {G : GT} (l0 : Nat) (l2 : Int32) (M : PH) : VX G mi_Mo_edit 2 28 43 [some (.ref l0), none, some (.int l2), none, none] [] M qV (b_Mo_edit_43 G l0 l2 M) := by
  unfold b_Mo_edit_43
  refine V_open ok_Mo_edit_43 ?_
  refine B_aload_n rfl ?_
  refine B_chk (fun t1 => ?_)
  refine K_getR 11 11 2211 lf_Mo_17 rfl rfl t1 (fun a2 r3 => ?_)
  refine B_iconst (2 : Int32) ic_2 ?_
  refine B_chk (fun t4 => ?_)
  refine K_zaldc 2 rfl t4 ?_
  refine B_eq (tgt := 71) (by decide) ?_ ?_
  · skip
    exact V_weak (ls' := [some (.ref l0), none, some (.int l2), none, none]) ⟨rfl, ⟨rfl, trivial⟩⟩ (t_Mo_edit_71 l0 l2 M)
  · skip
    refine B_aload_n rfl ?_
    refine K_getR 11 78 2278 lf_Mo_165 rfl rfl t1 (fun a5 r6 => ?_)
    refine B_iload_n rfl ?_
    refine B_chk (fun t7 => ?_)
    refine K_iald t7 ?_
    refine B_le (tgt := 71) (by decide) ?_ ?_
    · skip
      exact V_weak (ls' := [some (.ref l0), none, some (.int l2), none, none]) ⟨rfl, ⟨rfl, trivial⟩⟩ (t_Mo_edit_71 l0 l2 M)
    · skip
      refine B_aload_n rfl ?_
      refine K_getRk 11 78 2278 lf_Mo_165 rfl rfl t1 r6 ?_
      refine B_iload_n rfl ?_
      refine B_dup2 rfl rfl ?_
      refine K_iald t7 ?_
      refine B_iconst (1 : Int32) ic_1 ?_
      refine B_isub ?_
      refine K_iast t7 (fun M9 e8 => ?_)
      refine V_close ?_
      exact V_weak (ls' := [some (.ref l0), none, some (.int l2), none, none]) ⟨rfl, ⟨rfl, trivial⟩⟩ (t_Mo_edit_71 l0 l2 M9)
set_option maxRecDepth 100000 in
def b_Mo_edit_20 (G : GT) (l0 : Nat) (s0 : Int32) (M : PH) : Option (PH) :=
  if ¬ s0 = (-1 : Int32) then (if hT M l0 = 11 then (hR M 2211 l0).bind fun a2 => if hT M a2 = 17 then if 5 < hN M a2 then if hA M a2 5 = 0 then (b_Mo_edit_43 G l0 s0 M) else ((hR M 2278 l0).bind fun a5 => if hT M a5 = 16 then if ib s0 (hN M a5) = true then hb (sA M a5 s0.toNatClampNeg (0 : Int32)) fun M9 => (b_Mo_edit_43 G l0 s0 M9) else none else none) else none else none else none) else (some M)
set_option maxRecDepth 100000 in
set_option maxHeartbeats 4000000 in
theorem t_Mo_edit_20 {G : GT} (l0 : Nat) (s0 : Int32) (M : PH) : VX G mi_Mo_edit 2 28 20 [some (.ref l0), none, none, none, none] [.int s0] M qV (b_Mo_edit_20 G l0 s0 M) := by
  unfold b_Mo_edit_20
  refine V_open ok_Mo_edit_20 ?_
  refine S_in [some (.ref l0), none, some (.int s0), none, none] (by decide) rfl ?_
  refine B_iload_n rfl ?_
  refine B_iconst (-1 : Int32) ic_m1 ?_
  refine B_ine (tgt := 27) (by decide) ?_ ?_
  · skip
    refine V_open ok_Mo_edit_27 ?_
    refine B_aload_n rfl ?_
    refine B_chk (fun t1 => ?_)
    refine K_getR 11 11 2211 lf_Mo_17 rfl rfl t1 (fun a2 r3 => ?_)
    refine B_iconst (5 : Int32) ic_5 ?_
    refine B_chk (fun t4 => ?_)
    refine K_zaldc 5 rfl t4 ?_
    refine B_eq (tgt := 43) (by decide) ?_ ?_
    · skip
      exact V_weak (ls' := [some (.ref l0), none, some (.int s0), none, none]) ⟨rfl, ⟨rfl, trivial⟩⟩ (t_Mo_edit_43 l0 s0 M)
    · skip
      refine B_aload_n rfl ?_
      refine K_getR 11 78 2278 lf_Mo_165 rfl rfl t1 (fun a5 r6 => ?_)
      refine B_iload_n rfl ?_
      refine B_iconst (0 : Int32) ic_0 ?_
      refine B_chk (fun t7 => ?_)
      refine K_iast t7 (fun M9 e8 => ?_)
      refine V_close ?_
      exact V_weak (ls' := [some (.ref l0), none, some (.int s0), none, none]) ⟨rfl, ⟨rfl, trivial⟩⟩ (t_Mo_edit_43 l0 s0 M9)
  · skip
    exact B_vret rfl
set_option maxRecDepth 100000 in
def f_Mo_edit (G : GT) (l0 : Nat) (l1 : Int32) (M : PH) : Option (PH) :=
  if hT M l0 = 11 then if hI M 2216 l0 ≤ 0 then (bI (f_Mo_find G l0 l1 M) fun v3 M2 => (b_Mo_edit_20 G l0 v3 M2)) else (bI (f_Mo_made G l0 l1 M) fun v5 M4 => (b_Mo_edit_20 G l0 v5 M4)) else none
set_option maxRecDepth 100000 in
set_option maxHeartbeats 4000000 in
theorem s_Mo_edit {G : GT} (l0 : Nat) (l1 : Int32) (M : PH) : VX G mi_Mo_edit 2 28 0 [some (.ref l0), some (.int l1), none, none, none] [] M qV (f_Mo_edit G l0 l1 M) := by
  unfold f_Mo_edit
  refine V_open ok_Mo_edit_0 ?_
  refine B_aload_n rfl ?_
  refine B_chk (fun t1 => ?_)
  refine K_getI 11 16 2216 lf_Mo_217 rfl rfl t1 ?_
  refine B_le (tgt := 15) (by decide) ?_ ?_
  · skip
    refine V_open ok_Mo_edit_15 ?_
    refine B_aload_n rfl ?_
    refine B_iload_n rfl ?_
    refine C_I (vs := [.ref l0, .int l1]) (st := []) (ci_V lv_Mo_365 rfl rfl t1) rfl rfl rfl (s_Mo_find l0 l1 M) (fun v3 M2 => ?_)
    refine V_close ?_
    exact V_weak (ls' := [some (.ref l0), none, none, none, none]) ⟨rfl, trivial⟩ (t_Mo_edit_20 l0 v3 M2)
  · skip
    refine B_aload_n rfl ?_
    refine B_iload_n rfl ?_
    refine C_I (vs := [.ref l0, .int l1]) (st := []) (ci_V lv_Mo_368 rfl rfl t1) rfl rfl rfl (s_Mo_made l0 l1 M) (fun v5 M4 => ?_)
    refine B_goto (tgt := 20) (by decide) ?_
    exact V_weak (ls' := [some (.ref l0), none, none, none, none]) ⟨rfl, trivial⟩ (t_Mo_edit_20 l0 v5 M4)

-- Mo_field
theorem ok_Mo_field_0 : okb prog_13_method_55_code 0 [(.aload_n 0, 1), (.aload_n 0, 1), (.iload_n 1, 1), (.invokevirtual 343, 3), (.ifCond .eq 19, 3), (.iload_n 2, 1), (.iconst 1, 1), (.if_icmp .lt 14, 3), (.iload_n 2, 1), (.sipush 200, 3), (.if_icmp .gt 7, 3), (.iconst 1, 1), (.goto 4, 3)] = true := by decide +kernel
theorem ok_Mo_field_25 : okb prog_13_method_55_code 25 [(.iconst 0, 1)] = true := by decide +kernel
theorem ok_Mo_field_26 : okb prog_13_method_55_code 26 [(.invokevirtual 371, 3), (.ifCond .eq 5, 3), (.iconst 0, 1), (.ireturn, 1)] = true := by decide +kernel
theorem ok_Mo_field_34 : okb prog_13_method_55_code 34 [(.aload_n 0, 1), (.iload_n 1, 1), (.iload_n 2, 1), (.bipush 12, 2), (.invokevirtual 375, 3), (.istore_n 3, 1), (.aload_n 0, 1), (.iload_n 3, 1), (.invokevirtual 378, 3), (.pop, 1), (.aload_n 0, 1), (.getfield 294, 3), (.iload_n 3, 1), (.if_icmp .ne 8, 3), (.aload_n 0, 1), (.iload_n 3, 1), (.invokevirtual 394, 3)] = true := by decide +kernel
theorem ok_Mo_field_62 : okb prog_13_method_55_code 62 [(.aload_n 0, 1), (.iload_n 3, 1), (.invokevirtual 381, 3), (.aload_n 0, 1), (.iload_n 3, 1), (.invokevirtual 365, 3), (.istore 4, 2), (.iload 4, 2), (.iconst (-1), 1), (.if_icmp .ne 7, 3), (.iconst 0, 1), (.goto 10, 3)] = true := by decide +kernel
theorem ok_Mo_field_84 : okb prog_13_method_55_code 84 [(.aload_n 0, 1), (.getfield 162, 3), (.iload 4, 2), (.iaload, 1)] = true := by decide +kernel
theorem ok_Mo_field_91 : okb prog_13_method_55_code 91 [(.istore 5, 2), (.iconst 0, 1), (.istore 6, 2)] = true := by decide +kernel
theorem ok_Mo_field_96 : okb prog_13_method_55_code 96 [(.iload 6, 2), (.iload 5, 2), (.if_icmp .ge 74, 3), (.aload_n 0, 1), (.aload_n 0, 1), (.getfield 150, 3), (.iconst 0, 1), (.iaload, 1), (.iconst 2, 1), (.iadd, 1), (.bipush 6, 2), (.iload 6, 2), (.imul, 1), (.iadd, 1), (.aload_n 0, 1), (.getfield 150, 3), (.iconst 1, 1), (.iaload, 1), (.iconst 2, 1), (.iadd, 1), (.aload_n 0, 1), (.getfield 150, 3), (.iconst 0, 1), (.iaload, 1), (.bipush 8, 2), (.iadd, 1), (.bipush 6, 2), (.iload 6, 2), (.imul, 1), (.iadd, 1), (.aload_n 0, 1), (.getfield 150, 3), (.iconst 1, 1), (.iaload, 1), (.bipush 10, 2), (.iadd, 1), (.bipush 6, 2), (.aload_n 0, 1), (.getfield 159, 3), (.bipush 12, 2), (.iload 4, 2), (.imul, 1), (.iload 6, 2), (.iadd, 1), (.iaload, 1), (.invokevirtual 320, 3), (.iinc 6 1, 3), (.goto (-75), 3)] = true := by decide +kernel
theorem ok_Mo_field_174 : okb prog_13_method_55_code 174 [(.iload 5, 2), (.ireturn, 1)] = true := by decide +kernel
set_option maxRecDepth 100000 in
def b_Mo_field_96 (G : GT) (k96 : Nat → Int32 → Int32 → Int32 → PH → Option (Int32 × PH)) (l0 : Nat) (l4 : Int32) (l5 : Int32) (l6 : Int32) (M : PH) : Option (Int32 × PH) :=
  if l5 ≤ l6 then (some (l5, M)) else (if hT M l0 = 11 then (hR M 2273 l0).bind fun a2 => if hT M a2 = 16 then if 0 < hN M a2 then if 1 < hN M a2 then if 0 < hN M a2 then if 1 < hN M a2 then (hR M 2276 l0).bind fun a5 => if hT M a5 = 16 then if ib (((12 : Int32) * l4) + l6) (hN M a5) = true then bV (f_Mo_quadClipped G l0 (((hA M a2 0) + (2 : Int32)) + ((6 : Int32) * l6)) ((hA M a2 1) + (2 : Int32)) (((hA M a2 0) + (8 : Int32)) + ((6 : Int32) * l6)) ((hA M a2 1) + (10 : Int32)) (6 : Int32) (hA M a5 (((12 : Int32) * l4) + l6).toNatClampNeg) M) fun M8 => (k96 l0 l4 l5 (l6 + (1 : Int32)) M8) else none else none else none else none else none else none else none else none)
set_option maxRecDepth 100000 in
set_option maxHeartbeats 4000000 in
theorem t_Mo_field_96 {G : GT} {k96 : Nat → Int32 → Int32 → Int32 → PH → Option (Int32 × PH)} (hk96 : ∀ (l0 : Nat) (l4 : Int32) (l5 : Int32) (l6 : Int32) (M : PH), VX G mi_Mo_field 4 68 96 [some (.ref l0), none, none, none, some (.int l4), some (.int l5), some (.int l6)] [] M qI (k96 l0 l4 l5 l6 M)) (l0 : Nat) (l4 : Int32) (l5 : Int32) (l6 : Int32) (M : PH) : VX G mi_Mo_field 4 68 96 [some (.ref l0), none, none, none, some (.int l4), some (.int l5), some (.int l6)] [] M qI (b_Mo_field_96 G k96 l0 l4 l5 l6 M) := by
  unfold b_Mo_field_96
  refine V_open ok_Mo_field_96 ?_
  refine B_iload rfl ?_
  refine B_iload rfl ?_
  refine B_ige (tgt := 174) (by decide) ?_ ?_
  · skip
    refine V_open ok_Mo_field_174 ?_
    refine B_iload rfl ?_
    exact B_iret rfl
  · skip
    refine B_aload_n rfl ?_
    refine B_aload_n rfl ?_
    refine B_chk (fun t1 => ?_)
    refine K_getR 11 73 2273 lf_Mo_150 rfl rfl t1 (fun a2 r3 => ?_)
    refine B_iconst (0 : Int32) ic_0 ?_
    refine B_chk (fun t4 => ?_)
    refine K_ialdc 0 rfl t4 ?_
    refine B_iconst (2 : Int32) ic_2 ?_
    refine B_iadd ?_
    refine B_bipush (6 : Int32) bp_6 ?_
    refine B_iload rfl ?_
    refine B_imul ?_
    refine B_iadd ?_
    refine B_aload_n rfl ?_
    refine K_getRk 11 73 2273 lf_Mo_150 rfl rfl t1 r3 ?_
    refine B_iconst (1 : Int32) ic_1 ?_
    refine K_ialdc 1 rfl t4 ?_
    refine B_iconst (2 : Int32) ic_2 ?_
    refine B_iadd ?_
    refine B_aload_n rfl ?_
    refine K_getRk 11 73 2273 lf_Mo_150 rfl rfl t1 r3 ?_
    refine B_iconst (0 : Int32) ic_0 ?_
    refine K_ialdc 0 rfl t4 ?_
    refine B_bipush (8 : Int32) bp_8 ?_
    refine B_iadd ?_
    refine B_bipush (6 : Int32) bp_6 ?_
    refine B_iload rfl ?_
    refine B_imul ?_
    refine B_iadd ?_
    refine B_aload_n rfl ?_
    refine K_getRk 11 73 2273 lf_Mo_150 rfl rfl t1 r3 ?_
    refine B_iconst (1 : Int32) ic_1 ?_
    refine K_ialdc 1 rfl t4 ?_
    refine B_bipush (10 : Int32) bp_10 ?_
    refine B_iadd ?_
    refine B_bipush (6 : Int32) bp_6 ?_
    refine B_aload_n rfl ?_
    refine K_getR 11 76 2276 lf_Mo_159 rfl rfl t1 (fun a5 r6 => ?_)
    refine B_bipush (12 : Int32) bp_12 ?_
    refine B_iload rfl ?_
    refine B_imul ?_
    refine B_iload rfl ?_
    refine B_iadd ?_
    refine B_chk (fun t7 => ?_)
    refine K_iald t7 ?_
    refine C_V (vs := [.ref l0, .int (((hA M a2 0) + (2 : Int32)) + ((6 : Int32) * l6)), .int ((hA M a2 1) + (2 : Int32)), .int (((hA M a2 0) + (8 : Int32)) + ((6 : Int32) * l6)), .int ((hA M a2 1) + (10 : Int32)), .int (6 : Int32), .int (hA M a5 (((12 : Int32) * l4) + l6).toNatClampNeg)]) (st := []) (ci_V lv_Mo_320 rfl rfl t1) rfl rfl rfl (s_Mo_quadClipped l0 (((hA M a2 0) + (2 : Int32)) + ((6 : Int32) * l6)) ((hA M a2 1) + (2 : Int32)) (((hA M a2 0) + (8 : Int32)) + ((6 : Int32) * l6)) ((hA M a2 1) + (10 : Int32)) (6 : Int32) (hA M a5 (((12 : Int32) * l4) + l6).toNatClampNeg) M) (fun M8 => ?_)
    refine S_inc (1 : Int32) [some (.ref l0), none, none, none, some (.int l4), some (.int l5), some (.int (l6 + (1 : Int32)))] ic_1 rfl (by decide) rfl ?_
    refine B_goto (tgt := 96) (by decide) ?_
    exact V_weak (ls' := [some (.ref l0), none, none, none, some (.int l4), some (.int l5), some (.int (l6 + (1 : Int32)))]) ⟨rfl, ⟨rfl, ⟨rfl, ⟨rfl, trivial⟩⟩⟩⟩ (hk96 l0 l4 l5 (l6 + (1 : Int32)) M8)
set_option maxRecDepth 100000 in
def w_Mo_field_96 (G : GT) : Nat → Nat → Int32 → Int32 → Int32 → PH → Option (Int32 × PH)
  | 0 => fun _ _ _ _ _ => none
  | n + 1 => b_Mo_field_96 G (w_Mo_field_96 G n)
set_option maxRecDepth 100000 in
set_option maxHeartbeats 4000000 in
theorem tw_Mo_field_96 {G : GT} : ∀ (n : Nat) (l0 : Nat) (l4 : Int32) (l5 : Int32) (l6 : Int32) (M : PH), VX G mi_Mo_field 4 68 96 [some (.ref l0), none, none, none, some (.int l4), some (.int l5), some (.int l6)] [] M qI (w_Mo_field_96 G n l0 l4 l5 l6 M)
  | 0, _, _, _, _, _ => X_none
  | n + 1, l0, l4, l5, l6, M => t_Mo_field_96 (tw_Mo_field_96 n) l0 l4 l5 l6 M
set_option maxRecDepth 100000 in
def b_Mo_field_91 (G : GT) (l0 : Nat) (l4 : Int32) (s0 : Int32) (M : PH) : Option (Int32 × PH) :=
  w_Mo_field_96 G FU l0 l4 s0 (0 : Int32) M
set_option maxRecDepth 100000 in
set_option maxHeartbeats 4000000 in
theorem t_Mo_field_91 {G : GT} (l0 : Nat) (l4 : Int32) (s0 : Int32) (M : PH) : VX G mi_Mo_field 4 68 91 [some (.ref l0), none, none, none, some (.int l4), none, none] [.int s0] M qI (b_Mo_field_91 G l0 l4 s0 M) := by
  unfold b_Mo_field_91
  refine V_open ok_Mo_field_91 ?_
  refine S_i [some (.ref l0), none, none, none, some (.int l4), some (.int s0), none] (by decide) rfl ?_
  refine B_iconst (0 : Int32) ic_0 ?_
  refine S_i [some (.ref l0), none, none, none, some (.int l4), some (.int s0), some (.int (0 : Int32))] (by decide) rfl ?_
  refine V_close ?_
  exact V_weak (ls' := [some (.ref l0), none, none, none, some (.int l4), some (.int s0), some (.int (0 : Int32))]) ⟨rfl, ⟨rfl, ⟨rfl, ⟨rfl, trivial⟩⟩⟩⟩ (tw_Mo_field_96 FU l0 l4 s0 (0 : Int32) M)
set_option maxRecDepth 100000 in
def b_Mo_field_62 (G : GT) (l0 : Nat) (l3 : Int32) (M : PH) : Option (Int32 × PH) :=
  if hT M l0 = 11 then bV (f_Mo_shape G l0 l3 M) fun M2 => (if hT M2 l0 = 11 then bI (f_Mo_find G l0 l3 M2) fun v5 M4 => (if ¬ v5 = (-1 : Int32) then (if hT M4 l0 = 11 then (hR M4 2277 l0).bind fun a7 => if hT M4 a7 = 16 then if ib v5 (hN M4 a7) = true then b_Mo_field_91 G l0 v5 (hA M4 a7 v5.toNatClampNeg) M4 else none else none else none) else (b_Mo_field_91 G l0 v5 (0 : Int32) M4)) else none) else none
set_option maxRecDepth 100000 in
set_option maxHeartbeats 4000000 in
theorem t_Mo_field_62 {G : GT} (l0 : Nat) (l3 : Int32) (M : PH) : VX G mi_Mo_field 4 68 62 [some (.ref l0), none, none, some (.int l3), none, none, none] [] M qI (b_Mo_field_62 G l0 l3 M) := by
  unfold b_Mo_field_62
  refine V_open ok_Mo_field_62 ?_
  refine B_aload_n rfl ?_
  refine B_iload_n rfl ?_
  refine B_chk (fun t1 => ?_)
  refine C_V (vs := [.ref l0, .int l3]) (st := []) (ci_V lv_Mo_381 rfl rfl t1) rfl rfl rfl (s_Mo_shape l0 l3 M) (fun M2 => ?_)
  refine B_aload_n rfl ?_
  refine B_iload_n rfl ?_
  refine B_chk (fun t3 => ?_)
  refine C_I (vs := [.ref l0, .int l3]) (st := []) (ci_V lv_Mo_365 rfl rfl t3) rfl rfl rfl (s_Mo_find l0 l3 M2) (fun v5 M4 => ?_)
  refine S_i [some (.ref l0), none, none, some (.int l3), some (.int v5), none, none] (by decide) rfl ?_
  refine B_iload rfl ?_
  refine B_iconst (-1 : Int32) ic_m1 ?_
  refine B_ine (tgt := 84) (by decide) ?_ ?_
  · skip
    refine V_open ok_Mo_field_84 ?_
    refine B_aload_n rfl ?_
    refine B_chk (fun t6 => ?_)
    refine K_getR 11 77 2277 lf_Mo_162 rfl rfl t6 (fun a7 r8 => ?_)
    refine B_iload rfl ?_
    refine B_chk (fun t9 => ?_)
    refine K_iald t9 ?_
    refine V_close ?_
    exact V_weak (ls' := [some (.ref l0), none, none, none, some (.int v5), none, none]) ⟨rfl, ⟨rfl, trivial⟩⟩ (t_Mo_field_91 l0 v5 (hA M4 a7 v5.toNatClampNeg) M4)
  · skip
    refine B_iconst (0 : Int32) ic_0 ?_
    refine B_goto (tgt := 91) (by decide) ?_
    exact V_weak (ls' := [some (.ref l0), none, none, none, some (.int v5), none, none]) ⟨rfl, ⟨rfl, trivial⟩⟩ (t_Mo_field_91 l0 v5 (0 : Int32) M4)
set_option maxRecDepth 100000 in
def b_Mo_field_26 (G : GT) (l0 : Nat) (l1 : Int32) (l2 : Int32) (s0 : Nat) (s1 : Int32) (M : PH) : Option (Int32 × PH) :=
  if hT M s0 = 11 then bI (f_Mo_bars G s0 s1 M) fun v3 M2 => (if v3 = 0 then (if hT M2 l0 = 11 then bI (f_Mo_lay G l0 l1 l2 (12 : Int32) M2) fun v6 M5 => (if hT M5 l0 = 11 then bI (f_Mo_behaves G l0 v6 M5) fun v9 M8 => (if hT M8 l0 = 11 then if ¬ hI M8 2221 l0 = v6 then (b_Mo_field_62 G l0 v6 M8) else (bV (f_Mo_edit G l0 v6 M8) fun M11 => (b_Mo_field_62 G l0 v6 M11)) else none) else none) else none) else (some ((0 : Int32), M2))) else none
set_option maxRecDepth 100000 in
set_option maxHeartbeats 4000000 in
theorem t_Mo_field_26 {G : GT} (l0 : Nat) (l1 : Int32) (l2 : Int32) (s0 : Nat) (s1 : Int32) (M : PH) : VX G mi_Mo_field 4 68 26 [some (.ref l0), some (.int l1), some (.int l2), none, none, none, none] [.int s1, .ref s0] M qI (b_Mo_field_26 G l0 l1 l2 s0 s1 M) := by
  unfold b_Mo_field_26
  refine V_open ok_Mo_field_26 ?_
  refine B_chk (fun t1 => ?_)
  refine C_I (vs := [.ref s0, .int s1]) (st := []) (ci_V lv_Mo_371 rfl rfl t1) rfl rfl rfl (s_Mo_bars s0 s1 M) (fun v3 M2 => ?_)
  refine B_eq (tgt := 34) (by decide) ?_ ?_
  · skip
    refine V_open ok_Mo_field_34 ?_
    refine B_aload_n rfl ?_
    refine B_iload_n rfl ?_
    refine B_iload_n rfl ?_
    refine B_bipush (12 : Int32) bp_12 ?_
    refine B_chk (fun t4 => ?_)
    refine C_I (vs := [.ref l0, .int l1, .int l2, .int (12 : Int32)]) (st := []) (ci_V lv_Mo_375 rfl rfl t4) rfl rfl rfl (s_Mo_lay l0 l1 l2 (12 : Int32) M2) (fun v6 M5 => ?_)
    refine S_in [some (.ref l0), some (.int l1), some (.int l2), some (.int v6), none, none, none] (by decide) rfl ?_
    refine B_aload_n rfl ?_
    refine B_iload_n rfl ?_
    refine B_chk (fun t7 => ?_)
    refine C_I (vs := [.ref l0, .int v6]) (st := []) (ci_V lv_Mo_378 rfl rfl t7) rfl rfl rfl (s_Mo_behaves l0 v6 M5) (fun v9 M8 => ?_)
    refine B_pop rfl ?_
    refine B_aload_n rfl ?_
    refine B_chk (fun t10 => ?_)
    refine K_getI 11 21 2221 lf_Mo_294 rfl rfl t10 ?_
    refine B_iload_n rfl ?_
    refine B_ine (tgt := 62) (by decide) ?_ ?_
    · skip
      exact V_weak (ls' := [some (.ref l0), none, none, some (.int v6), none, none, none]) ⟨rfl, ⟨rfl, trivial⟩⟩ (t_Mo_field_62 l0 v6 M8)
    · skip
      refine B_aload_n rfl ?_
      refine B_iload_n rfl ?_
      refine C_V (vs := [.ref l0, .int v6]) (st := []) (ci_V lv_Mo_394 rfl rfl t10) rfl rfl rfl (s_Mo_edit l0 v6 M8) (fun M11 => ?_)
      refine V_close ?_
      exact V_weak (ls' := [some (.ref l0), none, none, some (.int v6), none, none, none]) ⟨rfl, ⟨rfl, trivial⟩⟩ (t_Mo_field_62 l0 v6 M11)
  · skip
    refine B_iconst (0 : Int32) ic_0 ?_
    exact B_iret rfl
set_option maxRecDepth 100000 in
def b_Mo_field_25 (G : GT) (l0 : Nat) (l1 : Int32) (l2 : Int32) (s0 : Nat) (M : PH) : Option (Int32 × PH) :=
  b_Mo_field_26 G l0 l1 l2 s0 (0 : Int32) M
set_option maxRecDepth 100000 in
set_option maxHeartbeats 4000000 in
theorem t_Mo_field_25 {G : GT} (l0 : Nat) (l1 : Int32) (l2 : Int32) (s0 : Nat) (M : PH) : VX G mi_Mo_field 4 68 25 [some (.ref l0), some (.int l1), some (.int l2), none, none, none, none] [.ref s0] M qI (b_Mo_field_25 G l0 l1 l2 s0 M) := by
  unfold b_Mo_field_25
  refine V_open ok_Mo_field_25 ?_
  refine B_iconst (0 : Int32) ic_0 ?_
  refine V_close ?_
  exact V_weak (ls' := [some (.ref l0), some (.int l1), some (.int l2), none, none, none, none]) ⟨rfl, ⟨rfl, ⟨rfl, trivial⟩⟩⟩ (t_Mo_field_26 l0 l1 l2 s0 (0 : Int32) M)
set_option maxRecDepth 100000 in
def f_Mo_field (G : GT) (l0 : Nat) (l1 : Int32) (l2 : Int32) (M : PH) : Option (Int32 × PH) :=
  if hT M l0 = 11 then bI (f_Mo_isLabel G l0 l1 M) fun v3 M2 => (if v3 = 0 then (b_Mo_field_25 G l0 l1 l2 l0 M2) else (if l2 < (1 : Int32) then (b_Mo_field_25 G l0 l1 l2 l0 M2) else (if (200 : Int32) < l2 then (b_Mo_field_25 G l0 l1 l2 l0 M2) else (b_Mo_field_26 G l0 l1 l2 l0 (1 : Int32) M2)))) else none
set_option maxRecDepth 100000 in
set_option maxHeartbeats 4000000 in
theorem s_Mo_field {G : GT} (l0 : Nat) (l1 : Int32) (l2 : Int32) (M : PH) : VX G mi_Mo_field 4 68 0 [some (.ref l0), some (.int l1), some (.int l2), none, none, none, none] [] M qI (f_Mo_field G l0 l1 l2 M) := by
  unfold f_Mo_field
  refine V_open ok_Mo_field_0 ?_
  refine B_aload_n rfl ?_
  refine B_aload_n rfl ?_
  refine B_iload_n rfl ?_
  refine B_chk (fun t1 => ?_)
  refine C_I (vs := [.ref l0, .int l1]) (st := [.ref l0]) (ci_V lv_Mo_343 rfl rfl t1) rfl rfl rfl (s_Mo_isLabel l0 l1 M) (fun v3 M2 => ?_)
  refine B_eq (tgt := 25) (by decide) ?_ ?_
  · skip
    exact V_weak (ls' := [some (.ref l0), some (.int l1), some (.int l2), none, none, none, none]) ⟨rfl, ⟨rfl, ⟨rfl, trivial⟩⟩⟩ (t_Mo_field_25 l0 l1 l2 l0 M2)
  · skip
    refine B_iload_n rfl ?_
    refine B_iconst (1 : Int32) ic_1 ?_
    refine B_ilt (tgt := 25) (by decide) ?_ ?_
    · skip
      exact V_weak (ls' := [some (.ref l0), some (.int l1), some (.int l2), none, none, none, none]) ⟨rfl, ⟨rfl, ⟨rfl, trivial⟩⟩⟩ (t_Mo_field_25 l0 l1 l2 l0 M2)
    · skip
      refine B_iload_n rfl ?_
      refine B_sipush (200 : Int32) sp_200 ?_
      refine B_igt (tgt := 25) (by decide) ?_ ?_
      · skip
        exact V_weak (ls' := [some (.ref l0), some (.int l1), some (.int l2), none, none, none, none]) ⟨rfl, ⟨rfl, ⟨rfl, trivial⟩⟩⟩ (t_Mo_field_25 l0 l1 l2 l0 M2)
      · skip
        refine B_iconst (1 : Int32) ic_1 ?_
        refine B_goto (tgt := 26) (by decide) ?_
        exact V_weak (ls' := [some (.ref l0), some (.int l1), some (.int l2), none, none, none, none]) ⟨rfl, ⟨rfl, ⟨rfl, trivial⟩⟩⟩ (t_Mo_field_26 l0 l1 l2 l0 (1 : Int32) M2)

-- PF_tree
theorem ok_PF_tree_0 : okb prog_1_method_40_code 0 [(.aload_n 0, 1), (.iload_n 1, 1), (.iload_n 2, 1), (.iconst 1, 1), (.invokevirtual 374, 3), (.aload_n 0, 1), (.iload_n 1, 1), (.invokevirtual 378, 3), (.istore_n 3, 1), (.aload_n 0, 1), (.iload_n 3, 1), (.aload_n 0, 1), (.iload_n 3, 1), (.iload_n 2, 1), (.invokevirtual 382, 3), (.invokevirtual 395, 3), (.aload_n 0, 1), (.iload_n 3, 1), (.invokevirtual 385, 3), (.aload_n 0, 1), (.iload_n 1, 1), (.invokevirtual 388, 3), (.aload_n 0, 1), (.getfield 19, 3), (.iload_n 3, 1), (.invokevirtual 391, 3), (.ifCond .eq 7, 3), (.iconst 1, 1), (.goto 4, 3)] = true := by decide +kernel
theorem ok_PF_tree_49 : okb prog_1_method_40_code 49 [(.iconst 0, 1)] = true := by decide +kernel
theorem ok_PF_tree_50 : okb prog_1_method_40_code 50 [(.istore 4, 2), (.aload_n 0, 1), (.iload 4, 2), (.ifCond .eq 12, 3), (.aload_n 0, 1), (.getfield 114, 3), (.bipush 40, 2), (.if_icmp .ge 7, 3)] = true := by decide +kernel
theorem ok_PF_tree_67 : okb prog_1_method_40_code 67 [(.iconst 1, 1), (.goto 4, 3)] = true := by decide +kernel
theorem ok_PF_tree_71 : okb prog_1_method_40_code 71 [(.iconst 0, 1)] = true := by decide +kernel
theorem ok_PF_tree_72 : okb prog_1_method_40_code 72 [(.invokevirtual 130, 3), (.iload 4, 2), (.ifCond .ne 5, 3), (.iconst 0, 1), (.ireturn, 1)] = true := by decide +kernel
theorem ok_PF_tree_82 : okb prog_1_method_40_code 82 [(.aload_n 0, 1), (.iconst 2, 1), (.iload_n 3, 1), (.invokevirtual 311, 3), (.getfield 232, 3), (.dup, 1), (.getfield 334, 3), (.bipush 10, 2), (.iadd, 1), (.putfield 334, 3), (.iconst 1, 1), (.ireturn, 1)] = true := by decide +kernel
set_option maxRecDepth 100000 in
def b_PF_tree_72 (G : GT) (l0 : Nat) (l3 : Int32) (l4 : Int32) (s0 : Nat) (s1 : Int32) (M : PH) : Option (Nat × Int32 × PH) :=
  if hT M s0 = 10 then bT (f_PF_may G s0 s1 M) fun M2 => (if ¬ l4 = 0 then (if hT M2 l0 = 10 then bR (f_PF_push G l0 (2 : Int32) l3 M2) fun a5 M4 => (if hT M4 a5 = 8 then (hR M4 1605 a5).bind fun a7 => if hT M4 a7 = 5 then hb (sI M4 1002 a7 ((hI M4 1002 a7) + (10 : Int32))) fun M11 => some (0, (1 : Int32), M11) else none else none) else none) else (some (0, (0 : Int32), M2))) else none
set_option maxRecDepth 100000 in
set_option maxHeartbeats 4000000 in
theorem t_PF_tree_72 {G : GT} (l0 : Nat) (l3 : Int32) (l4 : Int32) (s0 : Nat) (s1 : Int32) (M : PH) : VX G mi_PF_tree 8 109 72 [some (.ref l0), none, none, some (.int l3), some (.int l4)] [.int s1, .ref s0] M qT (b_PF_tree_72 G l0 l3 l4 s0 s1 M) := by
  unfold b_PF_tree_72
  refine V_open ok_PF_tree_72 ?_
  refine B_chk (fun t1 => ?_)
  refine C_T (vs := [.ref s0, .int s1]) (st := []) rfl (ci_V lv_PF_130 rfl rfl t1) rfl rfl rfl (s_PF_may s0 s1 M) (fun M2 => ?_)
  refine B_iload rfl ?_
  refine B_ne (tgt := 82) (by decide) ?_ ?_
  · skip
    refine V_open ok_PF_tree_82 ?_
    refine B_aload_n rfl ?_
    refine B_iconst (2 : Int32) ic_2 ?_
    refine B_iload_n rfl ?_
    refine B_chk (fun t3 => ?_)
    refine C_R (vs := [.ref l0, .int (2 : Int32), .int l3]) (st := []) (ci_V lv_PF_311 rfl rfl t3) rfl rfl rfl (s_PF_push l0 (2 : Int32) l3 M2) (fun a5 M4 => ?_)
    refine B_chk (fun t6 => ?_)
    refine K_getR 8 5 1605 lf_PF_232 rfl rfl t6 (fun a7 r8 => ?_)
    refine B_dup rfl ?_
    refine B_chk (fun t9 => ?_)
    refine K_getI 5 2 1002 lf_PF_334 rfl rfl t9 ?_
    refine B_bipush (10 : Int32) bp_10 ?_
    refine B_iadd ?_
    refine K_putI 5 2 1002 lf_PF_334 rfl (Or.inl rfl) rfl t9 (fun M11 e10 => ?_)
    refine B_iconst (1 : Int32) ic_1 ?_
    exact Z_tret rfl (Or.inr rfl)
  · skip
    refine B_iconst (0 : Int32) ic_0 ?_
    exact Z_tret rfl (Or.inl rfl)
set_option maxRecDepth 100000 in
def b_PF_tree_67 (G : GT) (l0 : Nat) (l3 : Int32) (l4 : Int32) (s0 : Nat) (M : PH) : Option (Nat × Int32 × PH) :=
  b_PF_tree_72 G l0 l3 l4 s0 (1 : Int32) M
set_option maxRecDepth 100000 in
set_option maxHeartbeats 4000000 in
theorem t_PF_tree_67 {G : GT} (l0 : Nat) (l3 : Int32) (l4 : Int32) (s0 : Nat) (M : PH) : VX G mi_PF_tree 8 109 67 [some (.ref l0), none, none, some (.int l3), some (.int l4)] [.ref s0] M qT (b_PF_tree_67 G l0 l3 l4 s0 M) := by
  unfold b_PF_tree_67
  refine V_open ok_PF_tree_67 ?_
  refine B_iconst (1 : Int32) ic_1 ?_
  refine B_goto (tgt := 72) (by decide) ?_
  exact V_weak (ls' := [some (.ref l0), none, none, some (.int l3), some (.int l4)]) ⟨rfl, ⟨rfl, ⟨rfl, trivial⟩⟩⟩ (t_PF_tree_72 l0 l3 l4 s0 (1 : Int32) M)
set_option maxRecDepth 100000 in
def b_PF_tree_50 (G : GT) (l0 : Nat) (l3 : Int32) (s0 : Int32) (M : PH) : Option (Nat × Int32 × PH) :=
  if s0 = 0 then (b_PF_tree_67 G l0 l3 s0 l0 M) else (if hT M l0 = 10 then if (40 : Int32) ≤ hI M 2006 l0 then (b_PF_tree_72 G l0 l3 s0 l0 (0 : Int32) M) else (b_PF_tree_67 G l0 l3 s0 l0 M) else none)
set_option maxRecDepth 100000 in
set_option maxHeartbeats 4000000 in
theorem t_PF_tree_50 {G : GT} (l0 : Nat) (l3 : Int32) (s0 : Int32) (M : PH) : VX G mi_PF_tree 8 109 50 [some (.ref l0), none, none, some (.int l3), none] [.int s0] M qT (b_PF_tree_50 G l0 l3 s0 M) := by
  unfold b_PF_tree_50
  refine V_open ok_PF_tree_50 ?_
  refine S_i [some (.ref l0), none, none, some (.int l3), some (.int s0)] (by decide) rfl ?_
  refine B_aload_n rfl ?_
  refine B_iload rfl ?_
  refine B_eq (tgt := 67) (by decide) ?_ ?_
  · skip
    exact V_weak (ls' := [some (.ref l0), none, none, some (.int l3), some (.int s0)]) ⟨rfl, ⟨rfl, ⟨rfl, trivial⟩⟩⟩ (t_PF_tree_67 l0 l3 s0 l0 M)
  · skip
    refine B_aload_n rfl ?_
    refine B_chk (fun t1 => ?_)
    refine K_getI 10 6 2006 lf_PF_114 rfl rfl t1 ?_
    refine B_bipush (40 : Int32) bp_40 ?_
    refine B_ige (tgt := 71) (by decide) ?_ ?_
    · skip
      refine V_open ok_PF_tree_71 ?_
      refine B_iconst (0 : Int32) ic_0 ?_
      refine V_close ?_
      exact V_weak (ls' := [some (.ref l0), none, none, some (.int l3), some (.int s0)]) ⟨rfl, ⟨rfl, ⟨rfl, trivial⟩⟩⟩ (t_PF_tree_72 l0 l3 s0 l0 (0 : Int32) M)
    · skip
      refine V_close ?_
      exact V_weak (ls' := [some (.ref l0), none, none, some (.int l3), some (.int s0)]) ⟨rfl, ⟨rfl, ⟨rfl, trivial⟩⟩⟩ (t_PF_tree_67 l0 l3 s0 l0 M)
set_option maxRecDepth 100000 in
def f_PF_tree (G : GT) (l0 : Nat) (l1 : Int32) (l2 : Int32) (M : PH) : Option (Nat × Int32 × PH) :=
  if hT M l0 = 10 then bT (f_PF_wantItem G l0 l1 l2 (1 : Int32) M) fun M2 => (if hT M2 l0 = 10 then bI (f_PF_idOf G l0 l1 M2) fun v5 M4 => (if hT M4 l0 = 10 then bI (f_PF_behave G l0 v5 l2 M4) fun v8 M7 => (if hT M7 l0 = 10 then bV (f_PF_flip G l0 v5 v8 M7) fun M10 => (if hT M10 l0 = 10 then bV (f_PF_draw G l0 v5 M10) fun M12 => (if hT M12 l0 = 10 then bV (f_PF_drawLabel G l0 l1 M12) fun M14 => (if hT M14 l0 = 10 then (hR M14 2001 l0).bind fun a16 => if hT M14 a16 = 3 then bI (f_Store_number G a16 v5 M14) fun v20 M19 => (if v20 = 0 then (b_PF_tree_50 G l0 v5 (0 : Int32) M19) else (b_PF_tree_50 G l0 v5 (1 : Int32) M19)) else none else none) else none) else none) else none) else none) else none) else none
set_option maxRecDepth 100000 in
set_option maxHeartbeats 4000000 in
theorem s_PF_tree {G : GT} (l0 : Nat) (l1 : Int32) (l2 : Int32) (M : PH) : VX G mi_PF_tree 8 109 0 [some (.ref l0), some (.int l1), some (.int l2), none, none] [] M qT (f_PF_tree G l0 l1 l2 M) := by
  unfold f_PF_tree
  refine V_open ok_PF_tree_0 ?_
  refine B_aload_n rfl ?_
  refine B_iload_n rfl ?_
  refine B_iload_n rfl ?_
  refine B_iconst (1 : Int32) ic_1 ?_
  refine B_chk (fun t1 => ?_)
  refine C_T (vs := [.ref l0, .int l1, .int l2, .int (1 : Int32)]) (st := []) rfl (ci_V lv_PF_374 rfl rfl t1) rfl rfl rfl (s_PF_wantItem l0 l1 l2 (1 : Int32) M) (fun M2 => ?_)
  refine B_aload_n rfl ?_
  refine B_iload_n rfl ?_
  refine B_chk (fun t3 => ?_)
  refine C_I (vs := [.ref l0, .int l1]) (st := []) (ci_V lv_PF_378 rfl rfl t3) rfl rfl rfl (s_PF_idOf l0 l1 M2) (fun v5 M4 => ?_)
  refine S_in [some (.ref l0), some (.int l1), some (.int l2), some (.int v5), none] (by decide) rfl ?_
  refine B_aload_n rfl ?_
  refine B_iload_n rfl ?_
  refine B_aload_n rfl ?_
  refine B_iload_n rfl ?_
  refine B_iload_n rfl ?_
  refine B_chk (fun t6 => ?_)
  refine C_I (vs := [.ref l0, .int v5, .int l2]) (st := [.int v5, .ref l0]) (ci_V lv_PF_382 rfl rfl t6) rfl rfl rfl (s_PF_behave l0 v5 l2 M4) (fun v8 M7 => ?_)
  refine B_chk (fun t9 => ?_)
  refine C_V (vs := [.ref l0, .int v5, .int v8]) (st := []) (ci_V lv_PF_395 rfl rfl t9) rfl rfl rfl (s_PF_flip l0 v5 v8 M7) (fun M10 => ?_)
  refine B_aload_n rfl ?_
  refine B_iload_n rfl ?_
  refine B_chk (fun t11 => ?_)
  refine C_V (vs := [.ref l0, .int v5]) (st := []) (ci_V lv_PF_385 rfl rfl t11) rfl rfl rfl (s_PF_draw l0 v5 M10) (fun M12 => ?_)
  refine B_aload_n rfl ?_
  refine B_iload_n rfl ?_
  refine B_chk (fun t13 => ?_)
  refine C_V (vs := [.ref l0, .int l1]) (st := []) (ci_V lv_PF_388 rfl rfl t13) rfl rfl rfl (s_PF_drawLabel l0 l1 M12) (fun M14 => ?_)
  refine B_aload_n rfl ?_
  refine B_chk (fun t15 => ?_)
  refine K_getR 10 1 2001 lf_PF_19 rfl rfl t15 (fun a16 r17 => ?_)
  refine B_iload_n rfl ?_
  refine B_chk (fun t18 => ?_)
  refine C_I (vs := [.ref a16, .int v5]) (st := []) (ci_V lv_PF_391 rfl rfl t18) rfl rfl rfl (s_Store_number a16 v5 M14) (fun v20 M19 => ?_)
  refine B_eq (tgt := 49) (by decide) ?_ ?_
  · skip
    refine V_open ok_PF_tree_49 ?_
    refine B_iconst (0 : Int32) ic_0 ?_
    refine V_close ?_
    exact V_weak (ls' := [some (.ref l0), none, none, some (.int v5), none]) ⟨rfl, ⟨rfl, trivial⟩⟩ (t_PF_tree_50 l0 v5 (0 : Int32) M19)
  · skip
    refine B_iconst (1 : Int32) ic_1 ?_
    refine B_goto (tgt := 50) (by decide) ?_
    exact V_weak (ls' := [some (.ref l0), none, none, some (.int v5), none]) ⟨rfl, ⟨rfl, trivial⟩⟩ (t_PF_tree_50 l0 v5 (1 : Int32) M19)

-- Law_tree
theorem ok_Law_tree_0 : okb method_13_code 0 [(.aload_n 3, 1), (.iconst 0, 1), (.aload_n 0, 1), (.iload_n 1, 1), (.iload_n 2, 1), (.invokevirtual 51, 3), (.ifCond .eq 7, 3), (.lconst 1, 1), (.goto 4, 3)] = true := by decide +kernel
theorem ok_Law_tree_15 : okb method_13_code 15 [(.lconst 0, 1)] = true := by decide +kernel
theorem ok_Law_tree_16 : okb method_13_code 16 [(.lastore, 1), (.goto 11, 3)] = true := by decide +kernel
theorem ok_Law_tree_20 : okb method_13_code 20 [(.astore 4, 2), (.iconst 1, 1), (.ireturn, 1)] = true := by decide +kernel
theorem ok_Law_tree_24 : okb method_13_code 24 [(.astore 4, 2), (.iconst 2, 1), (.ireturn, 1)] = true := by decide +kernel
theorem ok_Law_tree_28 : okb method_13_code 28 [(.iconst 0, 1), (.ireturn, 1)] = true := by decide +kernel
set_option maxRecDepth 100000 in
def b_Law_tree_16 (G : GT) (s0 : Nat) (s1 : Int32) (s2 : Int64) (M : PH) : Option (Int32 × PH) :=
  if hT M s0 = 19 then if ib s1 (hN M s0) = true then hb (sL M s0 s1.toNatClampNeg s2) fun M3 => (some ((0 : Int32), M3)) else none else none
set_option maxRecDepth 100000 in
set_option maxHeartbeats 4000000 in
theorem t_Law_tree_16 {G : GT} (s0 : Nat) (s1 : Int32) (s2 : Int64) (M : PH) : VX G mi_Law_tree 9 127 16 [none, none, none, none, none] [.long s2, .int s1, .ref s0] M qI (b_Law_tree_16 G s0 s1 s2 M) := by
  unfold b_Law_tree_16
  refine V_open ok_Law_tree_16 ?_
  refine B_chk (fun t1 => ?_)
  refine K_last t1 (fun M3 e2 => ?_)
  refine B_goto (tgt := 28) (by decide) ?_
  refine V_open ok_Law_tree_28 ?_
  refine B_iconst (0 : Int32) ic_0 ?_
  exact B_iret rfl
set_option maxRecDepth 100000 in
def f_Law_tree (G : GT) (l0 : Nat) (l1 : Int32) (l2 : Int32) (l3 : Nat) (M : PH) : Option (Int32 × PH) :=
  if hT M l0 = 10 then bH2 (f_PF_tree G l0 l1 l2 M) (fun v3 M2 => if v3 = 0 then (b_Law_tree_16 G l3 (0 : Int32) (0 : Int64) M2) else (b_Law_tree_16 G l3 (0 : Int32) (1 : Int64) M2)) (fun M2 => some ((1 : Int32), M2)) (fun M2 => some ((2 : Int32), M2)) else none
set_option maxRecDepth 100000 in
set_option maxHeartbeats 4000000 in
theorem s_Law_tree {G : GT} (l0 : Nat) (l1 : Int32) (l2 : Int32) (l3 : Nat) (M : PH) : VX G mi_Law_tree 9 127 0 [some (.ref l0), some (.int l1), some (.int l2), some (.ref l3), none] [] M qI (f_Law_tree G l0 l1 l2 l3 M) := by
  unfold f_Law_tree
  refine V_open ok_Law_tree_0 ?_
  refine B_aload_n rfl ?_
  refine B_iconst (0 : Int32) ic_0 ?_
  refine B_aload_n rfl ?_
  refine B_iload_n rfl ?_
  refine B_iload_n rfl ?_
  refine B_chk (fun t1 => ?_)
  refine C_H2 (vs := [.ref l0, .int l1, .int l2]) (st := [.int (0 : Int32), .ref l3]) 17 20 22 24 13 (by decide) rfl lh_Law_22 lh_Law_13 (ci_V lv_Law_51 rfl rfl t1) rfl rfl rfl (s_PF_tree l0 l1 l2 M) (fun v3 M2 => ?_) (fun ah M2 => ?_) (fun ah M2 => ?_)
  · skip
    refine B_eq (tgt := 15) (by decide) ?_ ?_
    · skip
      refine V_open ok_Law_tree_15 ?_
      refine B_lconst (0 : Int64) lc_0 ?_
      refine V_close ?_
      exact V_weak (ls' := [none, none, none, none, none]) trivial (t_Law_tree_16 l3 (0 : Int32) (0 : Int64) M2)
    · skip
      refine B_lconst (1 : Int64) lc_1 ?_
      refine B_goto (tgt := 16) (by decide) ?_
      exact V_weak (ls' := [none, none, none, none, none]) trivial (t_Law_tree_16 l3 (0 : Int32) (1 : Int64) M2)
  · skip
    refine V_open ok_Law_tree_20 ?_
    refine S_a [some (.ref l0), some (.int l1), some (.int l2), some (.ref l3), some (.ref ah)] (by decide) rfl ?_
    refine B_iconst (1 : Int32) ic_1 ?_
    exact B_iret rfl
  · skip
    refine V_open ok_Law_tree_24 ?_
    refine S_a [some (.ref l0), some (.int l1), some (.int l2), some (.ref l3), some (.ref ah)] (by decide) rfl ?_
    refine B_iconst (2 : Int32) ic_2 ?_
    exact B_iret rfl

-- Mo_tree
theorem ok_Mo_tree_0 : okb prog_13_method_57_code 0 [(.aload_n 0, 1), (.aload_n 0, 1), (.iload_n 1, 1), (.invokevirtual 343, 3), (.ifCond .eq 19, 3), (.iload_n 2, 1), (.iconst 1, 1), (.if_icmp .lt 14, 3), (.iload_n 2, 1), (.sipush 200, 3), (.if_icmp .gt 7, 3), (.iconst 1, 1), (.goto 4, 3)] = true := by decide +kernel
theorem ok_Mo_tree_25 : okb prog_13_method_57_code 25 [(.iconst 0, 1)] = true := by decide +kernel
theorem ok_Mo_tree_26 : okb prog_13_method_57_code 26 [(.invokevirtual 371, 3), (.ifCond .eq 5, 3), (.iconst 0, 1), (.ireturn, 1)] = true := by decide +kernel
theorem ok_Mo_tree_34 : okb prog_13_method_57_code 34 [(.aload_n 0, 1), (.iload_n 1, 1), (.iload_n 2, 1), (.bipush 12, 2), (.invokevirtual 375, 3), (.istore_n 3, 1), (.aload_n 0, 1), (.iload_n 3, 1), (.invokevirtual 378, 3), (.istore 4, 2), (.aload_n 0, 1), (.iload_n 3, 1), (.invokevirtual 387, 3), (.ifCond .eq 7, 3), (.iconst 1, 1), (.goto 4, 3)] = true := by decide +kernel
theorem ok_Mo_tree_62 : okb prog_13_method_57_code 62 [(.iconst 0, 1)] = true := by decide +kernel
theorem ok_Mo_tree_63 : okb prog_13_method_57_code 63 [(.istore 5, 2), (.iload 4, 2), (.ifCond .eq 33, 3), (.iload 5, 2), (.ifCond .ne 25, 3), (.aload_n 0, 1), (.iload_n 3, 1), (.invokevirtual 365, 3), (.iconst (-1), 1), (.if_icmp .ne 12, 3), (.aload_n 0, 1), (.getfield 362, 3), (.bipush 40, 2), (.if_icmp .ge 7, 3)] = true := by decide +kernel
theorem ok_Mo_tree_93 : okb prog_13_method_57_code 93 [(.iconst 1, 1), (.goto 4, 3)] = true := by decide +kernel
theorem ok_Mo_tree_97 : okb prog_13_method_57_code 97 [(.iconst 0, 1)] = true := by decide +kernel
theorem ok_Mo_tree_98 : okb prog_13_method_57_code 98 [(.istore 5, 2)] = true := by decide +kernel
theorem ok_Mo_tree_100 : okb prog_13_method_57_code 100 [(.iload 4, 2), (.ifCond .eq 18, 3), (.aload_n 0, 1), (.iload_n 3, 1), (.iload 5, 2), (.ifCond .eq 7, 3), (.iconst 1, 1), (.goto 4, 3)] = true := by decide +kernel
theorem ok_Mo_tree_116 : okb prog_13_method_57_code 116 [(.iconst 0, 1)] = true := by decide +kernel
theorem ok_Mo_tree_117 : okb prog_13_method_57_code 117 [(.invokevirtual 390, 3)] = true := by decide +kernel
theorem ok_Mo_tree_120 : okb prog_13_method_57_code 120 [(.iload 5, 2), (.ifCond .eq 26, 3), (.aload_n 0, 1), (.getfield 279, 3), (.bipush 40, 2), (.if_icmp .ne 17, 3), (.aload_n 0, 1), (.iconst 2, 1), (.invokevirtual 297, 3), (.ifCond .le 7, 3), (.iconst 1, 1), (.goto 4, 3)] = true := by decide +kernel
theorem ok_Mo_tree_146 : okb prog_13_method_57_code 146 [(.iconst 0, 1), (.ireturn, 1)] = true := by decide +kernel
theorem ok_Mo_tree_147 : okb prog_13_method_57_code 147 [(.ireturn, 1)] = true := by decide +kernel
theorem ok_Mo_tree_148 : okb prog_13_method_57_code 148 [(.aload_n 0, 1), (.iload_n 3, 1), (.invokevirtual 381, 3), (.aload_n 0, 1), (.iload_n 1, 1), (.invokevirtual 384, 3), (.iload 5, 2), (.ifCond .ne 5, 3), (.iconst 0, 1), (.ireturn, 1)] = true := by decide +kernel
theorem ok_Mo_tree_165 : okb prog_13_method_57_code 165 [(.aload_n 0, 1), (.getfield 285, 3), (.iconst 1, 1), (.isub, 1), (.istore 6, 2), (.aload_n 0, 1), (.iconst 2, 1), (.iload 6, 2), (.iconst 0, 1), (.invokevirtual 334, 3), (.aload_n 0, 1), (.iload_n 3, 1), (.invokevirtual 337, 3), (.aload_n 0, 1), (.getfield 117, 3), (.iload 6, 2), (.dup2, 1), (.iaload, 1), (.bipush 10, 2), (.iadd, 1), (.iastore, 1), (.iconst 1, 1), (.ireturn, 1)] = true := by decide +kernel
set_option maxRecDepth 100000 in
def b_Mo_tree_148 (G : GT) (l0 : Nat) (l1 : Int32) (l3 : Int32) (l5 : Int32) (M : PH) : Option (Int32 × PH) :=
  if hT M l0 = 11 then bV (f_Mo_shape G l0 l3 M) fun M2 => (if hT M2 l0 = 11 then bV (f_Mo_digits G l0 l1 M2) fun M4 => (if ¬ l5 = 0 then (if hT M4 l0 = 11 then vb ((hI M4 2270 l0) - (1 : Int32)) fun v6 => bV (f_Mo_openThing G l0 (2 : Int32) v6 (0 : Int32) M4) fun M7 => (if hT M7 l0 = 11 then bV (f_Mo_push G l0 l3 M7) fun M9 => (if hT M9 l0 = 11 then (hR M9 2261 l0).bind fun a11 => if hT M9 a11 = 16 then if ib v6 (hN M9 a11) = true then if ib v6 (hN M9 a11) = true then hb (sA M9 a11 v6.toNatClampNeg ((hA M9 a11 v6.toNatClampNeg) + (10 : Int32))) fun M15 => (some ((1 : Int32), M15)) else none else none else none else none) else none) else none) else (some ((0 : Int32), M4))) else none) else none
set_option maxRecDepth 100000 in
set_option maxHeartbeats 4000000 in
theorem t_Mo_tree_148 {G : GT} (l0 : Nat) (l1 : Int32) (l3 : Int32) (l5 : Int32) (M : PH) : VX G mi_Mo_tree 4 70 148 [some (.ref l0), some (.int l1), none, some (.int l3), none, some (.int l5), none] [] M qI (b_Mo_tree_148 G l0 l1 l3 l5 M) := by
  unfold b_Mo_tree_148
  refine V_open ok_Mo_tree_148 ?_
  refine B_aload_n rfl ?_
  refine B_iload_n rfl ?_
  refine B_chk (fun t1 => ?_)
  refine C_V (vs := [.ref l0, .int l3]) (st := []) (ci_V lv_Mo_381 rfl rfl t1) rfl rfl rfl (s_Mo_shape l0 l3 M) (fun M2 => ?_)
  refine B_aload_n rfl ?_
  refine B_iload_n rfl ?_
  refine B_chk (fun t3 => ?_)
  refine C_V (vs := [.ref l0, .int l1]) (st := []) (ci_V lv_Mo_384 rfl rfl t3) rfl rfl rfl (s_Mo_digits l0 l1 M2) (fun M4 => ?_)
  refine B_iload rfl ?_
  refine B_ne (tgt := 165) (by decide) ?_ ?_
  · skip
    refine V_open ok_Mo_tree_165 ?_
    refine B_aload_n rfl ?_
    refine B_chk (fun t5 => ?_)
    refine K_getI 11 70 2270 lf_Mo_285 rfl rfl t5 ?_
    refine B_iconst (1 : Int32) ic_1 ?_
    refine B_isub ?_
    refine B_vb (fun v6 => ?_)
    refine S_i [some (.ref l0), some (.int l1), none, some (.int l3), none, some (.int l5), some (.int v6)] (by decide) rfl ?_
    refine B_aload_n rfl ?_
    refine B_iconst (2 : Int32) ic_2 ?_
    refine B_iload rfl ?_
    refine B_iconst (0 : Int32) ic_0 ?_
    refine C_V (vs := [.ref l0, .int (2 : Int32), .int v6, .int (0 : Int32)]) (st := []) (ci_V lv_Mo_334 rfl rfl t5) rfl rfl rfl (s_Mo_openThing l0 (2 : Int32) v6 (0 : Int32) M4) (fun M7 => ?_)
    refine B_aload_n rfl ?_
    refine B_iload_n rfl ?_
    refine B_chk (fun t8 => ?_)
    refine C_V (vs := [.ref l0, .int l3]) (st := []) (ci_V lv_Mo_337 rfl rfl t8) rfl rfl rfl (s_Mo_push l0 l3 M7) (fun M9 => ?_)
    refine B_aload_n rfl ?_
    refine B_chk (fun t10 => ?_)
    refine K_getR 11 61 2261 lf_Mo_117 rfl rfl t10 (fun a11 r12 => ?_)
    refine B_iload rfl ?_
    refine B_dup2 rfl rfl ?_
    refine B_chk (fun t13 => ?_)
    refine K_iald t13 ?_
    refine B_bipush (10 : Int32) bp_10 ?_
    refine B_iadd ?_
    refine K_iast t13 (fun M15 e14 => ?_)
    refine B_iconst (1 : Int32) ic_1 ?_
    exact Z_ret rfl (Or.inr rfl)
  · skip
    refine B_iconst (0 : Int32) ic_0 ?_
    exact Z_ret rfl (Or.inl rfl)
set_option maxRecDepth 100000 in
def b_Mo_tree_120 (G : GT) (l0 : Nat) (l1 : Int32) (l3 : Int32) (l5 : Int32) (M : PH) : Option (Int32 × PH) :=
  if l5 = 0 then (b_Mo_tree_148 G l0 l1 l3 l5 M) else (if hT M l0 = 11 then if ¬ hI M 2256 l0 = (40 : Int32) then (b_Mo_tree_148 G l0 l1 l3 l5 M) else (bI (f_Mo_fails G l0 (2 : Int32) M) fun v3 M2 => (if v3 ≤ 0 then (some ((0 : Int32), M2)) else (some ((1 : Int32), M2)))) else none)
set_option maxRecDepth 100000 in
set_option maxHeartbeats 4000000 in
theorem t_Mo_tree_120 {G : GT} (l0 : Nat) (l1 : Int32) (l3 : Int32) (l5 : Int32) (M : PH) : VX G mi_Mo_tree 4 70 120 [some (.ref l0), some (.int l1), none, some (.int l3), none, some (.int l5), none] [] M qI (b_Mo_tree_120 G l0 l1 l3 l5 M) := by
  unfold b_Mo_tree_120
  refine V_open ok_Mo_tree_120 ?_
  refine B_iload rfl ?_
  refine B_eq (tgt := 148) (by decide) ?_ ?_
  · skip
    exact V_weak (ls' := [some (.ref l0), some (.int l1), none, some (.int l3), none, some (.int l5), none]) ⟨rfl, ⟨rfl, ⟨rfl, ⟨rfl, trivial⟩⟩⟩⟩ (t_Mo_tree_148 l0 l1 l3 l5 M)
  · skip
    refine B_aload_n rfl ?_
    refine B_chk (fun t1 => ?_)
    refine K_getI 11 56 2256 lf_Mo_279 rfl rfl t1 ?_
    refine B_bipush (40 : Int32) bp_40 ?_
    refine B_ine (tgt := 148) (by decide) ?_ ?_
    · skip
      exact V_weak (ls' := [some (.ref l0), some (.int l1), none, some (.int l3), none, some (.int l5), none]) ⟨rfl, ⟨rfl, ⟨rfl, ⟨rfl, trivial⟩⟩⟩⟩ (t_Mo_tree_148 l0 l1 l3 l5 M)
    · skip
      refine B_aload_n rfl ?_
      refine B_iconst (2 : Int32) ic_2 ?_
      refine C_I (vs := [.ref l0, .int (2 : Int32)]) (st := []) (ci_V lv_Mo_297 rfl rfl t1) rfl rfl rfl (s_Mo_fails l0 (2 : Int32) M) (fun v3 M2 => ?_)
      refine B_le (tgt := 146) (by decide) ?_ ?_
      · skip
        refine V_open ok_Mo_tree_146 ?_
        refine B_iconst (0 : Int32) ic_0 ?_
        exact Z_ret rfl (Or.inl rfl)
      · skip
        refine B_iconst (1 : Int32) ic_1 ?_
        refine B_goto (tgt := 147) (by decide) ?_
        refine V_open ok_Mo_tree_147 ?_
        exact Z_ret rfl (Or.inr rfl)
set_option maxRecDepth 100000 in
def b_Mo_tree_117 (G : GT) (l0 : Nat) (l1 : Int32) (l3 : Int32) (l5 : Int32) (s0 : Nat) (s1 : Int32) (s2 : Int32) (M : PH) : Option (Int32 × PH) :=
  if hT M s0 = 11 then bV (f_Mo_keep G s0 s1 s2 M) fun M2 => (b_Mo_tree_120 G l0 l1 l3 l5 M2) else none
set_option maxRecDepth 100000 in
set_option maxHeartbeats 4000000 in
theorem t_Mo_tree_117 {G : GT} (l0 : Nat) (l1 : Int32) (l3 : Int32) (l5 : Int32) (s0 : Nat) (s1 : Int32) (s2 : Int32) (M : PH) : VX G mi_Mo_tree 4 70 117 [some (.ref l0), some (.int l1), none, some (.int l3), none, some (.int l5), none] [.int s2, .int s1, .ref s0] M qI (b_Mo_tree_117 G l0 l1 l3 l5 s0 s1 s2 M) := by
  unfold b_Mo_tree_117
  refine V_open ok_Mo_tree_117 ?_
  refine B_chk (fun t1 => ?_)
  refine C_V (vs := [.ref s0, .int s1, .int s2]) (st := []) (ci_V lv_Mo_390 rfl rfl t1) rfl rfl rfl (s_Mo_keep s0 s1 s2 M) (fun M2 => ?_)
  refine V_close ?_
  exact V_weak (ls' := [some (.ref l0), some (.int l1), none, some (.int l3), none, some (.int l5), none]) ⟨rfl, ⟨rfl, ⟨rfl, ⟨rfl, trivial⟩⟩⟩⟩ (t_Mo_tree_120 l0 l1 l3 l5 M2)
set_option maxRecDepth 100000 in
def b_Mo_tree_100 (G : GT) (l0 : Nat) (l1 : Int32) (l3 : Int32) (l4 : Int32) (l5 : Int32) (M : PH) : Option (Int32 × PH) :=
  if l4 = 0 then (b_Mo_tree_120 G l0 l1 l3 l5 M) else (if l5 = 0 then (b_Mo_tree_117 G l0 l1 l3 l5 l0 l3 (0 : Int32) M) else (b_Mo_tree_117 G l0 l1 l3 l5 l0 l3 (1 : Int32) M))
set_option maxRecDepth 100000 in
set_option maxHeartbeats 4000000 in
theorem t_Mo_tree_100 {G : GT} (l0 : Nat) (l1 : Int32) (l3 : Int32) (l4 : Int32) (l5 : Int32) (M : PH) : VX G mi_Mo_tree 4 70 100 [some (.ref l0), some (.int l1), none, some (.int l3), some (.int l4), some (.int l5), none] [] M qI (b_Mo_tree_100 G l0 l1 l3 l4 l5 M) := by
  unfold b_Mo_tree_100
  refine V_open ok_Mo_tree_100 ?_
  refine B_iload rfl ?_
  refine B_eq (tgt := 120) (by decide) ?_ ?_
  · skip
    exact V_weak (ls' := [some (.ref l0), some (.int l1), none, some (.int l3), none, some (.int l5), none]) ⟨rfl, ⟨rfl, ⟨rfl, ⟨rfl, trivial⟩⟩⟩⟩ (t_Mo_tree_120 l0 l1 l3 l5 M)
  · skip
    refine B_aload_n rfl ?_
    refine B_iload_n rfl ?_
    refine B_iload rfl ?_
    refine B_eq (tgt := 116) (by decide) ?_ ?_
    · skip
      refine V_open ok_Mo_tree_116 ?_
      refine B_iconst (0 : Int32) ic_0 ?_
      refine V_close ?_
      exact V_weak (ls' := [some (.ref l0), some (.int l1), none, some (.int l3), none, some (.int l5), none]) ⟨rfl, ⟨rfl, ⟨rfl, ⟨rfl, trivial⟩⟩⟩⟩ (t_Mo_tree_117 l0 l1 l3 l5 l0 l3 (0 : Int32) M)
    · skip
      refine B_iconst (1 : Int32) ic_1 ?_
      refine B_goto (tgt := 117) (by decide) ?_
      exact V_weak (ls' := [some (.ref l0), some (.int l1), none, some (.int l3), none, some (.int l5), none]) ⟨rfl, ⟨rfl, ⟨rfl, ⟨rfl, trivial⟩⟩⟩⟩ (t_Mo_tree_117 l0 l1 l3 l5 l0 l3 (1 : Int32) M)
set_option maxRecDepth 100000 in
def b_Mo_tree_98 (G : GT) (l0 : Nat) (l1 : Int32) (l3 : Int32) (l4 : Int32) (s0 : Int32) (M : PH) : Option (Int32 × PH) :=
  b_Mo_tree_100 G l0 l1 l3 l4 s0 M
set_option maxRecDepth 100000 in
set_option maxHeartbeats 4000000 in
theorem t_Mo_tree_98 {G : GT} (l0 : Nat) (l1 : Int32) (l3 : Int32) (l4 : Int32) (s0 : Int32) (M : PH) : VX G mi_Mo_tree 4 70 98 [some (.ref l0), some (.int l1), none, some (.int l3), some (.int l4), none, none] [.int s0] M qI (b_Mo_tree_98 G l0 l1 l3 l4 s0 M) := by
  unfold b_Mo_tree_98
  refine V_open ok_Mo_tree_98 ?_
  refine S_i [some (.ref l0), some (.int l1), none, some (.int l3), some (.int l4), some (.int s0), none] (by decide) rfl ?_
  refine V_close ?_
  exact V_weak (ls' := [some (.ref l0), some (.int l1), none, some (.int l3), some (.int l4), some (.int s0), none]) ⟨rfl, ⟨rfl, ⟨rfl, ⟨rfl, ⟨rfl, trivial⟩⟩⟩⟩⟩ (t_Mo_tree_100 l0 l1 l3 l4 s0 M)
set_option maxRecDepth 100000 in
def b_Mo_tree_93 (G : GT) (l0 : Nat) (l1 : Int32) (l3 : Int32) (l4 : Int32) (M : PH) : Option (Int32 × PH) :=
  b_Mo_tree_98 G l0 l1 l3 l4 (1 : Int32) M
set_option maxRecDepth 100000 in
set_option maxHeartbeats 4000000 in
theorem t_Mo_tree_93 {G : GT} (l0 : Nat) (l1 : Int32) (l3 : Int32) (l4 : Int32) (M : PH) : VX G mi_Mo_tree 4 70 93 [some (.ref l0), some (.int l1), none, some (.int l3), some (.int l4), none, none] [] M qI (b_Mo_tree_93 G l0 l1 l3 l4 M) := by
  unfold b_Mo_tree_93
  refine V_open ok_Mo_tree_93 ?_
  refine B_iconst (1 : Int32) ic_1 ?_
  refine B_goto (tgt := 98) (by decide) ?_
  exact V_weak (ls' := [some (.ref l0), some (.int l1), none, some (.int l3), some (.int l4), none, none]) ⟨rfl, ⟨rfl, ⟨rfl, ⟨rfl, trivial⟩⟩⟩⟩ (t_Mo_tree_98 l0 l1 l3 l4 (1 : Int32) M)
set_option maxRecDepth 100000 in
def b_Mo_tree_97 (G : GT) (l0 : Nat) (l1 : Int32) (l3 : Int32) (l4 : Int32) (M : PH) : Option (Int32 × PH) :=
  b_Mo_tree_98 G l0 l1 l3 l4 (0 : Int32) M
set_option maxRecDepth 100000 in
set_option maxHeartbeats 4000000 in
theorem t_Mo_tree_97 {G : GT} (l0 : Nat) (l1 : Int32) (l3 : Int32) (l4 : Int32) (M : PH) : VX G mi_Mo_tree 4 70 97 [some (.ref l0), some (.int l1), none, some (.int l3), some (.int l4), none, none] [] M qI (b_Mo_tree_97 G l0 l1 l3 l4 M) := by
  unfold b_Mo_tree_97
  refine V_open ok_Mo_tree_97 ?_
  refine B_iconst (0 : Int32) ic_0 ?_
  refine V_close ?_
  exact V_weak (ls' := [some (.ref l0), some (.int l1), none, some (.int l3), some (.int l4), none, none]) ⟨rfl, ⟨rfl, ⟨rfl, ⟨rfl, trivial⟩⟩⟩⟩ (t_Mo_tree_98 l0 l1 l3 l4 (0 : Int32) M)
set_option maxRecDepth 100000 in
def b_Mo_tree_63 (G : GT) (l0 : Nat) (l1 : Int32) (l3 : Int32) (l4 : Int32) (s0 : Int32) (M : PH) : Option (Int32 × PH) :=
  if l4 = 0 then (b_Mo_tree_100 G l0 l1 l3 l4 s0 M) else (if ¬ s0 = 0 then (b_Mo_tree_97 G l0 l1 l3 l4 M) else (if hT M l0 = 11 then bI (f_Mo_find G l0 l3 M) fun v3 M2 => (if ¬ v3 = (-1 : Int32) then (b_Mo_tree_93 G l0 l1 l3 l4 M2) else (if hT M2 l0 = 11 then if (40 : Int32) ≤ hI M2 2279 l0 then (b_Mo_tree_97 G l0 l1 l3 l4 M2) else (b_Mo_tree_93 G l0 l1 l3 l4 M2) else none)) else none))
set_option maxRecDepth 100000 in
set_option maxHeartbeats 4000000 in
theorem t_Mo_tree_63 {G : GT} (l0 : Nat) (l1 : Int32) (l3 : Int32) (l4 : Int32) (s0 : Int32) (M : PH) : VX G mi_Mo_tree 4 70 63 [some (.ref l0), some (.int l1), none, some (.int l3), some (.int l4), none, none] [.int s0] M qI (b_Mo_tree_63 G l0 l1 l3 l4 s0 M) := by
  unfold b_Mo_tree_63
  refine V_open ok_Mo_tree_63 ?_
  refine S_i [some (.ref l0), some (.int l1), none, some (.int l3), some (.int l4), some (.int s0), none] (by decide) rfl ?_
  refine B_iload rfl ?_
  refine B_eq (tgt := 100) (by decide) ?_ ?_
  · skip
    exact V_weak (ls' := [some (.ref l0), some (.int l1), none, some (.int l3), some (.int l4), some (.int s0), none]) ⟨rfl, ⟨rfl, ⟨rfl, ⟨rfl, ⟨rfl, trivial⟩⟩⟩⟩⟩ (t_Mo_tree_100 l0 l1 l3 l4 s0 M)
  · skip
    refine B_iload rfl ?_
    refine B_ne (tgt := 97) (by decide) ?_ ?_
    · skip
      exact V_weak (ls' := [some (.ref l0), some (.int l1), none, some (.int l3), some (.int l4), none, none]) ⟨rfl, ⟨rfl, ⟨rfl, ⟨rfl, trivial⟩⟩⟩⟩ (t_Mo_tree_97 l0 l1 l3 l4 M)
    · skip
      refine B_aload_n rfl ?_
      refine B_iload_n rfl ?_
      refine B_chk (fun t1 => ?_)
      refine C_I (vs := [.ref l0, .int l3]) (st := []) (ci_V lv_Mo_365 rfl rfl t1) rfl rfl rfl (s_Mo_find l0 l3 M) (fun v3 M2 => ?_)
      refine B_iconst (-1 : Int32) ic_m1 ?_
      refine B_ine (tgt := 93) (by decide) ?_ ?_
      · skip
        exact V_weak (ls' := [some (.ref l0), some (.int l1), none, some (.int l3), some (.int l4), none, none]) ⟨rfl, ⟨rfl, ⟨rfl, ⟨rfl, trivial⟩⟩⟩⟩ (t_Mo_tree_93 l0 l1 l3 l4 M2)
      · skip
        refine B_aload_n rfl ?_
        refine B_chk (fun t4 => ?_)
        refine K_getI 11 79 2279 lf_Mo_362 rfl rfl t4 ?_
        refine B_bipush (40 : Int32) bp_40 ?_
        refine B_ige (tgt := 97) (by decide) ?_ ?_
        · skip
          exact V_weak (ls' := [some (.ref l0), some (.int l1), none, some (.int l3), some (.int l4), none, none]) ⟨rfl, ⟨rfl, ⟨rfl, ⟨rfl, trivial⟩⟩⟩⟩ (t_Mo_tree_97 l0 l1 l3 l4 M2)
        · skip
          refine V_close ?_
          exact V_weak (ls' := [some (.ref l0), some (.int l1), none, some (.int l3), some (.int l4), none, none]) ⟨rfl, ⟨rfl, ⟨rfl, ⟨rfl, trivial⟩⟩⟩⟩ (t_Mo_tree_93 l0 l1 l3 l4 M2)
set_option maxRecDepth 100000 in
def b_Mo_tree_26 (G : GT) (l0 : Nat) (l1 : Int32) (l2 : Int32) (s0 : Nat) (s1 : Int32) (M : PH) : Option (Int32 × PH) :=
  if hT M s0 = 11 then bI (f_Mo_bars G s0 s1 M) fun v3 M2 => (if v3 = 0 then (if hT M2 l0 = 11 then bI (f_Mo_lay G l0 l1 l2 (12 : Int32) M2) fun v6 M5 => (if hT M5 l0 = 11 then bI (f_Mo_behaves G l0 v6 M5) fun v9 M8 => (if hT M8 l0 = 11 then bI (f_Mo_numberOf G l0 v6 M8) fun v12 M11 => (if v12 = 0 then (b_Mo_tree_63 G l0 l1 v6 v9 (0 : Int32) M11) else (b_Mo_tree_63 G l0 l1 v6 v9 (1 : Int32) M11)) else none) else none) else none) else (some ((0 : Int32), M2))) else none
set_option maxRecDepth 100000 in
set_option maxHeartbeats 4000000 in
theorem t_Mo_tree_26 {G : GT} (l0 : Nat) (l1 : Int32) (l2 : Int32) (s0 : Nat) (s1 : Int32) (M : PH) : VX G mi_Mo_tree 4 70 26 [some (.ref l0), some (.int l1), some (.int l2), none, none, none, none] [.int s1, .ref s0] M qI (b_Mo_tree_26 G l0 l1 l2 s0 s1 M) := by
  unfold b_Mo_tree_26
  refine V_open ok_Mo_tree_26 ?_
  refine B_chk (fun t1 => ?_)
  refine C_I (vs := [.ref s0, .int s1]) (st := []) (ci_V lv_Mo_371 rfl rfl t1) rfl rfl rfl (s_Mo_bars s0 s1 M) (fun v3 M2 => ?_)
  refine B_eq (tgt := 34) (by decide) ?_ ?_
  · skip
    refine V_open ok_Mo_tree_34 ?_
    refine B_aload_n rfl ?_
    refine B_iload_n rfl ?_
    refine B_iload_n rfl ?_
    refine B_bipush (12 : Int32) bp_12 ?_
    refine B_chk (fun t4 => ?_)
    refine C_I (vs := [.ref l0, .int l1, .int l2, .int (12 : Int32)]) (st := []) (ci_V lv_Mo_375 rfl rfl t4) rfl rfl rfl (s_Mo_lay l0 l1 l2 (12 : Int32) M2) (fun v6 M5 => ?_)
    refine S_in [some (.ref l0), some (.int l1), some (.int l2), some (.int v6), none, none, none] (by decide) rfl ?_
    refine B_aload_n rfl ?_
    refine B_iload_n rfl ?_
    refine B_chk (fun t7 => ?_)
    refine C_I (vs := [.ref l0, .int v6]) (st := []) (ci_V lv_Mo_378 rfl rfl t7) rfl rfl rfl (s_Mo_behaves l0 v6 M5) (fun v9 M8 => ?_)
    refine S_i [some (.ref l0), some (.int l1), some (.int l2), some (.int v6), some (.int v9), none, none] (by decide) rfl ?_
    refine B_aload_n rfl ?_
    refine B_iload_n rfl ?_
    refine B_chk (fun t10 => ?_)
    refine C_I (vs := [.ref l0, .int v6]) (st := []) (ci_V lv_Mo_387 rfl rfl t10) rfl rfl rfl (s_Mo_numberOf l0 v6 M8) (fun v12 M11 => ?_)
    refine B_eq (tgt := 62) (by decide) ?_ ?_
    · skip
      refine V_open ok_Mo_tree_62 ?_
      refine B_iconst (0 : Int32) ic_0 ?_
      refine V_close ?_
      exact V_weak (ls' := [some (.ref l0), some (.int l1), none, some (.int v6), some (.int v9), none, none]) ⟨rfl, ⟨rfl, ⟨rfl, ⟨rfl, trivial⟩⟩⟩⟩ (t_Mo_tree_63 l0 l1 v6 v9 (0 : Int32) M11)
    · skip
      refine B_iconst (1 : Int32) ic_1 ?_
      refine B_goto (tgt := 63) (by decide) ?_
      exact V_weak (ls' := [some (.ref l0), some (.int l1), none, some (.int v6), some (.int v9), none, none]) ⟨rfl, ⟨rfl, ⟨rfl, ⟨rfl, trivial⟩⟩⟩⟩ (t_Mo_tree_63 l0 l1 v6 v9 (1 : Int32) M11)
  · skip
    refine B_iconst (0 : Int32) ic_0 ?_
    exact Z_ret rfl (Or.inl rfl)
set_option maxRecDepth 100000 in
def b_Mo_tree_25 (G : GT) (l0 : Nat) (l1 : Int32) (l2 : Int32) (s0 : Nat) (M : PH) : Option (Int32 × PH) :=
  b_Mo_tree_26 G l0 l1 l2 s0 (0 : Int32) M
set_option maxRecDepth 100000 in
set_option maxHeartbeats 4000000 in
theorem t_Mo_tree_25 {G : GT} (l0 : Nat) (l1 : Int32) (l2 : Int32) (s0 : Nat) (M : PH) : VX G mi_Mo_tree 4 70 25 [some (.ref l0), some (.int l1), some (.int l2), none, none, none, none] [.ref s0] M qI (b_Mo_tree_25 G l0 l1 l2 s0 M) := by
  unfold b_Mo_tree_25
  refine V_open ok_Mo_tree_25 ?_
  refine B_iconst (0 : Int32) ic_0 ?_
  refine V_close ?_
  exact V_weak (ls' := [some (.ref l0), some (.int l1), some (.int l2), none, none, none, none]) ⟨rfl, ⟨rfl, ⟨rfl, trivial⟩⟩⟩ (t_Mo_tree_26 l0 l1 l2 s0 (0 : Int32) M)
set_option maxRecDepth 100000 in
def f_Mo_tree (G : GT) (l0 : Nat) (l1 : Int32) (l2 : Int32) (M : PH) : Option (Int32 × PH) :=
  if hT M l0 = 11 then bI (f_Mo_isLabel G l0 l1 M) fun v3 M2 => (if v3 = 0 then (b_Mo_tree_25 G l0 l1 l2 l0 M2) else (if l2 < (1 : Int32) then (b_Mo_tree_25 G l0 l1 l2 l0 M2) else (if (200 : Int32) < l2 then (b_Mo_tree_25 G l0 l1 l2 l0 M2) else (b_Mo_tree_26 G l0 l1 l2 l0 (1 : Int32) M2)))) else none
set_option maxRecDepth 100000 in
set_option maxHeartbeats 4000000 in
theorem s_Mo_tree {G : GT} (l0 : Nat) (l1 : Int32) (l2 : Int32) (M : PH) : VX G mi_Mo_tree 4 70 0 [some (.ref l0), some (.int l1), some (.int l2), none, none, none, none] [] M qI (f_Mo_tree G l0 l1 l2 M) := by
  unfold f_Mo_tree
  refine V_open ok_Mo_tree_0 ?_
  refine B_aload_n rfl ?_
  refine B_aload_n rfl ?_
  refine B_iload_n rfl ?_
  refine B_chk (fun t1 => ?_)
  refine C_I (vs := [.ref l0, .int l1]) (st := [.ref l0]) (ci_V lv_Mo_343 rfl rfl t1) rfl rfl rfl (s_Mo_isLabel l0 l1 M) (fun v3 M2 => ?_)
  refine B_eq (tgt := 25) (by decide) ?_ ?_
  · skip
    exact V_weak (ls' := [some (.ref l0), some (.int l1), some (.int l2), none, none, none, none]) ⟨rfl, ⟨rfl, ⟨rfl, trivial⟩⟩⟩ (t_Mo_tree_25 l0 l1 l2 l0 M2)
  · skip
    refine B_iload_n rfl ?_
    refine B_iconst (1 : Int32) ic_1 ?_
    refine B_ilt (tgt := 25) (by decide) ?_ ?_
    · skip
      exact V_weak (ls' := [some (.ref l0), some (.int l1), some (.int l2), none, none, none, none]) ⟨rfl, ⟨rfl, ⟨rfl, trivial⟩⟩⟩ (t_Mo_tree_25 l0 l1 l2 l0 M2)
    · skip
      refine B_iload_n rfl ?_
      refine B_sipush (200 : Int32) sp_200 ?_
      refine B_igt (tgt := 25) (by decide) ?_ ?_
      · skip
        exact V_weak (ls' := [some (.ref l0), some (.int l1), some (.int l2), none, none, none, none]) ⟨rfl, ⟨rfl, ⟨rfl, trivial⟩⟩⟩ (t_Mo_tree_25 l0 l1 l2 l0 M2)
      · skip
        refine B_iconst (1 : Int32) ic_1 ?_
        refine B_goto (tgt := 26) (by decide) ?_
        exact V_weak (ls' := [some (.ref l0), some (.int l1), some (.int l2), none, none, none, none]) ⟨rfl, ⟨rfl, ⟨rfl, trivial⟩⟩⟩ (t_Mo_tree_26 l0 l1 l2 l0 (1 : Int32) M2)
