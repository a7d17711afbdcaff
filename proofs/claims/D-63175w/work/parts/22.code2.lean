-- Mo_take
theorem ok_Mo_take_0 : okb prog_13_method_12_code 0 [(.iload_n 1, 1), (.ifCond .ne 16, 3), (.aload_n 0, 1), (.iload_n 2, 1), (.putfield 192, 3), (.aload_n 0, 1), (.iload_n 3, 1), (.putfield 195, 3), (.goto 211, 3)] = true := by decide +kernel
theorem ok_Mo_take_17 : okb prog_13_method_12_code 17 [(.iload_n 1, 1), (.iconst 1, 1), (.if_icmp .ne 97, 3), (.iload_n 2, 1), (.iconst 1, 1), (.if_icmp .ne 7, 3), (.iconst 1, 1), (.goto 4, 3)] = true := by decide +kernel
theorem ok_Mo_take_31 : okb prog_13_method_12_code 31 [(.iconst 0, 1)] = true := by decide +kernel
theorem ok_Mo_take_32 : okb prog_13_method_12_code 32 [(.istore 4, 2), (.iload 4, 2), (.aload_n 0, 1), (.getfield 198, 3), (.if_icmp .ne 4, 3), (.return_, 1)] = true := by decide +kernel
theorem ok_Mo_take_44 : okb prog_13_method_12_code 44 [(.aload_n 0, 1), (.iload 4, 2), (.putfield 198, 3), (.aload_n 0, 1), (.aload_n 0, 1), (.getfield 202, 3), (.ifCond .ne 8, 3), (.iload 4, 2), (.ifCond .eq 7, 3)] = true := by decide +kernel
theorem ok_Mo_take_63 : okb prog_13_method_12_code 63 [(.iconst 1, 1), (.goto 4, 3)] = true := by decide +kernel
theorem ok_Mo_take_67 : okb prog_13_method_12_code 67 [(.iconst 0, 1)] = true := by decide +kernel
theorem ok_Mo_take_68 : okb prog_13_method_12_code 68 [(.putfield 202, 3), (.aload_n 0, 1), (.aload_n 0, 1), (.getfield 205, 3), (.ifCond .ne 8, 3), (.iload 4, 2), (.ifCond .ne 7, 3)] = true := by decide +kernel
theorem ok_Mo_take_84 : okb prog_13_method_12_code 84 [(.iconst 1, 1), (.goto 4, 3)] = true := by decide +kernel
theorem ok_Mo_take_88 : okb prog_13_method_12_code 88 [(.iconst 0, 1)] = true := by decide +kernel
theorem ok_Mo_take_89 : okb prog_13_method_12_code 89 [(.putfield 205, 3), (.iload 4, 2), (.ifCond .eq 19, 3), (.aload_n 0, 1), (.aload_n 0, 1), (.getfield 192, 3), (.putfield 208, 3), (.aload_n 0, 1), (.aload_n 0, 1), (.getfield 195, 3), (.putfield 211, 3)] = true := by decide +kernel
theorem ok_Mo_take_113 : okb prog_13_method_12_code 113 [(.goto 112, 3)] = true := by decide +kernel
theorem ok_Mo_take_116 : okb prog_13_method_12_code 116 [(.iload_n 1, 1), (.iconst 2, 1), (.if_icmp .ne 16, 3), (.aload_n 0, 1), (.dup, 1), (.getfield 214, 3), (.iload_n 2, 1), (.iadd, 1), (.putfield 214, 3), (.goto 94, 3)] = true := by decide +kernel
theorem ok_Mo_take_134 : okb prog_13_method_12_code 134 [(.iload_n 1, 1), (.iconst 3, 1), (.if_icmp .ne 60, 3), (.iload_n 3, 1), (.iconst 1, 1), (.if_icmp .ne 7, 3), (.iconst 1, 1), (.goto 4, 3)] = true := by decide +kernel
theorem ok_Mo_take_148 : okb prog_13_method_12_code 148 [(.iconst 0, 1)] = true := by decide +kernel
theorem ok_Mo_take_149 : okb prog_13_method_12_code 149 [(.istore 4, 2), (.aload_n 0, 1), (.getfield 13, 3), (.iload_n 2, 1), (.baload, 1), (.iload 4, 2), (.if_icmp .ne 4, 3), (.return_, 1)] = true := by decide +kernel
theorem ok_Mo_take_163 : okb prog_13_method_12_code 163 [(.aload_n 0, 1), (.getfield 13, 3), (.iload_n 2, 1), (.iload 4, 2), (.bastore, 1), (.iload 4, 2), (.ifCond .eq 13, 3), (.aload_n 0, 1), (.getfield 17, 3), (.iload_n 2, 1), (.iconst 1, 1), (.bastore, 1), (.goto 10, 3)] = true := by decide +kernel
theorem ok_Mo_take_186 : okb prog_13_method_12_code 186 [(.aload_n 0, 1), (.getfield 20, 3), (.iload_n 2, 1), (.iconst 1, 1), (.bastore, 1)] = true := by decide +kernel
theorem ok_Mo_take_193 : okb prog_13_method_12_code 193 [(.goto 32, 3)] = true := by decide +kernel
theorem ok_Mo_take_196 : okb prog_13_method_12_code 196 [(.aload_n 0, 1), (.getfield 217, 3), (.bipush 16, 2), (.if_icmp .ge 23, 3), (.aload_n 0, 1), (.getfield 23, 3), (.aload_n 0, 1), (.getfield 217, 3), (.iload_n 2, 1), (.iastore, 1), (.aload_n 0, 1), (.dup, 1), (.getfield 217, 3), (.iconst 1, 1), (.iadd, 1), (.putfield 217, 3), (.return_, 1)] = true := by decide +kernel
theorem ok_Mo_take_225 : okb prog_13_method_12_code 225 [(.return_, 1)] = true := by decide +kernel
set_option maxRecDepth 100000 in
def b_Mo_take_113 (G : GT)  (M : PH) : Option (PH) :=
  some M
set_option maxRecDepth 100000 in
set_option maxHeartbeats 4000000 in
theorem t_Mo_take_113 {G : GT}  (M : PH) : VX G mi_Mo_take 0 0 113 [none, none, none, none, none] [] M qV (b_Mo_take_113 G  M) := by
  unfold b_Mo_take_113
  refine V_open ok_Mo_take_113 ?_
  refine B_goto (tgt := 225) (by decide) ?_
  refine V_open ok_Mo_take_225 ?_
  exact B_vret rfl
set_option maxRecDepth 100000 in
def b_Mo_take_89 (G : GT) (l0 : Nat) (l4 : Int32) (s0 : Nat) (s1 : Int32) (M : PH) : Option (PH) :=
  if hT M s0 = 11 then if s1 = 0 ∨ s1 = 1 then hb (sI M 2214 s0 s1) fun M4 => if l4 = 0 then (b_Mo_take_113 G M4) else (if hT M4 l0 = 11 then hb (sI M4 2207 l0 (hI M4 2203 l0)) fun M7 => hb (sI M7 2208 l0 (hI M7 2204 l0)) fun M10 => b_Mo_take_113 G M10 else none) else none else none
set_option maxRecDepth 100000 in
set_option maxHeartbeats 4000000 in
theorem t_Mo_take_89 {G : GT} (l0 : Nat) (l4 : Int32) (s0 : Nat) (s1 : Int32) (M : PH) : VX G mi_Mo_take 0 0 89 [some (.ref l0), none, none, none, some (.int l4)] [.int s1, .ref s0] M qV (b_Mo_take_89 G l0 l4 s0 s1 M) := by
  unfold b_Mo_take_89
  refine V_open ok_Mo_take_89 ?_
  refine B_chk (fun t1 => ?_)
  refine B_chk (fun z3 => ?_)
  refine K_putZ 11 14 2214 lf_Mo_205 rfl (Or.inl rfl) rfl t1 z3 (fun M4 e2 => ?_)
  refine B_iload rfl ?_
  refine B_eq (tgt := 113) (by decide) ?_ ?_
  · skip
    exact V_weak (ls' := [none, none, none, none, none]) trivial (t_Mo_take_113 M4)
  · skip
    refine B_aload_n rfl ?_
    refine B_aload_n rfl ?_
    refine B_chk (fun t5 => ?_)
    refine K_getI 11 3 2203 lf_Mo_192 rfl rfl t5 ?_
    refine K_putI 11 7 2207 lf_Mo_208 rfl (Or.inl rfl) rfl t5 (fun M7 e6 => ?_)
    refine B_aload_n rfl ?_
    refine B_aload_n rfl ?_
    have h8 : hT M7 l0 = 11 := by rw [e6]; exact t5
    refine K_getI 11 4 2204 lf_Mo_195 rfl rfl h8 ?_
    refine K_putI 11 8 2208 lf_Mo_211 rfl (Or.inl rfl) rfl h8 (fun M10 e9 => ?_)
    refine V_close ?_
    exact V_weak (ls' := [none, none, none, none, none]) trivial (t_Mo_take_113 M10)
set_option maxRecDepth 100000 in
def b_Mo_take_84 (G : GT) (l0 : Nat) (l4 : Int32) (s0 : Nat) (M : PH) : Option (PH) :=
  b_Mo_take_89 G l0 l4 s0 (1 : Int32) M
set_option maxRecDepth 100000 in
set_option maxHeartbeats 4000000 in
theorem t_Mo_take_84 {G : GT} (l0 : Nat) (l4 : Int32) (s0 : Nat) (M : PH) : VX G mi_Mo_take 0 0 84 [some (.ref l0), none, none, none, some (.int l4)] [.ref s0] M qV (b_Mo_take_84 G l0 l4 s0 M) := by
  unfold b_Mo_take_84
  refine V_open ok_Mo_take_84 ?_
  refine B_iconst (1 : Int32) ic_1 ?_
  refine B_goto (tgt := 89) (by decide) ?_
  exact V_weak (ls' := [some (.ref l0), none, none, none, some (.int l4)]) ⟨rfl, ⟨rfl, trivial⟩⟩ (t_Mo_take_89 l0 l4 s0 (1 : Int32) M)
set_option maxRecDepth 100000 in
def b_Mo_take_68 (G : GT) (l0 : Nat) (l4 : Int32) (s0 : Nat) (s1 : Int32) (M : PH) : Option (PH) :=
  if hT M s0 = 11 then if s1 = 0 ∨ s1 = 1 then hb (sI M 2213 s0 s1) fun M4 => if hT M4 l0 = 11 then if ¬ hI M4 2214 l0 = 0 then (b_Mo_take_84 G l0 l4 l0 M4) else (if ¬ l4 = 0 then (b_Mo_take_89 G l0 l4 l0 (0 : Int32) M4) else (b_Mo_take_84 G l0 l4 l0 M4)) else none else none else none
set_option maxRecDepth 100000 in
set_option maxHeartbeats 4000000 in
theorem t_Mo_take_68 {G : GT} (l0 : Nat) (l4 : Int32) (s0 : Nat) (s1 : Int32) (M : PH) : VX G mi_Mo_take 0 0 68 [some (.ref l0), none, none, none, some (.int l4)] [.int s1, .ref s0] M qV (b_Mo_take_68 G l0 l4 s0 s1 M) := by
  unfold b_Mo_take_68
  refine V_open ok_Mo_take_68 ?_
  refine B_chk (fun t1 => ?_)
  refine B_chk (fun z3 => ?_)
  refine K_putZ 11 13 2213 lf_Mo_202 rfl (Or.inl rfl) rfl t1 z3 (fun M4 e2 => ?_)
  refine B_aload_n rfl ?_
  refine B_aload_n rfl ?_
  refine B_chk (fun t5 => ?_)
  refine K_getI 11 14 2214 lf_Mo_205 rfl rfl t5 ?_
  refine B_ne (tgt := 84) (by decide) ?_ ?_
  · skip
    exact V_weak (ls' := [some (.ref l0), none, none, none, some (.int l4)]) ⟨rfl, ⟨rfl, trivial⟩⟩ (t_Mo_take_84 l0 l4 l0 M4)
  · skip
    refine B_iload rfl ?_
    refine B_ne (tgt := 88) (by decide) ?_ ?_
    · skip
      refine V_open ok_Mo_take_88 ?_
      refine B_iconst (0 : Int32) ic_0 ?_
      refine V_close ?_
      exact V_weak (ls' := [some (.ref l0), none, none, none, some (.int l4)]) ⟨rfl, ⟨rfl, trivial⟩⟩ (t_Mo_take_89 l0 l4 l0 (0 : Int32) M4)
    · skip
      refine V_close ?_
      exact V_weak (ls' := [some (.ref l0), none, none, none, some (.int l4)]) ⟨rfl, ⟨rfl, trivial⟩⟩ (t_Mo_take_84 l0 l4 l0 M4)
set_option maxRecDepth 100000 in
def b_Mo_take_63 (G : GT) (l0 : Nat) (l4 : Int32) (s0 : Nat) (M : PH) : Option (PH) :=
  b_Mo_take_68 G l0 l4 s0 (1 : Int32) M
set_option maxRecDepth 100000 in
set_option maxHeartbeats 4000000 in
theorem t_Mo_take_63 {G : GT} (l0 : Nat) (l4 : Int32) (s0 : Nat) (M : PH) : VX G mi_Mo_take 0 0 63 [some (.ref l0), none, none, none, some (.int l4)] [.ref s0] M qV (b_Mo_take_63 G l0 l4 s0 M) := by
  unfold b_Mo_take_63
  refine V_open ok_Mo_take_63 ?_
  refine B_iconst (1 : Int32) ic_1 ?_
  refine B_goto (tgt := 68) (by decide) ?_
  exact V_weak (ls' := [some (.ref l0), none, none, none, some (.int l4)]) ⟨rfl, ⟨rfl, trivial⟩⟩ (t_Mo_take_68 l0 l4 s0 (1 : Int32) M)
set_option maxRecDepth 100000 in
def b_Mo_take_32 (G : GT) (l0 : Nat) (s0 : Int32) (M : PH) : Option (PH) :=
  if hT M l0 = 11 then if ¬ s0 = hI M 2209 l0 then (if s0 = 0 ∨ s0 = 1 then hb (sI M 2209 l0 s0) fun M4 => if ¬ hI M4 2213 l0 = 0 then (b_Mo_take_63 G l0 s0 l0 M4) else (if s0 = 0 then (b_Mo_take_68 G l0 s0 l0 (0 : Int32) M4) else (b_Mo_take_63 G l0 s0 l0 M4)) else none) else (some M) else none
set_option maxRecDepth 100000 in
set_option maxHeartbeats 4000000 in
theorem t_Mo_take_32 {G : GT} (l0 : Nat) (s0 : Int32) (M : PH) : VX G mi_Mo_take 0 0 32 [some (.ref l0), none, none, none, none] [.int s0] M qV (b_Mo_take_32 G l0 s0 M) := by
  unfold b_Mo_take_32
  refine V_open ok_Mo_take_32 ?_
  refine S_i [some (.ref l0), none, none, none, some (.int s0)] (by decide) rfl ?_
  refine B_iload rfl ?_
  refine B_aload_n rfl ?_
  refine B_chk (fun t1 => ?_)
  refine K_getI 11 9 2209 lf_Mo_198 rfl rfl t1 ?_
  refine B_ine (tgt := 44) (by decide) ?_ ?_
  · skip
    refine V_open ok_Mo_take_44 ?_
    refine B_aload_n rfl ?_
    refine B_iload rfl ?_
    refine B_chk (fun z3 => ?_)
    refine K_putZ 11 9 2209 lf_Mo_198 rfl (Or.inl rfl) rfl t1 z3 (fun M4 e2 => ?_)
    refine B_aload_n rfl ?_
    refine B_aload_n rfl ?_
    have h5 : hT M4 l0 = 11 := by rw [e2]; exact t1
    refine K_getI 11 13 2213 lf_Mo_202 rfl rfl h5 ?_
    refine B_ne (tgt := 63) (by decide) ?_ ?_
    · skip
      exact V_weak (ls' := [some (.ref l0), none, none, none, some (.int s0)]) ⟨rfl, ⟨rfl, trivial⟩⟩ (t_Mo_take_63 l0 s0 l0 M4)
    · skip
      refine B_iload rfl ?_
      refine B_eq (tgt := 67) (by decide) ?_ ?_
      · skip
        refine V_open ok_Mo_take_67 ?_
        refine B_iconst (0 : Int32) ic_0 ?_
        refine V_close ?_
        exact V_weak (ls' := [some (.ref l0), none, none, none, some (.int s0)]) ⟨rfl, ⟨rfl, trivial⟩⟩ (t_Mo_take_68 l0 s0 l0 (0 : Int32) M4)
      · skip
        refine V_close ?_
        exact V_weak (ls' := [some (.ref l0), none, none, none, some (.int s0)]) ⟨rfl, ⟨rfl, trivial⟩⟩ (t_Mo_take_63 l0 s0 l0 M4)
  · skip
    exact B_vret rfl
set_option maxRecDepth 100000 in
def b_Mo_take_193 (G : GT)  (M : PH) : Option (PH) :=
  some M
set_option maxRecDepth 100000 in
set_option maxHeartbeats 4000000 in
theorem t_Mo_take_193 {G : GT}  (M : PH) : VX G mi_Mo_take 0 0 193 [none, none, none, none, none] [] M qV (b_Mo_take_193 G  M) := by
  unfold b_Mo_take_193
  refine V_open ok_Mo_take_193 ?_
  refine B_goto (tgt := 225) (by decide) ?_
  refine V_open ok_Mo_take_225 ?_
  exact B_vret rfl
set_option maxRecDepth 100000 in
def b_Mo_take_149 (G : GT) (l0 : Nat) (l2 : Int32) (s0 : Int32) (M : PH) : Option (PH) :=
  if hT M l0 = 11 then (hR M 2210 l0).bind fun a2 => if hT M a2 = 17 then if ib l2 (hN M a2) = true then if ¬ hA M a2 l2.toNatClampNeg = s0 then (if s0 = 0 ∨ s0 = 1 then if ib l2 (hN M a2) = true then hb (sA M a2 l2.toNatClampNeg s0) fun M7 => (if s0 = 0 then ((hR M7 2212 l0).bind fun a9 => if hT M7 a9 = 17 then if ib l2 (hN M7 a9) = true then hb (sA M7 a9 l2.toNatClampNeg (1 : Int32)) fun M13 => (b_Mo_take_193 G M13) else none else none) else ((hR M7 2211 l0).bind fun a15 => if hT M7 a15 = 17 then if ib l2 (hN M7 a15) = true then hb (sA M7 a15 l2.toNatClampNeg (1 : Int32)) fun M19 => (b_Mo_take_193 G M19) else none else none)) else none else none) else (some M) else none else none else none
set_option maxRecDepth 100000 in
set_option maxHeartbeats 4000000 in
theorem t_Mo_take_149 {G : GT} (l0 : Nat) (l2 : Int32) (s0 : Int32) (M : PH) : VX G mi_Mo_take 0 0 149 [some (.ref l0), none, some (.int l2), none, none] [.int s0] M qV (b_Mo_take_149 G l0 l2 s0 M) := by
  unfold b_Mo_take_149
  refine V_open ok_Mo_take_149 ?_
  refine S_i [some (.ref l0), none, some (.int l2), none, some (.int s0)] (by decide) rfl ?_
  refine B_aload_n rfl ?_
  refine B_chk (fun t1 => ?_)
  refine K_getR 11 10 2210 lf_Mo_13 rfl rfl t1 (fun a2 r3 => ?_)
  refine B_iload_n rfl ?_
  refine B_chk (fun t4 => ?_)
  refine K_zald t4 ?_
  refine B_iload rfl ?_
  refine B_ine (tgt := 163) (by decide) ?_ ?_
  · skip
    refine V_open ok_Mo_take_163 ?_
    refine B_aload_n rfl ?_
    refine K_getRk 11 10 2210 lf_Mo_13 rfl rfl t1 r3 ?_
    refine B_iload_n rfl ?_
    refine B_iload rfl ?_
    refine B_chk (fun z5 => ?_)
    refine K_zast t4 z5 (fun M7 e6 => ?_)
    refine B_iload rfl ?_
    refine B_eq (tgt := 186) (by decide) ?_ ?_
    · skip
      refine V_open ok_Mo_take_186 ?_
      refine B_aload_n rfl ?_
      have h8 : hT M7 l0 = 11 := by rw [e6]; exact t1
      refine K_getR 11 12 2212 lf_Mo_20 rfl rfl h8 (fun a9 r10 => ?_)
      refine B_iload_n rfl ?_
      refine B_iconst (1 : Int32) ic_1 ?_
      refine B_chk (fun t11 => ?_)
      refine K_zast t11 (Or.inr rfl) (fun M13 e12 => ?_)
      refine V_close ?_
      exact V_weak (ls' := [none, none, none, none, none]) trivial (t_Mo_take_193 M13)
    · skip
      refine B_aload_n rfl ?_
      have h14 : hT M7 l0 = 11 := by rw [e6]; exact t1
      refine K_getR 11 11 2211 lf_Mo_17 rfl rfl h14 (fun a15 r16 => ?_)
      refine B_iload_n rfl ?_
      refine B_iconst (1 : Int32) ic_1 ?_
      refine B_chk (fun t17 => ?_)
      refine K_zast t17 (Or.inr rfl) (fun M19 e18 => ?_)
      refine B_goto (tgt := 193) (by decide) ?_
      exact V_weak (ls' := [none, none, none, none, none]) trivial (t_Mo_take_193 M19)
  · skip
    exact B_vret rfl
set_option maxRecDepth 100000 in
def f_Mo_take (G : GT) (l0 : Nat) (l1 : Int32) (l2 : Int32) (l3 : Int32) (M : PH) : Option (PH) :=
  if ¬ l1 = 0 then (if ¬ l1 = (1 : Int32) then (if ¬ l1 = (2 : Int32) then (if ¬ l1 = (3 : Int32) then (if hT M l0 = 11 then if (16 : Int32) ≤ hI M 2216 l0 then (some M) else ((hR M 2217 l0).bind fun a2 => if hT M a2 = 16 then if ib (hI M 2216 l0) (hN M a2) = true then hb (sA M a2 (hI M 2216 l0).toNatClampNeg l2) fun M6 => (hb (sI M6 2216 l0 ((hI M6 2216 l0) + (1 : Int32))) fun M9 => some M9) else none else none) else none) else (if ¬ l3 = (1 : Int32) then (b_Mo_take_149 G l0 l2 (0 : Int32) M) else (b_Mo_take_149 G l0 l2 (1 : Int32) M))) else (if hT M l0 = 11 then hb (sI M 2215 l0 ((hI M 2215 l0) + l2)) fun M12 => some M12 else none)) else (if ¬ l2 = (1 : Int32) then (b_Mo_take_32 G l0 (0 : Int32) M) else (b_Mo_take_32 G l0 (1 : Int32) M))) else (if hT M l0 = 11 then hb (sI M 2203 l0 l2) fun M15 => hb (sI M15 2204 l0 l3) fun M18 => some M18 else none)
set_option maxRecDepth 100000 in
set_option maxHeartbeats 4000000 in
theorem s_Mo_take {G : GT} (l0 : Nat) (l1 : Int32) (l2 : Int32) (l3 : Int32) (M : PH) : VX G mi_Mo_take 0 0 0 [some (.ref l0), some (.int l1), some (.int l2), some (.int l3), none] [] M qV (f_Mo_take G l0 l1 l2 l3 M) := by
  unfold f_Mo_take
  refine V_open ok_Mo_take_0 ?_
  refine B_iload_n rfl ?_
  refine B_ne (tgt := 17) (by decide) ?_ ?_
  · skip
    refine V_open ok_Mo_take_17 ?_
    refine B_iload_n rfl ?_
    refine B_iconst (1 : Int32) ic_1 ?_
    refine B_ine (tgt := 116) (by decide) ?_ ?_
    · skip
      refine V_open ok_Mo_take_116 ?_
      refine B_iload_n rfl ?_
      refine B_iconst (2 : Int32) ic_2 ?_
      refine B_ine (tgt := 134) (by decide) ?_ ?_
      · skip
        refine V_open ok_Mo_take_134 ?_
        refine B_iload_n rfl ?_
        refine B_iconst (3 : Int32) ic_3 ?_
        refine B_ine (tgt := 196) (by decide) ?_ ?_
        · skip
          refine V_open ok_Mo_take_196 ?_
          refine B_aload_n rfl ?_
          refine B_chk (fun t1 => ?_)
          refine K_getI 11 16 2216 lf_Mo_217 rfl rfl t1 ?_
          refine B_bipush (16 : Int32) bp_16 ?_
          refine B_ige (tgt := 225) (by decide) ?_ ?_
          · skip
            refine V_open ok_Mo_take_225 ?_
            exact B_vret rfl
          · skip
            refine B_aload_n rfl ?_
            refine K_getR 11 17 2217 lf_Mo_23 rfl rfl t1 (fun a2 r3 => ?_)
            refine B_aload_n rfl ?_
            refine K_getI 11 16 2216 lf_Mo_217 rfl rfl t1 ?_
            refine B_iload_n rfl ?_
            refine B_chk (fun t4 => ?_)
            refine K_iast t4 (fun M6 e5 => ?_)
            refine B_aload_n rfl ?_
            refine B_dup rfl ?_
            have h7 : hT M6 l0 = 11 := by rw [e5]; exact t1
            refine K_getI 11 16 2216 lf_Mo_217 rfl rfl h7 ?_
            refine B_iconst (1 : Int32) ic_1 ?_
            refine B_iadd ?_
            refine K_putI 11 16 2216 lf_Mo_217 rfl (Or.inl rfl) rfl h7 (fun M9 e8 => ?_)
            exact B_vret rfl
        · skip
          refine B_iload_n rfl ?_
          refine B_iconst (1 : Int32) ic_1 ?_
          refine B_ine (tgt := 148) (by decide) ?_ ?_
          · skip
            refine V_open ok_Mo_take_148 ?_
            refine B_iconst (0 : Int32) ic_0 ?_
            refine V_close ?_
            exact V_weak (ls' := [some (.ref l0), none, some (.int l2), none, none]) ⟨rfl, ⟨rfl, trivial⟩⟩ (t_Mo_take_149 l0 l2 (0 : Int32) M)
          · skip
            refine B_iconst (1 : Int32) ic_1 ?_
            refine B_goto (tgt := 149) (by decide) ?_
            exact V_weak (ls' := [some (.ref l0), none, some (.int l2), none, none]) ⟨rfl, ⟨rfl, trivial⟩⟩ (t_Mo_take_149 l0 l2 (1 : Int32) M)
      · skip
        refine B_aload_n rfl ?_
        refine B_dup rfl ?_
        refine B_chk (fun t10 => ?_)
        refine K_getI 11 15 2215 lf_Mo_214 rfl rfl t10 ?_
        refine B_iload_n rfl ?_
        refine B_iadd ?_
        refine K_putI 11 15 2215 lf_Mo_214 rfl (Or.inl rfl) rfl t10 (fun M12 e11 => ?_)
        refine B_goto (tgt := 225) (by decide) ?_
        refine V_open ok_Mo_take_225 ?_
        exact B_vret rfl
    · skip
      refine B_iload_n rfl ?_
      refine B_iconst (1 : Int32) ic_1 ?_
      refine B_ine (tgt := 31) (by decide) ?_ ?_
      · skip
        refine V_open ok_Mo_take_31 ?_
        refine B_iconst (0 : Int32) ic_0 ?_
        refine V_close ?_
        exact V_weak (ls' := [some (.ref l0), none, none, none, none]) ⟨rfl, trivial⟩ (t_Mo_take_32 l0 (0 : Int32) M)
      · skip
        refine B_iconst (1 : Int32) ic_1 ?_
        refine B_goto (tgt := 32) (by decide) ?_
        exact V_weak (ls' := [some (.ref l0), none, none, none, none]) ⟨rfl, trivial⟩ (t_Mo_take_32 l0 (1 : Int32) M)
  · skip
    refine B_aload_n rfl ?_
    refine B_iload_n rfl ?_
    refine B_chk (fun t13 => ?_)
    refine K_putI 11 3 2203 lf_Mo_192 rfl (Or.inl rfl) rfl t13 (fun M15 e14 => ?_)
    refine B_aload_n rfl ?_
    refine B_iload_n rfl ?_
    have h16 : hT M15 l0 = 11 := by rw [e14]; exact t13
    refine K_putI 11 4 2204 lf_Mo_195 rfl (Or.inl rfl) rfl h16 (fun M18 e17 => ?_)
    refine B_goto (tgt := 225) (by decide) ?_
    refine V_open ok_Mo_take_225 ?_
    exact B_vret rfl

-- Mo_takeAll
theorem ok_Mo_takeAll_0 : okb prog_13_method_13_code 0 [(.aload_n 0, 1), (.iconst 0, 1), (.putfield 202, 3), (.aload_n 0, 1), (.iconst 0, 1), (.putfield 205, 3), (.aload_n 0, 1), (.iconst 0, 1), (.putfield 214, 3), (.aload_n 0, 1), (.iconst 0, 1), (.putfield 217, 3), (.iconst 0, 1), (.istore_n 1, 1)] = true := by decide +kernel
theorem ok_Mo_takeAll_22 : okb prog_13_method_13_code 22 [(.iload_n 1, 1), (.bipush 6, 2), (.if_icmp .ge 23, 3), (.aload_n 0, 1), (.getfield 17, 3), (.iload_n 1, 1), (.iconst 0, 1), (.bastore, 1), (.aload_n 0, 1), (.getfield 20, 3), (.iload_n 1, 1), (.iconst 0, 1), (.bastore, 1), (.iinc 1 1, 3), (.goto (-23), 3)] = true := by decide +kernel
theorem ok_Mo_takeAll_48 : okb prog_13_method_13_code 48 [(.iconst 0, 1), (.istore_n 1, 1), (.iconst 0, 1), (.istore_n 2, 1)] = true := by decide +kernel
theorem ok_Mo_takeAll_52 : okb prog_13_method_13_code 52 [(.iload_n 1, 1), (.aload_n 0, 1), (.getfield 185, 3), (.if_icmp .ge 79, 3), (.iload_n 2, 1), (.ifCond .eq 15, 3), (.aload_n 0, 1), (.getfield 7, 3), (.iconst 3, 1), (.iload_n 1, 1), (.imul, 1), (.iaload, 1), (.iconst 2, 1), (.if_icmp .lt 63, 3)] = true := by decide +kernel
theorem ok_Mo_takeAll_76 : okb prog_13_method_13_code 76 [(.iload_n 2, 1), (.ifCond .ne 15, 3), (.aload_n 0, 1), (.getfield 7, 3), (.iconst 3, 1), (.iload_n 1, 1), (.imul, 1), (.iaload, 1), (.iconst 1, 1), (.if_icmp .ne 7, 3)] = true := by decide +kernel
theorem ok_Mo_takeAll_92 : okb prog_13_method_13_code 92 [(.iconst 1, 1), (.goto 4, 3)] = true := by decide +kernel
theorem ok_Mo_takeAll_96 : okb prog_13_method_13_code 96 [(.iconst 0, 1)] = true := by decide +kernel
theorem ok_Mo_takeAll_97 : okb prog_13_method_13_code 97 [(.istore_n 2, 1), (.aload_n 0, 1), (.aload_n 0, 1), (.getfield 7, 3), (.iconst 3, 1), (.iload_n 1, 1), (.imul, 1), (.iaload, 1), (.aload_n 0, 1), (.getfield 7, 3), (.iconst 3, 1), (.iload_n 1, 1), (.imul, 1), (.iconst 1, 1), (.iadd, 1), (.iaload, 1), (.aload_n 0, 1), (.getfield 7, 3), (.iconst 3, 1), (.iload_n 1, 1), (.imul, 1), (.iconst 2, 1), (.iadd, 1), (.iaload, 1), (.invokevirtual 220, 3), (.iinc 1 1, 3), (.goto (-81), 3)] = true := by decide +kernel
theorem ok_Mo_takeAll_136 : okb prog_13_method_13_code 136 [(.iconst 3, 1), (.iload_n 1, 1), (.imul, 1), (.istore_n 3, 1)] = true := by decide +kernel
theorem ok_Mo_takeAll_140 : okb prog_13_method_13_code 140 [(.iload_n 3, 1), (.iconst 3, 1), (.aload_n 0, 1), (.getfield 185, 3), (.imul, 1), (.if_icmp .ge 25, 3), (.aload_n 0, 1), (.getfield 7, 3), (.iload_n 3, 1), (.iconst 3, 1), (.iload_n 1, 1), (.imul, 1), (.isub, 1), (.aload_n 0, 1), (.getfield 7, 3), (.iload_n 3, 1), (.iaload, 1), (.iastore, 1), (.iinc 3 1, 3), (.goto (-29), 3)] = true := by decide +kernel
theorem ok_Mo_takeAll_172 : okb prog_13_method_13_code 172 [(.aload_n 0, 1), (.dup, 1), (.getfield 185, 3), (.iload_n 1, 1), (.isub, 1), (.putfield 185, 3), (.iload_n 1, 1), (.ireturn, 1)] = true := by decide +kernel
set_option maxRecDepth 100000 in
def b_Mo_takeAll_97 (G : GT) (k52 : Nat → Int32 → Int32 → PH → Option (Int32 × PH)) (l0 : Nat) (l1 : Int32) (s0 : Int32) (M : PH) : Option (Int32 × PH) :=
  if hT M l0 = 11 then (hR M 2201 l0).bind fun a2 => if hT M a2 = 16 then if ib ((3 : Int32) * l1) (hN M a2) = true then if ib (((3 : Int32) * l1) + (1 : Int32)) (hN M a2) = true then if ib (((3 : Int32) * l1) + (2 : Int32)) (hN M a2) = true then bV (f_Mo_take G l0 (hA M a2 ((3 : Int32) * l1).toNatClampNeg) (hA M a2 (((3 : Int32) * l1) + (1 : Int32)).toNatClampNeg) (hA M a2 (((3 : Int32) * l1) + (2 : Int32)).toNatClampNeg) M) fun M5 => (k52 l0 (l1 + (1 : Int32)) s0 M5) else none else none else none else none else none
set_option maxRecDepth 100000 in
set_option maxHeartbeats 4000000 in
theorem t_Mo_takeAll_97 {G : GT} {k52 : Nat → Int32 → Int32 → PH → Option (Int32 × PH)} (hk52 : ∀ (l0 : Nat) (l1 : Int32) (l2 : Int32) (M : PH), VX G mi_Mo_takeAll 1 16 52 [some (.ref l0), some (.int l1), some (.int l2), none] [] M qI (k52 l0 l1 l2 M)) (l0 : Nat) (l1 : Int32) (s0 : Int32) (M : PH) : VX G mi_Mo_takeAll 1 16 97 [some (.ref l0), some (.int l1), none, none] [.int s0] M qI (b_Mo_takeAll_97 G k52 l0 l1 s0 M) := by
  unfold b_Mo_takeAll_97
  refine V_open ok_Mo_takeAll_97 ?_
  refine S_in [some (.ref l0), some (.int l1), some (.int s0), none] (by decide) rfl ?_
  refine B_aload_n rfl ?_
  refine B_aload_n rfl ?_
  refine B_chk (fun t1 => ?_)
  refine K_getR 11 1 2201 lf_Mo_7 rfl rfl t1 (fun a2 r3 => ?_)
  refine B_iconst (3 : Int32) ic_3 ?_
  refine B_iload_n rfl ?_
  refine B_imul ?_
  refine B_chk (fun t4 => ?_)
  refine K_iald t4 ?_
  refine B_aload_n rfl ?_
  refine K_getRk 11 1 2201 lf_Mo_7 rfl rfl t1 r3 ?_
  refine B_iconst (3 : Int32) ic_3 ?_
  refine B_iload_n rfl ?_
  refine B_imul ?_
  refine B_iconst (1 : Int32) ic_1 ?_
  refine B_iadd ?_
  refine K_iald t4 ?_
  refine B_aload_n rfl ?_
  refine K_getRk 11 1 2201 lf_Mo_7 rfl rfl t1 r3 ?_
  refine B_iconst (3 : Int32) ic_3 ?_
  refine B_iload_n rfl ?_
  refine B_imul ?_
  refine B_iconst (2 : Int32) ic_2 ?_
  refine B_iadd ?_
  refine K_iald t4 ?_
  refine C_V (vs := [.ref l0, .int (hA M a2 ((3 : Int32) * l1).toNatClampNeg), .int (hA M a2 (((3 : Int32) * l1) + (1 : Int32)).toNatClampNeg), .int (hA M a2 (((3 : Int32) * l1) + (2 : Int32)).toNatClampNeg)]) (st := []) (ci_V lv_Mo_220 rfl rfl t1) rfl rfl rfl (s_Mo_take l0 (hA M a2 ((3 : Int32) * l1).toNatClampNeg) (hA M a2 (((3 : Int32) * l1) + (1 : Int32)).toNatClampNeg) (hA M a2 (((3 : Int32) * l1) + (2 : Int32)).toNatClampNeg) M) (fun M5 => ?_)
  refine S_inc (1 : Int32) [some (.ref l0), some (.int (l1 + (1 : Int32))), some (.int s0), none] ic_1 rfl (by decide) rfl ?_
  refine B_goto (tgt := 52) (by decide) ?_
  exact V_weak (ls' := [some (.ref l0), some (.int (l1 + (1 : Int32))), some (.int s0), none]) ⟨rfl, ⟨rfl, ⟨rfl, trivial⟩⟩⟩ (hk52 l0 (l1 + (1 : Int32)) s0 M5)
set_option maxRecDepth 100000 in
def b_Mo_takeAll_92 (G : GT) (k52 : Nat → Int32 → Int32 → PH → Option (Int32 × PH)) (l0 : Nat) (l1 : Int32) (M : PH) : Option (Int32 × PH) :=
  b_Mo_takeAll_97 G k52 l0 l1 (1 : Int32) M
set_option maxRecDepth 100000 in
set_option maxHeartbeats 4000000 in
theorem t_Mo_takeAll_92 {G : GT} {k52 : Nat → Int32 → Int32 → PH → Option (Int32 × PH)} (hk52 : ∀ (l0 : Nat) (l1 : Int32) (l2 : Int32) (M : PH), VX G mi_Mo_takeAll 1 16 52 [some (.ref l0), some (.int l1), some (.int l2), none] [] M qI (k52 l0 l1 l2 M)) (l0 : Nat) (l1 : Int32) (M : PH) : VX G mi_Mo_takeAll 1 16 92 [some (.ref l0), some (.int l1), none, none] [] M qI (b_Mo_takeAll_92 G k52 l0 l1 M) := by
  unfold b_Mo_takeAll_92
  refine V_open ok_Mo_takeAll_92 ?_
  refine B_iconst (1 : Int32) ic_1 ?_
  refine B_goto (tgt := 97) (by decide) ?_
  exact V_weak (ls' := [some (.ref l0), some (.int l1), none, none]) ⟨rfl, ⟨rfl, trivial⟩⟩ (t_Mo_takeAll_97 hk52 l0 l1 (1 : Int32) M)
set_option maxRecDepth 100000 in
def b_Mo_takeAll_76 (G : GT) (k52 : Nat → Int32 → Int32 → PH → Option (Int32 × PH)) (l0 : Nat) (l1 : Int32) (l2 : Int32) (M : PH) : Option (Int32 × PH) :=
  if ¬ l2 = 0 then (b_Mo_takeAll_92 G k52 l0 l1 M) else (if hT M l0 = 11 then (hR M 2201 l0).bind fun a2 => if hT M a2 = 16 then if ib ((3 : Int32) * l1) (hN M a2) = true then if ¬ hA M a2 ((3 : Int32) * l1).toNatClampNeg = (1 : Int32) then (b_Mo_takeAll_97 G k52 l0 l1 (0 : Int32) M) else (b_Mo_takeAll_92 G k52 l0 l1 M) else none else none else none)
set_option maxRecDepth 100000 in
set_option maxHeartbeats 4000000 in
theorem t_Mo_takeAll_76 {G : GT} {k52 : Nat → Int32 → Int32 → PH → Option (Int32 × PH)} (hk52 : ∀ (l0 : Nat) (l1 : Int32) (l2 : Int32) (M : PH), VX G mi_Mo_takeAll 1 16 52 [some (.ref l0), some (.int l1), some (.int l2), none] [] M qI (k52 l0 l1 l2 M)) (l0 : Nat) (l1 : Int32) (l2 : Int32) (M : PH) : VX G mi_Mo_takeAll 1 16 76 [some (.ref l0), some (.int l1), some (.int l2), none] [] M qI (b_Mo_takeAll_76 G k52 l0 l1 l2 M) := by
  unfold b_Mo_takeAll_76
  refine V_open ok_Mo_takeAll_76 ?_
  refine B_iload_n rfl ?_
  refine B_ne (tgt := 92) (by decide) ?_ ?_
  · skip
    exact V_weak (ls' := [some (.ref l0), some (.int l1), none, none]) ⟨rfl, ⟨rfl, trivial⟩⟩ (t_Mo_takeAll_92 hk52 l0 l1 M)
  · skip
    refine B_aload_n rfl ?_
    refine B_chk (fun t1 => ?_)
    refine K_getR 11 1 2201 lf_Mo_7 rfl rfl t1 (fun a2 r3 => ?_)
    refine B_iconst (3 : Int32) ic_3 ?_
    refine B_iload_n rfl ?_
    refine B_imul ?_
    refine B_chk (fun t4 => ?_)
    refine K_iald t4 ?_
    refine B_iconst (1 : Int32) ic_1 ?_
    refine B_ine (tgt := 96) (by decide) ?_ ?_
    · skip
      refine V_open ok_Mo_takeAll_96 ?_
      refine B_iconst (0 : Int32) ic_0 ?_
      refine V_close ?_
      exact V_weak (ls' := [some (.ref l0), some (.int l1), none, none]) ⟨rfl, ⟨rfl, trivial⟩⟩ (t_Mo_takeAll_97 hk52 l0 l1 (0 : Int32) M)
    · skip
      refine V_close ?_
      exact V_weak (ls' := [some (.ref l0), some (.int l1), none, none]) ⟨rfl, ⟨rfl, trivial⟩⟩ (t_Mo_takeAll_92 hk52 l0 l1 M)
set_option maxRecDepth 100000 in
def b_Mo_takeAll_140 (G : GT) (k140 : Nat → Int32 → Int32 → PH → Option (Int32 × PH)) (l0 : Nat) (l1 : Int32) (l3 : Int32) (M : PH) : Option (Int32 × PH) :=
  if hT M l0 = 11 then if (3 : Int32) * (hI M 2202 l0) ≤ l3 then (hb (sI M 2202 l0 ((hI M 2202 l0) - l1)) fun M3 => some (l1, M3)) else ((hR M 2201 l0).bind fun a4 => if hT M a4 = 16 then if ib l3 (hN M a4) = true then if ib (l3 - ((3 : Int32) * l1)) (hN M a4) = true then hb (sA M a4 (l3 - ((3 : Int32) * l1)).toNatClampNeg (hA M a4 l3.toNatClampNeg)) fun M8 => (k140 l0 l1 (l3 + (1 : Int32)) M8) else none else none else none) else none
set_option maxRecDepth 100000 in
set_option maxHeartbeats 4000000 in
theorem t_Mo_takeAll_140 {G : GT} {k140 : Nat → Int32 → Int32 → PH → Option (Int32 × PH)} (hk140 : ∀ (l0 : Nat) (l1 : Int32) (l3 : Int32) (M : PH), VX G mi_Mo_takeAll 1 16 140 [some (.ref l0), some (.int l1), none, some (.int l3)] [] M qI (k140 l0 l1 l3 M)) (l0 : Nat) (l1 : Int32) (l3 : Int32) (M : PH) : VX G mi_Mo_takeAll 1 16 140 [some (.ref l0), some (.int l1), none, some (.int l3)] [] M qI (b_Mo_takeAll_140 G k140 l0 l1 l3 M) := by
  unfold b_Mo_takeAll_140
  refine V_open ok_Mo_takeAll_140 ?_
  refine B_iload_n rfl ?_
  refine B_iconst (3 : Int32) ic_3 ?_
  refine B_aload_n rfl ?_
  refine B_chk (fun t1 => ?_)
  refine K_getI 11 2 2202 lf_Mo_185 rfl rfl t1 ?_
  refine B_imul ?_
  refine B_ige (tgt := 172) (by decide) ?_ ?_
  · skip
    refine V_open ok_Mo_takeAll_172 ?_
    refine B_aload_n rfl ?_
    refine B_dup rfl ?_
    refine K_getI 11 2 2202 lf_Mo_185 rfl rfl t1 ?_
    refine B_iload_n rfl ?_
    refine B_isub ?_
    refine K_putI 11 2 2202 lf_Mo_185 rfl (Or.inl rfl) rfl t1 (fun M3 e2 => ?_)
    refine B_iload_n rfl ?_
    exact B_iret rfl
  · skip
    refine B_aload_n rfl ?_
    refine K_getR 11 1 2201 lf_Mo_7 rfl rfl t1 (fun a4 r5 => ?_)
    refine B_iload_n rfl ?_
    refine B_iconst (3 : Int32) ic_3 ?_
    refine B_iload_n rfl ?_
    refine B_imul ?_
    refine B_isub ?_
    refine B_aload_n rfl ?_
    refine K_getRk 11 1 2201 lf_Mo_7 rfl rfl t1 r5 ?_
    refine B_iload_n rfl ?_
    refine B_chk (fun t6 => ?_)
    refine K_iald t6 ?_
    refine K_iast t6 (fun M8 e7 => ?_)
    refine S_inc (1 : Int32) [some (.ref l0), some (.int l1), none, some (.int (l3 + (1 : Int32)))] ic_1 rfl (by decide) rfl ?_
    refine B_goto (tgt := 140) (by decide) ?_
    exact V_weak (ls' := [some (.ref l0), some (.int l1), none, some (.int (l3 + (1 : Int32)))]) ⟨rfl, ⟨rfl, ⟨rfl, trivial⟩⟩⟩ (hk140 l0 l1 (l3 + (1 : Int32)) M8)
set_option maxRecDepth 100000 in
def w_Mo_takeAll_140 (G : GT) : Nat → Nat → Int32 → Int32 → PH → Option (Int32 × PH)
  | 0 => fun _ _ _ _ => none
  | n + 1 => b_Mo_takeAll_140 G (w_Mo_takeAll_140 G n)
set_option maxRecDepth 100000 in
set_option maxHeartbeats 4000000 in
theorem tw_Mo_takeAll_140 {G : GT} : ∀ (n : Nat) (l0 : Nat) (l1 : Int32) (l3 : Int32) (M : PH), VX G mi_Mo_takeAll 1 16 140 [some (.ref l0), some (.int l1), none, some (.int l3)] [] M qI (w_Mo_takeAll_140 G n l0 l1 l3 M)
  | 0, _, _, _, _ => X_none
  | n + 1, l0, l1, l3, M => t_Mo_takeAll_140 (tw_Mo_takeAll_140 n) l0 l1 l3 M
set_option maxRecDepth 100000 in
def b_Mo_takeAll_136 (G : GT) (l0 : Nat) (l1 : Int32) (M : PH) : Option (Int32 × PH) :=
  vb ((3 : Int32) * l1) fun v1 => w_Mo_takeAll_140 G FU l0 l1 v1 M
set_option maxRecDepth 100000 in
set_option maxHeartbeats 4000000 in
theorem t_Mo_takeAll_136 {G : GT} (l0 : Nat) (l1 : Int32) (M : PH) : VX G mi_Mo_takeAll 1 16 136 [some (.ref l0), some (.int l1), none, none] [] M qI (b_Mo_takeAll_136 G l0 l1 M) := by
  unfold b_Mo_takeAll_136
  refine V_open ok_Mo_takeAll_136 ?_
  refine B_iconst (3 : Int32) ic_3 ?_
  refine B_iload_n rfl ?_
  refine B_imul ?_
  refine B_vb (fun v1 => ?_)
  refine S_in [some (.ref l0), some (.int l1), none, some (.int v1)] (by decide) rfl ?_
  refine V_close ?_
  exact V_weak (ls' := [some (.ref l0), some (.int l1), none, some (.int v1)]) ⟨rfl, ⟨rfl, ⟨rfl, trivial⟩⟩⟩ (tw_Mo_takeAll_140 FU l0 l1 v1 M)
set_option maxRecDepth 100000 in
def b_Mo_takeAll_52 (G : GT) (k52 : Nat → Int32 → Int32 → PH → Option (Int32 × PH)) (l0 : Nat) (l1 : Int32) (l2 : Int32) (M : PH) : Option (Int32 × PH) :=
  if hT M l0 = 11 then if hI M 2202 l0 ≤ l1 then (b_Mo_takeAll_136 G l0 l1 M) else (if l2 = 0 then (b_Mo_takeAll_76 G k52 l0 l1 l2 M) else ((hR M 2201 l0).bind fun a2 => if hT M a2 = 16 then if ib ((3 : Int32) * l1) (hN M a2) = true then if hA M a2 ((3 : Int32) * l1).toNatClampNeg < (2 : Int32) then (b_Mo_takeAll_136 G l0 l1 M) else (b_Mo_takeAll_76 G k52 l0 l1 l2 M) else none else none)) else none
set_option maxRecDepth 100000 in
set_option maxHeartbeats 4000000 in
theorem t_Mo_takeAll_52 {G : GT} {k52 : Nat → Int32 → Int32 → PH → Option (Int32 × PH)} (hk52 : ∀ (l0 : Nat) (l1 : Int32) (l2 : Int32) (M : PH), VX G mi_Mo_takeAll 1 16 52 [some (.ref l0), some (.int l1), some (.int l2), none] [] M qI (k52 l0 l1 l2 M)) (l0 : Nat) (l1 : Int32) (l2 : Int32) (M : PH) : VX G mi_Mo_takeAll 1 16 52 [some (.ref l0), some (.int l1), some (.int l2), none] [] M qI (b_Mo_takeAll_52 G k52 l0 l1 l2 M) := by
  unfold b_Mo_takeAll_52
  refine V_open ok_Mo_takeAll_52 ?_
  refine B_iload_n rfl ?_
  refine B_aload_n rfl ?_
  refine B_chk (fun t1 => ?_)
  refine K_getI 11 2 2202 lf_Mo_185 rfl rfl t1 ?_
  refine B_ige (tgt := 136) (by decide) ?_ ?_
  · skip
    exact V_weak (ls' := [some (.ref l0), some (.int l1), none, none]) ⟨rfl, ⟨rfl, trivial⟩⟩ (t_Mo_takeAll_136 l0 l1 M)
  · skip
    refine B_iload_n rfl ?_
    refine B_eq (tgt := 76) (by decide) ?_ ?_
    · skip
      exact V_weak (ls' := [some (.ref l0), some (.int l1), some (.int l2), none]) ⟨rfl, ⟨rfl, ⟨rfl, trivial⟩⟩⟩ (t_Mo_takeAll_76 hk52 l0 l1 l2 M)
    · skip
      refine B_aload_n rfl ?_
      refine K_getR 11 1 2201 lf_Mo_7 rfl rfl t1 (fun a2 r3 => ?_)
      refine B_iconst (3 : Int32) ic_3 ?_
      refine B_iload_n rfl ?_
      refine B_imul ?_
      refine B_chk (fun t4 => ?_)
      refine K_iald t4 ?_
      refine B_iconst (2 : Int32) ic_2 ?_
      refine B_ilt (tgt := 136) (by decide) ?_ ?_
      · skip
        exact V_weak (ls' := [some (.ref l0), some (.int l1), none, none]) ⟨rfl, ⟨rfl, trivial⟩⟩ (t_Mo_takeAll_136 l0 l1 M)
      · skip
        refine V_close ?_
        exact V_weak (ls' := [some (.ref l0), some (.int l1), some (.int l2), none]) ⟨rfl, ⟨rfl, ⟨rfl, trivial⟩⟩⟩ (t_Mo_takeAll_76 hk52 l0 l1 l2 M)
set_option maxRecDepth 100000 in
def w_Mo_takeAll_52 (G : GT) : Nat → Nat → Int32 → Int32 → PH → Option (Int32 × PH)
  | 0 => fun _ _ _ _ => none
  | n + 1 => b_Mo_takeAll_52 G (w_Mo_takeAll_52 G n)
set_option maxRecDepth 100000 in
set_option maxHeartbeats 4000000 in
theorem tw_Mo_takeAll_52 {G : GT} : ∀ (n : Nat) (l0 : Nat) (l1 : Int32) (l2 : Int32) (M : PH), VX G mi_Mo_takeAll 1 16 52 [some (.ref l0), some (.int l1), some (.int l2), none] [] M qI (w_Mo_takeAll_52 G n l0 l1 l2 M)
  | 0, _, _, _, _ => X_none
  | n + 1, l0, l1, l2, M => t_Mo_takeAll_52 (tw_Mo_takeAll_52 n) l0 l1 l2 M
set_option maxRecDepth 100000 in
def b_Mo_takeAll_22 (G : GT) (k22 : Nat → Int32 → PH → Option (Int32 × PH)) (l0 : Nat) (l1 : Int32) (M : PH) : Option (Int32 × PH) :=
  if (6 : Int32) ≤ l1 then (w_Mo_takeAll_52 G FU l0 (0 : Int32) (0 : Int32) M) else (if hT M l0 = 11 then (hR M 2211 l0).bind fun a2 => if hT M a2 = 17 then if ib l1 (hN M a2) = true then hb (sA M a2 l1.toNatClampNeg (0 : Int32)) fun M6 => ((hR M6 2212 l0).bind fun a8 => if hT M6 a8 = 17 then if ib l1 (hN M6 a8) = true then hb (sA M6 a8 l1.toNatClampNeg (0 : Int32)) fun M12 => (k22 l0 (l1 + (1 : Int32)) M12) else none else none) else none else none else none)
set_option maxRecDepth 100000 in
set_option maxHeartbeats 4000000 in
theorem t_Mo_takeAll_22 {G : GT} {k22 : Nat → Int32 → PH → Option (Int32 × PH)} (hk22 : ∀ (l0 : Nat) (l1 : Int32) (M : PH), VX G mi_Mo_takeAll 1 16 22 [some (.ref l0), some (.int l1), none, none] [] M qI (k22 l0 l1 M)) (l0 : Nat) (l1 : Int32) (M : PH) : VX G mi_Mo_takeAll 1 16 22 [some (.ref l0), some (.int l1), none, none] [] M qI (b_Mo_takeAll_22 G k22 l0 l1 M) := by
  unfold b_Mo_takeAll_22
  refine V_open ok_Mo_takeAll_22 ?_
  refine B_iload_n rfl ?_
  refine B_bipush (6 : Int32) bp_6 ?_
  refine B_ige (tgt := 48) (by decide) ?_ ?_
  · skip
    refine V_open ok_Mo_takeAll_48 ?_
    refine B_iconst (0 : Int32) ic_0 ?_
    refine S_in [some (.ref l0), some (.int (0 : Int32)), none, none] (by decide) rfl ?_
    refine B_iconst (0 : Int32) ic_0 ?_
    refine S_in [some (.ref l0), some (.int (0 : Int32)), some (.int (0 : Int32)), none] (by decide) rfl ?_
    refine V_close ?_
    exact V_weak (ls' := [some (.ref l0), some (.int (0 : Int32)), some (.int (0 : Int32)), none]) ⟨rfl, ⟨rfl, ⟨rfl, trivial⟩⟩⟩ (tw_Mo_takeAll_52 FU l0 (0 : Int32) (0 : Int32) M)
  · skip
    refine B_aload_n rfl ?_
    refine B_chk (fun t1 => ?_)
    refine K_getR 11 11 2211 lf_Mo_17 rfl rfl t1 (fun a2 r3 => ?_)
    refine B_iload_n rfl ?_
    refine B_iconst (0 : Int32) ic_0 ?_
    refine B_chk (fun t4 => ?_)
    refine K_zast t4 (Or.inl rfl) (fun M6 e5 => ?_)
    refine B_aload_n rfl ?_
    have h7 : hT M6 l0 = 11 := by rw [e5]; exact t1
    refine K_getR 11 12 2212 lf_Mo_20 rfl rfl h7 (fun a8 r9 => ?_)
    refine B_iload_n rfl ?_
    refine B_iconst (0 : Int32) ic_0 ?_
    refine B_chk (fun t10 => ?_)
    refine K_zast t10 (Or.inl rfl) (fun M12 e11 => ?_)
    refine S_inc (1 : Int32) [some (.ref l0), some (.int (l1 + (1 : Int32))), none, none] ic_1 rfl (by decide) rfl ?_
    refine B_goto (tgt := 22) (by decide) ?_
    exact V_weak (ls' := [some (.ref l0), some (.int (l1 + (1 : Int32))), none, none]) ⟨rfl, ⟨rfl, trivial⟩⟩ (hk22 l0 (l1 + (1 : Int32)) M12)
set_option maxRecDepth 100000 in
def w_Mo_takeAll_22 (G : GT) : Nat → Nat → Int32 → PH → Option (Int32 × PH)
  | 0 => fun _ _ _ => none
  | n + 1 => b_Mo_takeAll_22 G (w_Mo_takeAll_22 G n)
set_option maxRecDepth 100000 in
set_option maxHeartbeats 4000000 in
theorem tw_Mo_takeAll_22 {G : GT} : ∀ (n : Nat) (l0 : Nat) (l1 : Int32) (M : PH), VX G mi_Mo_takeAll 1 16 22 [some (.ref l0), some (.int l1), none, none] [] M qI (w_Mo_takeAll_22 G n l0 l1 M)
  | 0, _, _, _ => X_none
  | n + 1, l0, l1, M => t_Mo_takeAll_22 (tw_Mo_takeAll_22 n) l0 l1 M
set_option maxRecDepth 100000 in
def f_Mo_takeAll (G : GT) (l0 : Nat) (M : PH) : Option (Int32 × PH) :=
  if hT M l0 = 11 then hb (sI M 2213 l0 (0 : Int32)) fun M3 => hb (sI M3 2214 l0 (0 : Int32)) fun M6 => hb (sI M6 2215 l0 (0 : Int32)) fun M9 => hb (sI M9 2216 l0 (0 : Int32)) fun M12 => w_Mo_takeAll_22 G FU l0 (0 : Int32) M12 else none
set_option maxRecDepth 100000 in
set_option maxHeartbeats 4000000 in
theorem s_Mo_takeAll {G : GT} (l0 : Nat) (M : PH) : VX G mi_Mo_takeAll 1 16 0 [some (.ref l0), none, none, none] [] M qI (f_Mo_takeAll G l0 M) := by
  unfold f_Mo_takeAll
  refine V_open ok_Mo_takeAll_0 ?_
  refine B_aload_n rfl ?_
  refine B_iconst (0 : Int32) ic_0 ?_
  refine B_chk (fun t1 => ?_)
  refine K_putZ 11 13 2213 lf_Mo_202 rfl (Or.inl rfl) rfl t1 (Or.inl rfl) (fun M3 e2 => ?_)
  refine B_aload_n rfl ?_
  refine B_iconst (0 : Int32) ic_0 ?_
  have h4 : hT M3 l0 = 11 := by rw [e2]; exact t1
  refine K_putZ 11 14 2214 lf_Mo_205 rfl (Or.inl rfl) rfl h4 (Or.inl rfl) (fun M6 e5 => ?_)
  refine B_aload_n rfl ?_
  refine B_iconst (0 : Int32) ic_0 ?_
  have h7 : hT M6 l0 = 11 := by rw [e5]; exact h4
  refine K_putI 11 15 2215 lf_Mo_214 rfl (Or.inl rfl) rfl h7 (fun M9 e8 => ?_)
  refine B_aload_n rfl ?_
  refine B_iconst (0 : Int32) ic_0 ?_
  have h10 : hT M9 l0 = 11 := by rw [e8]; exact h7
  refine K_putI 11 16 2216 lf_Mo_217 rfl (Or.inl rfl) rfl h10 (fun M12 e11 => ?_)
  refine B_iconst (0 : Int32) ic_0 ?_
  refine S_in [some (.ref l0), some (.int (0 : Int32)), none, none] (by decide) rfl ?_
  refine V_close ?_
  exact V_weak (ls' := [some (.ref l0), some (.int (0 : Int32)), none, none]) ⟨rfl, ⟨rfl, trivial⟩⟩ (tw_Mo_takeAll_22 FU l0 (0 : Int32) M12)

-- Mo_height
theorem ok_Mo_height_0 : okb prog_13_method_14_code 0 [(.aload_n 0, 1), (.getfield 57, 3), (.iload_n 1, 1), (.baload, 1), (.ifCond .eq 8, 3), (.bipush 12, 2), (.goto 9, 3)] = true := by decide +kernel
theorem ok_Mo_height_14 : okb prog_13_method_14_code 14 [(.aload_n 0, 1), (.getfield 45, 3), (.iload_n 1, 1), (.iaload, 1), (.ireturn, 1)] = true := by decide +kernel
theorem ok_Mo_height_20 : okb prog_13_method_14_code 20 [(.ireturn, 1)] = true := by decide +kernel
set_option maxRecDepth 100000 in
def f_Mo_height (G : GT) (l0 : Nat) (l1 : Int32) (M : PH) : Option (Int32 × PH) :=
  if hT M l0 = 11 then (hR M 2236 l0).bind fun a2 => if hT M a2 = 17 then if ib l1 (hN M a2) = true then if hA M a2 l1.toNatClampNeg = 0 then ((hR M 2232 l0).bind fun a5 => if hT M a5 = 16 then if ib l1 (hN M a5) = true then some (hA M a5 l1.toNatClampNeg, M) else none else none) else (some ((12 : Int32), M)) else none else none else none
set_option maxRecDepth 100000 in
set_option maxHeartbeats 4000000 in
theorem s_Mo_height {G : GT} (l0 : Nat) (l1 : Int32) (M : PH) : VX G mi_Mo_height 0 0 0 [some (.ref l0), some (.int l1)] [] M qI (f_Mo_height G l0 l1 M) := by
  unfold f_Mo_height
  refine V_open ok_Mo_height_0 ?_
  refine B_aload_n rfl ?_
  refine B_chk (fun t1 => ?_)
  refine K_getR 11 36 2236 lf_Mo_57 rfl rfl t1 (fun a2 r3 => ?_)
  refine B_iload_n rfl ?_
  refine B_chk (fun t4 => ?_)
  refine K_zald t4 ?_
  refine B_eq (tgt := 14) (by decide) ?_ ?_
  · skip
    refine V_open ok_Mo_height_14 ?_
    refine B_aload_n rfl ?_
    refine K_getR 11 32 2232 lf_Mo_45 rfl rfl t1 (fun a5 r6 => ?_)
    refine B_iload_n rfl ?_
    refine B_chk (fun t7 => ?_)
    refine K_iald t7 ?_
    exact B_iret rfl
  · skip
    refine B_bipush (12 : Int32) bp_12 ?_
    refine B_goto (tgt := 20) (by decide) ?_
    refine V_open ok_Mo_height_20 ?_
    exact B_iret rfl

-- Mo_isIn
theorem ok_Mo_isIn_0 : okb prog_13_method_15_code 0 [(.iload_n 1, 1), (.iload_n 3, 1), (.if_icmp .lt 25, 3), (.iload_n 1, 1), (.iload 5, 2), (.if_icmp .ge 19, 3), (.iload_n 2, 1), (.iload 4, 2), (.if_icmp .lt 13, 3), (.iload_n 2, 1), (.iload 6, 2), (.if_icmp .ge 7, 3), (.iconst 1, 1), (.goto 4, 3)] = true := by decide +kernel
theorem ok_Mo_isIn_27 : okb prog_13_method_15_code 27 [(.iconst 0, 1), (.ireturn, 1)] = true := by decide +kernel
theorem ok_Mo_isIn_28 : okb prog_13_method_15_code 28 [(.ireturn, 1)] = true := by decide +kernel
set_option maxRecDepth 100000 in
def f_Mo_isIn (G : GT) (l0 : Nat) (l1 : Int32) (l2 : Int32) (l3 : Int32) (l4 : Int32) (l5 : Int32) (l6 : Int32) (M : PH) : Option (Int32 × PH) :=
  if l1 < l3 then (some ((0 : Int32), M)) else (if l5 ≤ l1 then (some ((0 : Int32), M)) else (if l2 < l4 then (some ((0 : Int32), M)) else (if l6 ≤ l2 then (some ((0 : Int32), M)) else (some ((1 : Int32), M)))))
set_option maxRecDepth 100000 in
set_option maxHeartbeats 4000000 in
theorem s_Mo_isIn {G : GT} (l0 : Nat) (l1 : Int32) (l2 : Int32) (l3 : Int32) (l4 : Int32) (l5 : Int32) (l6 : Int32) (M : PH) : VX G mi_Mo_isIn 0 0 0 [some (.ref l0), some (.int l1), some (.int l2), some (.int l3), some (.int l4), some (.int l5), some (.int l6)] [] M qI (f_Mo_isIn G l0 l1 l2 l3 l4 l5 l6 M) := by
  unfold f_Mo_isIn
  refine V_open ok_Mo_isIn_0 ?_
  refine B_iload_n rfl ?_
  refine B_iload_n rfl ?_
  refine B_ilt (tgt := 27) (by decide) ?_ ?_
  · skip
    refine V_open ok_Mo_isIn_27 ?_
    refine B_iconst (0 : Int32) ic_0 ?_
    exact Z_ret rfl (Or.inl rfl)
  · skip
    refine B_iload_n rfl ?_
    refine B_iload rfl ?_
    refine B_ige (tgt := 27) (by decide) ?_ ?_
    · skip
      refine V_open ok_Mo_isIn_27 ?_
      refine B_iconst (0 : Int32) ic_0 ?_
      exact Z_ret rfl (Or.inl rfl)
    · skip
      refine B_iload_n rfl ?_
      refine B_iload rfl ?_
      refine B_ilt (tgt := 27) (by decide) ?_ ?_
      · skip
        refine V_open ok_Mo_isIn_27 ?_
        refine B_iconst (0 : Int32) ic_0 ?_
        exact Z_ret rfl (Or.inl rfl)
      · skip
        refine B_iload_n rfl ?_
        refine B_iload rfl ?_
        refine B_ige (tgt := 27) (by decide) ?_ ?_
        · skip
          refine V_open ok_Mo_isIn_27 ?_
          refine B_iconst (0 : Int32) ic_0 ?_
          exact Z_ret rfl (Or.inl rfl)
        · skip
          refine B_iconst (1 : Int32) ic_1 ?_
          refine B_goto (tgt := 28) (by decide) ?_
          refine V_open ok_Mo_isIn_28 ?_
          exact Z_ret rfl (Or.inr rfl)

-- Mo_hasMouse
theorem ok_Mo_hasMouse_0 : okb prog_13_method_16_code 0 [(.aload_n 0, 1), (.aload_n 0, 1), (.getfield 192, 3), (.aload_n 0, 1), (.getfield 195, 3), (.aload_n 0, 1), (.getfield 36, 3), (.iload_n 1, 1), (.iaload, 1), (.aload_n 0, 1), (.getfield 39, 3), (.iload_n 1, 1), (.iaload, 1), (.aload_n 0, 1), (.getfield 36, 3), (.iload_n 1, 1), (.iaload, 1), (.aload_n 0, 1), (.getfield 42, 3), (.iload_n 1, 1), (.iaload, 1), (.iadd, 1), (.aload_n 0, 1), (.getfield 39, 3), (.iload_n 1, 1), (.iaload, 1), (.aload_n 0, 1), (.iload_n 1, 1), (.invokevirtual 224, 3), (.iadd, 1), (.invokevirtual 228, 3), (.ireturn, 1)] = true := by decide +kernel
set_option maxRecDepth 100000 in
def f_Mo_hasMouse (G : GT) (l0 : Nat) (l1 : Int32) (M : PH) : Option (Int32 × PH) :=
  if hT M l0 = 11 then (hR M 2229 l0).bind fun a2 => if hT M a2 = 16 then if ib l1 (hN M a2) = true then (hR M 2230 l0).bind fun a5 => if hT M a5 = 16 then if ib l1 (hN M a5) = true then if ib l1 (hN M a2) = true then (hR M 2231 l0).bind fun a8 => if hT M a8 = 16 then if ib l1 (hN M a8) = true then if ib l1 (hN M a5) = true then bI (f_Mo_height G l0 l1 M) fun v12 M11 => (if hT M11 l0 = 11 then bI (f_Mo_isIn G l0 (hI M 2203 l0) (hI M 2204 l0) (hA M a2 l1.toNatClampNeg) (hA M a5 l1.toNatClampNeg) ((hA M a2 l1.toNatClampNeg) + (hA M a8 l1.toNatClampNeg)) ((hA M a5 l1.toNatClampNeg) + v12) M11) fun v15 M14 => (if v15 = 0 ∨ v15 = 1 then some (v15, M14) else none) else none) else none else none else none else none else none else none else none else none else none
set_option maxRecDepth 100000 in
set_option maxHeartbeats 4000000 in
theorem s_Mo_hasMouse {G : GT} (l0 : Nat) (l1 : Int32) (M : PH) : VX G mi_Mo_hasMouse 1 20 0 [some (.ref l0), some (.int l1)] [] M qI (f_Mo_hasMouse G l0 l1 M) := by
  unfold f_Mo_hasMouse
  refine V_open ok_Mo_hasMouse_0 ?_
  refine B_aload_n rfl ?_
  refine B_aload_n rfl ?_
  refine B_chk (fun t1 => ?_)
  refine K_getI 11 3 2203 lf_Mo_192 rfl rfl t1 ?_
  refine B_aload_n rfl ?_
  refine K_getI 11 4 2204 lf_Mo_195 rfl rfl t1 ?_
  refine B_aload_n rfl ?_
  refine K_getR 11 29 2229 lf_Mo_36 rfl rfl t1 (fun a2 r3 => ?_)
  refine B_iload_n rfl ?_
  refine B_chk (fun t4 => ?_)
  refine K_iald t4 ?_
  refine B_aload_n rfl ?_
  refine K_getR 11 30 2230 lf_Mo_39 rfl rfl t1 (fun a5 r6 => ?_)
  refine B_iload_n rfl ?_
  refine B_chk (fun t7 => ?_)
  refine K_iald t7 ?_
  refine B_aload_n rfl ?_
  refine K_getRk 11 29 2229 lf_Mo_36 rfl rfl t1 r3 ?_
  refine B_iload_n rfl ?_
  refine K_iald t4 ?_
  refine B_aload_n rfl ?_
  refine K_getR 11 31 2231 lf_Mo_42 rfl rfl t1 (fun a8 r9 => ?_)
  refine B_iload_n rfl ?_
  refine B_chk (fun t10 => ?_)
  refine K_iald t10 ?_
  refine B_iadd ?_
  refine B_aload_n rfl ?_
  refine K_getRk 11 30 2230 lf_Mo_39 rfl rfl t1 r6 ?_
  refine B_iload_n rfl ?_
  refine K_iald t7 ?_
  refine B_aload_n rfl ?_
  refine B_iload_n rfl ?_
  refine C_I (vs := [.ref l0, .int l1]) (st := [.int (hA M a5 l1.toNatClampNeg), .int ((hA M a2 l1.toNatClampNeg) + (hA M a8 l1.toNatClampNeg)), .int (hA M a5 l1.toNatClampNeg), .int (hA M a2 l1.toNatClampNeg), .int (hI M 2204 l0), .int (hI M 2203 l0), .ref l0]) (ci_V lv_Mo_224 rfl rfl t1) rfl rfl rfl (s_Mo_height l0 l1 M) (fun v12 M11 => ?_)
  refine B_iadd ?_
  refine B_chk (fun t13 => ?_)
  refine C_I (vs := [.ref l0, .int (hI M 2203 l0), .int (hI M 2204 l0), .int (hA M a2 l1.toNatClampNeg), .int (hA M a5 l1.toNatClampNeg), .int ((hA M a2 l1.toNatClampNeg) + (hA M a8 l1.toNatClampNeg)), .int ((hA M a5 l1.toNatClampNeg) + v12)]) (st := []) (ci_V lv_Mo_228 rfl rfl t13) rfl rfl rfl (s_Mo_isIn l0 (hI M 2203 l0) (hI M 2204 l0) (hA M a2 l1.toNatClampNeg) (hA M a5 l1.toNatClampNeg) ((hA M a2 l1.toNatClampNeg) + (hA M a8 l1.toNatClampNeg)) ((hA M a5 l1.toNatClampNeg) + v12) M11) (fun v15 M14 => ?_)
  refine B_chk (fun z16 => ?_)
  exact Z_ret rfl z16

-- Mo_findWindow
theorem ok_Mo_findWindow_0 : okb prog_13_method_17_code 0 [(.aload_n 0, 1), (.iconst (-1), 1), (.putfield 26, 3), (.aload_n 0, 1), (.getfield 69, 3), (.iconst (-1), 1), (.if_icmp .eq 44, 3), (.aload_n 0, 1), (.getfield 63, 3), (.bipush 8, 2), (.baload, 1), (.ifCond .eq 34, 3), (.aload_n 0, 1), (.bipush 8, 2), (.invokevirtual 232, 3), (.ifCond .eq 12, 3), (.aload_n 0, 1), (.bipush 8, 2), (.putfield 26, 3), (.goto 15, 3)] = true := by decide +kernel
theorem ok_Mo_findWindow_41 : okb prog_13_method_17_code 41 [(.aload_n 0, 1), (.getfield 202, 3), (.ifCond .eq 8, 3), (.aload_n 0, 1), (.iconst (-1), 1), (.putfield 69, 3), (.return_, 1)] = true := by decide +kernel
theorem ok_Mo_findWindow_53 : okb prog_13_method_17_code 53 [(.return_, 1)] = true := by decide +kernel
theorem ok_Mo_findWindow_54 : okb prog_13_method_17_code 54 [(.iconst 0, 1), (.istore_n 1, 1)] = true := by decide +kernel
theorem ok_Mo_findWindow_56 : okb prog_13_method_17_code 56 [(.iload_n 1, 1), (.bipush 8, 2), (.if_icmp .ge 57, 3), (.aload_n 0, 1), (.getfield 63, 3), (.iload_n 1, 1), (.baload, 1), (.ifCond .eq 42, 3), (.aload_n 0, 1), (.iload_n 1, 1), (.invokevirtual 232, 3), (.ifCond .eq 34, 3), (.aload_n 0, 1), (.getfield 26, 3), (.iconst (-1), 1), (.if_icmp .eq 21, 3), (.aload_n 0, 1), (.getfield 54, 3), (.iload_n 1, 1), (.iaload, 1), (.aload_n 0, 1), (.getfield 54, 3), (.aload_n 0, 1), (.getfield 26, 3), (.iaload, 1), (.if_icmp .le 8, 3)] = true := by decide +kernel
theorem ok_Mo_findWindow_105 : okb prog_13_method_17_code 105 [(.aload_n 0, 1), (.iload_n 1, 1), (.putfield 26, 3)] = true := by decide +kernel
theorem ok_Mo_findWindow_110 : okb prog_13_method_17_code 110 [(.iinc 1 1, 3), (.goto (-57), 3)] = true := by decide +kernel
theorem ok_Mo_findWindow_116 : okb prog_13_method_17_code 116 [(.aload_n 0, 1), (.getfield 26, 3), (.iconst (-1), 1), (.if_icmp .eq 10, 3), (.aload_n 0, 1), (.getfield 202, 3), (.ifCond .ne 4, 3), (.return_, 1)] = true := by decide +kernel
theorem ok_Mo_findWindow_131 : okb prog_13_method_17_code 131 [(.return_, 1)] = true := by decide +kernel
theorem ok_Mo_findWindow_132 : okb prog_13_method_17_code 132 [(.iconst 0, 1), (.istore_n 1, 1)] = true := by decide +kernel
theorem ok_Mo_findWindow_134 : okb prog_13_method_17_code 134 [(.iload_n 1, 1), (.bipush 8, 2), (.if_icmp .ge 37, 3), (.aload_n 0, 1), (.getfield 54, 3), (.iload_n 1, 1), (.iaload, 1), (.aload_n 0, 1), (.getfield 54, 3), (.aload_n 0, 1), (.getfield 26, 3), (.iaload, 1), (.if_icmp .le 13, 3), (.aload_n 0, 1), (.getfield 54, 3), (.iload_n 1, 1), (.dup2, 1), (.iaload, 1), (.iconst 1, 1), (.isub, 1), (.iastore, 1)] = true := by decide +kernel
theorem ok_Mo_findWindow_168 : okb prog_13_method_17_code 168 [(.iinc 1 1, 3), (.goto (-37), 3)] = true := by decide +kernel
theorem ok_Mo_findWindow_174 : okb prog_13_method_17_code 174 [(.aload_n 0, 1), (.getfield 54, 3), (.aload_n 0, 1), (.getfield 26, 3), (.bipush 7, 2), (.iastore, 1), (.return_, 1)] = true := by decide +kernel
set_option maxRecDepth 100000 in
def b_Mo_findWindow_110 (G : GT) (k56 : Nat → Int32 → PH → Option (PH)) (l0 : Nat) (l1 : Int32) (M : PH) : Option (PH) :=
  k56 l0 (l1 + (1 : Int32)) M
set_option maxRecDepth 100000 in
set_option maxHeartbeats 4000000 in
theorem t_Mo_findWindow_110 {G : GT} {k56 : Nat → Int32 → PH → Option (PH)} (hk56 : ∀ (l0 : Nat) (l1 : Int32) (M : PH), VX G mi_Mo_findWindow 2 33 56 [some (.ref l0), some (.int l1)] [] M qV (k56 l0 l1 M)) (l0 : Nat) (l1 : Int32) (M : PH) : VX G mi_Mo_findWindow 2 33 110 [some (.ref l0), some (.int l1)] [] M qV (b_Mo_findWindow_110 G k56 l0 l1 M) := by
  unfold b_Mo_findWindow_110
  refine V_open ok_Mo_findWindow_110 ?_
  refine S_inc (1 : Int32) [some (.ref l0), some (.int (l1 + (1 : Int32)))] ic_1 rfl (by decide) rfl ?_
  refine B_goto (tgt := 56) (by decide) ?_
  exact V_weak (ls' := [some (.ref l0), some (.int (l1 + (1 : Int32)))]) ⟨rfl, ⟨rfl, trivial⟩⟩ (hk56 l0 (l1 + (1 : Int32)) M)
set_option maxRecDepth 100000 in
def b_Mo_findWindow_105 (G : GT) (k56 : Nat → Int32 → PH → Option (PH)) (l0 : Nat) (l1 : Int32) (M : PH) : Option (PH) :=
  if hT M l0 = 11 then hb (sI M 2223 l0 l1) fun M3 => b_Mo_findWindow_110 G k56 l0 l1 M3 else none
set_option maxRecDepth 100000 in
set_option maxHeartbeats 4000000 in
theorem t_Mo_findWindow_105 {G : GT} {k56 : Nat → Int32 → PH → Option (PH)} (hk56 : ∀ (l0 : Nat) (l1 : Int32) (M : PH), VX G mi_Mo_findWindow 2 33 56 [some (.ref l0), some (.int l1)] [] M qV (k56 l0 l1 M)) (l0 : Nat) (l1 : Int32) (M : PH) : VX G mi_Mo_findWindow 2 33 105 [some (.ref l0), some (.int l1)] [] M qV (b_Mo_findWindow_105 G k56 l0 l1 M) := by
  unfold b_Mo_findWindow_105
  refine V_open ok_Mo_findWindow_105 ?_
  refine B_aload_n rfl ?_
  refine B_iload_n rfl ?_
  refine B_chk (fun t1 => ?_)
  refine K_putI 11 23 2223 lf_Mo_26 rfl (Or.inl rfl) rfl t1 (fun M3 e2 => ?_)
  refine V_close ?_
  exact V_weak (ls' := [some (.ref l0), some (.int l1)]) ⟨rfl, ⟨rfl, trivial⟩⟩ (t_Mo_findWindow_110 hk56 l0 l1 M3)
set_option maxRecDepth 100000 in
def b_Mo_findWindow_168 (G : GT) (k134 : Nat → Int32 → PH → Option (PH)) (l0 : Nat) (l1 : Int32) (M : PH) : Option (PH) :=
  k134 l0 (l1 + (1 : Int32)) M
set_option maxRecDepth 100000 in
set_option maxHeartbeats 4000000 in
theorem t_Mo_findWindow_168 {G : GT} {k134 : Nat → Int32 → PH → Option (PH)} (hk134 : ∀ (l0 : Nat) (l1 : Int32) (M : PH), VX G mi_Mo_findWindow 2 33 134 [some (.ref l0), some (.int l1)] [] M qV (k134 l0 l1 M)) (l0 : Nat) (l1 : Int32) (M : PH) : VX G mi_Mo_findWindow 2 33 168 [some (.ref l0), some (.int l1)] [] M qV (b_Mo_findWindow_168 G k134 l0 l1 M) := by
  unfold b_Mo_findWindow_168
  refine V_open ok_Mo_findWindow_168 ?_
  refine S_inc (1 : Int32) [some (.ref l0), some (.int (l1 + (1 : Int32)))] ic_1 rfl (by decide) rfl ?_
  refine B_goto (tgt := 134) (by decide) ?_
  exact V_weak (ls' := [some (.ref l0), some (.int (l1 + (1 : Int32)))]) ⟨rfl, ⟨rfl, trivial⟩⟩ (hk134 l0 (l1 + (1 : Int32)) M)
set_option maxRecDepth 100000 in
def b_Mo_findWindow_134 (G : GT) (k134 : Nat → Int32 → PH → Option (PH)) (l0 : Nat) (l1 : Int32) (M : PH) : Option (PH) :=
  if (8 : Int32) ≤ l1 then (if hT M l0 = 11 then (hR M 2235 l0).bind fun a2 => if hT M a2 = 16 then if ib (hI M 2223 l0) (hN M a2) = true then hb (sA M a2 (hI M 2223 l0).toNatClampNeg (7 : Int32)) fun M6 => (some M6) else none else none else none) else (if hT M l0 = 11 then (hR M 2235 l0).bind fun a8 => if hT M a8 = 16 then if ib l1 (hN M a8) = true then if ib (hI M 2223 l0) (hN M a8) = true then if hA M a8 l1.toNatClampNeg ≤ hA M a8 (hI M 2223 l0).toNatClampNeg then (b_Mo_findWindow_168 G k134 l0 l1 M) else (if ib l1 (hN M a8) = true then if ib l1 (hN M a8) = true then hb (sA M a8 l1.toNatClampNeg ((hA M a8 l1.toNatClampNeg) - (1 : Int32))) fun M12 => (b_Mo_findWindow_168 G k134 l0 l1 M12) else none else none) else none else none else none else none)
set_option maxRecDepth 100000 in
set_option maxHeartbeats 4000000 in
theorem t_Mo_findWindow_134 {G : GT} {k134 : Nat → Int32 → PH → Option (PH)} (hk134 : ∀ (l0 : Nat) (l1 : Int32) (M : PH), VX G mi_Mo_findWindow 2 33 134 [some (.ref l0), some (.int l1)] [] M qV (k134 l0 l1 M)) (l0 : Nat) (l1 : Int32) (M : PH) : VX G mi_Mo_findWindow 2 33 134 [some (.ref l0), some (.int l1)] [] M qV (b_Mo_findWindow_134 G k134 l0 l1 M) := by
  unfold b_Mo_findWindow_134
  refine V_open ok_Mo_findWindow_134 ?_
  refine B_iload_n rfl ?_
  refine B_bipush (8 : Int32) bp_8 ?_
  refine B_ige (tgt := 174) (by decide) ?_ ?_
  · skip
    refine V_open ok_Mo_findWindow_174 ?_
    refine B_aload_n rfl ?_
    refine B_chk (fun t1 => ?_)
    refine K_getR 11 35 2235 lf_Mo_54 rfl rfl t1 (fun a2 r3 => ?_)
    refine B_aload_n rfl ?_
    refine K_getI 11 23 2223 lf_Mo_26 rfl rfl t1 ?_
    refine B_bipush (7 : Int32) bp_7 ?_
    refine B_chk (fun t4 => ?_)
    refine K_iast t4 (fun M6 e5 => ?_)
    exact B_vret rfl
  · skip
    refine B_aload_n rfl ?_
    refine B_chk (fun t7 => ?_)
    refine K_getR 11 35 2235 lf_Mo_54 rfl rfl t7 (fun a8 r9 => ?_)
    refine B_iload_n rfl ?_
    refine B_chk (fun t10 => ?_)
    refine K_iald t10 ?_
    refine B_aload_n rfl ?_
    refine K_getRk 11 35 2235 lf_Mo_54 rfl rfl t7 r9 ?_
    refine B_aload_n rfl ?_
    refine K_getI 11 23 2223 lf_Mo_26 rfl rfl t7 ?_
    refine K_iald t10 ?_
    refine B_ile (tgt := 168) (by decide) ?_ ?_
    · skip
      exact V_weak (ls' := [some (.ref l0), some (.int l1)]) ⟨rfl, ⟨rfl, trivial⟩⟩ (t_Mo_findWindow_168 hk134 l0 l1 M)
    · skip
      refine B_aload_n rfl ?_
      refine K_getRk 11 35 2235 lf_Mo_54 rfl rfl t7 r9 ?_
      refine B_iload_n rfl ?_
      refine B_dup2 rfl rfl ?_
      refine K_iald t10 ?_
      refine B_iconst (1 : Int32) ic_1 ?_
      refine B_isub ?_
      refine K_iast t10 (fun M12 e11 => ?_)
      refine V_close ?_
      exact V_weak (ls' := [some (.ref l0), some (.int l1)]) ⟨rfl, ⟨rfl, trivial⟩⟩ (t_Mo_findWindow_168 hk134 l0 l1 M12)
set_option maxRecDepth 100000 in
def w_Mo_findWindow_134 (G : GT) : Nat → Nat → Int32 → PH → Option (PH)
  | 0 => fun _ _ _ => none
  | n + 1 => b_Mo_findWindow_134 G (w_Mo_findWindow_134 G n)
set_option maxRecDepth 100000 in
set_option maxHeartbeats 4000000 in
theorem tw_Mo_findWindow_134 {G : GT} : ∀ (n : Nat) (l0 : Nat) (l1 : Int32) (M : PH), VX G mi_Mo_findWindow 2 33 134 [some (.ref l0), some (.int l1)] [] M qV (w_Mo_findWindow_134 G n l0 l1 M)
  | 0, _, _, _ => X_none
  | n + 1, l0, l1, M => t_Mo_findWindow_134 (tw_Mo_findWindow_134 n) l0 l1 M
set_option maxRecDepth 100000 in
def b_Mo_findWindow_56 (G : GT) (k56 : Nat → Int32 → PH → Option (PH)) (l0 : Nat) (l1 : Int32) (M : PH) : Option (PH) :=
  if (8 : Int32) ≤ l1 then (if hT M l0 = 11 then if hI M 2223 l0 = (-1 : Int32) then (some M) else (if ¬ hI M 2213 l0 = 0 then (w_Mo_findWindow_134 G FU l0 (0 : Int32) M) else (some M)) else none) else (if hT M l0 = 11 then (hR M 2238 l0).bind fun a3 => if hT M a3 = 17 then if ib l1 (hN M a3) = true then if hA M a3 l1.toNatClampNeg = 0 then (b_Mo_findWindow_110 G k56 l0 l1 M) else (bI (f_Mo_hasMouse G l0 l1 M) fun v7 M6 => (if v7 = 0 then (b_Mo_findWindow_110 G k56 l0 l1 M6) else (if hT M6 l0 = 11 then if hI M6 2223 l0 = (-1 : Int32) then (b_Mo_findWindow_105 G k56 l0 l1 M6) else ((hR M6 2235 l0).bind fun a9 => if hT M6 a9 = 16 then if ib l1 (hN M6 a9) = true then if ib (hI M6 2223 l0) (hN M6 a9) = true then if hA M6 a9 l1.toNatClampNeg ≤ hA M6 a9 (hI M6 2223 l0).toNatClampNeg then (b_Mo_findWindow_110 G k56 l0 l1 M6) else (b_Mo_findWindow_105 G k56 l0 l1 M6) else none else none else none) else none))) else none else none else none)
set_option maxRecDepth 100000 in
set_option maxHeartbeats 4000000 in
theorem t_Mo_findWindow_56 {G : GT} {k56 : Nat → Int32 → PH → Option (PH)} (hk56 : ∀ (l0 : Nat) (l1 : Int32) (M : PH), VX G mi_Mo_findWindow 2 33 56 [some (.ref l0), some (.int l1)] [] M qV (k56 l0 l1 M)) (l0 : Nat) (l1 : Int32) (M : PH) : VX G mi_Mo_findWindow 2 33 56 [some (.ref l0), some (.int l1)] [] M qV (b_Mo_findWindow_56 G k56 l0 l1 M) := by
  unfold b_Mo_findWindow_56
  refine V_open ok_Mo_findWindow_56 ?_
  refine B_iload_n rfl ?_
  refine B_bipush (8 : Int32) bp_8 ?_
  refine B_ige (tgt := 116) (by decide) ?_ ?_
  · skip
    refine V_open ok_Mo_findWindow_116 ?_
    refine B_aload_n rfl ?_
    refine B_chk (fun t1 => ?_)
    refine K_getI 11 23 2223 lf_Mo_26 rfl rfl t1 ?_
    refine B_iconst (-1 : Int32) ic_m1 ?_
    refine B_ieq (tgt := 131) (by decide) ?_ ?_
    · skip
      refine V_open ok_Mo_findWindow_131 ?_
      exact B_vret rfl
    · skip
      refine B_aload_n rfl ?_
      refine K_getI 11 13 2213 lf_Mo_202 rfl rfl t1 ?_
      refine B_ne (tgt := 132) (by decide) ?_ ?_
      · skip
        refine V_open ok_Mo_findWindow_132 ?_
        refine B_iconst (0 : Int32) ic_0 ?_
        refine S_in [some (.ref l0), some (.int (0 : Int32))] (by decide) rfl ?_
        refine V_close ?_
        exact V_weak (ls' := [some (.ref l0), some (.int (0 : Int32))]) ⟨rfl, ⟨rfl, trivial⟩⟩ (tw_Mo_findWindow_134 FU l0 (0 : Int32) M)
      · skip
        exact B_vret rfl
  · skip
    refine B_aload_n rfl ?_
    refine B_chk (fun t2 => ?_)
    refine K_getR 11 38 2238 lf_Mo_63 rfl rfl t2 (fun a3 r4 => ?_)
    refine B_iload_n rfl ?_
    refine B_chk (fun t5 => ?_)
    refine K_zald t5 ?_
    refine B_eq (tgt := 110) (by decide) ?_ ?_
    · skip
      exact V_weak (ls' := [some (.ref l0), some (.int l1)]) ⟨rfl, ⟨rfl, trivial⟩⟩ (t_Mo_findWindow_110 hk56 l0 l1 M)
    · skip
      refine B_aload_n rfl ?_
      refine B_iload_n rfl ?_
      refine C_I (vs := [.ref l0, .int l1]) (st := []) (ci_V lv_Mo_232 rfl rfl t2) rfl rfl rfl (s_Mo_hasMouse l0 l1 M) (fun v7 M6 => ?_)
      refine B_eq (tgt := 110) (by decide) ?_ ?_
      · skip
        exact V_weak (ls' := [some (.ref l0), some (.int l1)]) ⟨rfl, ⟨rfl, trivial⟩⟩ (t_Mo_findWindow_110 hk56 l0 l1 M6)
      · skip
        refine B_aload_n rfl ?_
        refine B_chk (fun t8 => ?_)
        refine K_getI 11 23 2223 lf_Mo_26 rfl rfl t8 ?_
        refine B_iconst (-1 : Int32) ic_m1 ?_
        refine B_ieq (tgt := 105) (by decide) ?_ ?_
        · skip
          exact V_weak (ls' := [some (.ref l0), some (.int l1)]) ⟨rfl, ⟨rfl, trivial⟩⟩ (t_Mo_findWindow_105 hk56 l0 l1 M6)
        · skip
          refine B_aload_n rfl ?_
          refine K_getR 11 35 2235 lf_Mo_54 rfl rfl t8 (fun a9 r10 => ?_)
          refine B_iload_n rfl ?_
          refine B_chk (fun t11 => ?_)
          refine K_iald t11 ?_
          refine B_aload_n rfl ?_
          refine K_getRk 11 35 2235 lf_Mo_54 rfl rfl t8 r10 ?_
          refine B_aload_n rfl ?_
          refine K_getI 11 23 2223 lf_Mo_26 rfl rfl t8 ?_
          refine K_iald t11 ?_
          refine B_ile (tgt := 110) (by decide) ?_ ?_
          · skip
            exact V_weak (ls' := [some (.ref l0), some (.int l1)]) ⟨rfl, ⟨rfl, trivial⟩⟩ (t_Mo_findWindow_110 hk56 l0 l1 M6)
          · skip
            refine V_close ?_
            exact V_weak (ls' := [some (.ref l0), some (.int l1)]) ⟨rfl, ⟨rfl, trivial⟩⟩ (t_Mo_findWindow_105 hk56 l0 l1 M6)
set_option maxRecDepth 100000 in
def w_Mo_findWindow_56 (G : GT) : Nat → Nat → Int32 → PH → Option (PH)
  | 0 => fun _ _ _ => none
  | n + 1 => b_Mo_findWindow_56 G (w_Mo_findWindow_56 G n)
set_option maxRecDepth 100000 in
set_option maxHeartbeats 4000000 in
theorem tw_Mo_findWindow_56 {G : GT} : ∀ (n : Nat) (l0 : Nat) (l1 : Int32) (M : PH), VX G mi_Mo_findWindow 2 33 56 [some (.ref l0), some (.int l1)] [] M qV (w_Mo_findWindow_56 G n l0 l1 M)
  | 0, _, _, _ => X_none
  | n + 1, l0, l1, M => t_Mo_findWindow_56 (tw_Mo_findWindow_56 n) l0 l1 M
set_option maxRecDepth 100000 in
def b_Mo_findWindow_54 (G : GT) (l0 : Nat) (M : PH) : Option (PH) :=
  w_Mo_findWindow_56 G FU l0 (0 : Int32) M
set_option maxRecDepth 100000 in
set_option maxHeartbeats 4000000 in
theorem t_Mo_findWindow_54 {G : GT} (l0 : Nat) (M : PH) : VX G mi_Mo_findWindow 2 33 54 [some (.ref l0), none] [] M qV (b_Mo_findWindow_54 G l0 M) := by
  unfold b_Mo_findWindow_54
  refine V_open ok_Mo_findWindow_54 ?_
  refine B_iconst (0 : Int32) ic_0 ?_
  refine S_in [some (.ref l0), some (.int (0 : Int32))] (by decide) rfl ?_
  refine V_close ?_
  exact V_weak (ls' := [some (.ref l0), some (.int (0 : Int32))]) ⟨rfl, ⟨rfl, trivial⟩⟩ (tw_Mo_findWindow_56 FU l0 (0 : Int32) M)
set_option maxRecDepth 100000 in
def f_Mo_findWindow (G : GT) (l0 : Nat) (M : PH) : Option (PH) :=
  if hT M l0 = 11 then hb (sI M 2223 l0 (-1 : Int32)) fun M3 => if hI M3 2240 l0 = (-1 : Int32) then (b_Mo_findWindow_54 G l0 M3) else ((hR M3 2238 l0).bind fun a5 => if hT M3 a5 = 17 then if 8 < hN M3 a5 then if hA M3 a5 8 = 0 then (b_Mo_findWindow_54 G l0 M3) else (bI (f_Mo_hasMouse G l0 (8 : Int32) M3) fun v9 M8 => (if v9 = 0 then (if hT M8 l0 = 11 then if hI M8 2213 l0 = 0 then (some M8) else (hb (sI M8 2240 l0 (-1 : Int32)) fun M12 => some M12) else none) else (if hT M8 l0 = 11 then hb (sI M8 2223 l0 (8 : Int32)) fun M15 => some M15 else none))) else none else none) else none
set_option maxRecDepth 100000 in
set_option maxHeartbeats 4000000 in
theorem s_Mo_findWindow {G : GT} (l0 : Nat) (M : PH) : VX G mi_Mo_findWindow 2 33 0 [some (.ref l0), none] [] M qV (f_Mo_findWindow G l0 M) := by
  unfold f_Mo_findWindow
  refine V_open ok_Mo_findWindow_0 ?_
  refine B_aload_n rfl ?_
  refine B_iconst (-1 : Int32) ic_m1 ?_
  refine B_chk (fun t1 => ?_)
  refine K_putI 11 23 2223 lf_Mo_26 rfl (Or.inl rfl) rfl t1 (fun M3 e2 => ?_)
  refine B_aload_n rfl ?_
  have h4 : hT M3 l0 = 11 := by rw [e2]; exact t1
  refine K_getI 11 40 2240 lf_Mo_69 rfl rfl h4 ?_
  refine B_iconst (-1 : Int32) ic_m1 ?_
  refine B_ieq (tgt := 54) (by decide) ?_ ?_
  · skip
    exact V_weak (ls' := [some (.ref l0), none]) ⟨rfl, trivial⟩ (t_Mo_findWindow_54 l0 M3)
  · skip
    refine B_aload_n rfl ?_
    refine K_getR 11 38 2238 lf_Mo_63 rfl rfl h4 (fun a5 r6 => ?_)
    refine B_bipush (8 : Int32) bp_8 ?_
    refine B_chk (fun t7 => ?_)
    refine K_zaldc 8 rfl t7 ?_
    refine B_eq (tgt := 54) (by decide) ?_ ?_
    · skip
      exact V_weak (ls' := [some (.ref l0), none]) ⟨rfl, trivial⟩ (t_Mo_findWindow_54 l0 M3)
    · skip
      refine B_aload_n rfl ?_
      refine B_bipush (8 : Int32) bp_8 ?_
      refine C_I (vs := [.ref l0, .int (8 : Int32)]) (st := []) (ci_V lv_Mo_232 rfl rfl h4) rfl rfl rfl (s_Mo_hasMouse l0 (8 : Int32) M3) (fun v9 M8 => ?_)
      refine B_eq (tgt := 41) (by decide) ?_ ?_
      · skip
        refine V_open ok_Mo_findWindow_41 ?_
        refine B_aload_n rfl ?_
        refine B_chk (fun t10 => ?_)
        refine K_getI 11 13 2213 lf_Mo_202 rfl rfl t10 ?_
        refine B_eq (tgt := 53) (by decide) ?_ ?_
        · skip
          refine V_open ok_Mo_findWindow_53 ?_
          exact B_vret rfl
        · skip
          refine B_aload_n rfl ?_
          refine B_iconst (-1 : Int32) ic_m1 ?_
          refine K_putI 11 40 2240 lf_Mo_69 rfl (Or.inl rfl) rfl t10 (fun M12 e11 => ?_)
          exact B_vret rfl
      · skip
        refine B_aload_n rfl ?_
        refine B_bipush (8 : Int32) bp_8 ?_
        refine B_chk (fun t13 => ?_)
        refine K_putI 11 23 2223 lf_Mo_26 rfl (Or.inl rfl) rfl t13 (fun M15 e14 => ?_)
        refine B_goto (tgt := 53) (by decide) ?_
        refine V_open ok_Mo_findWindow_53 ?_
        exact B_vret rfl

-- Mo_begin
theorem ok_Mo_begin_0 : okb prog_13_method_18_code 0 [(.aload_n 0, 1), (.iconst 0, 1), (.putfield 175, 3), (.aload_n 0, 1), (.getfield 236, 3), (.ifCond .eq 8, 3), (.aload_n 0, 1), (.invokevirtual 239, 3), (.ireturn, 1)] = true := by decide +kernel
theorem ok_Mo_begin_17 : okb prog_13_method_18_code 17 [(.aload_n 0, 1), (.invokevirtual 243, 3), (.istore_n 1, 1), (.aload_n 0, 1), (.iconst 1, 1), (.putfield 236, 3), (.iconst 0, 1), (.istore_n 2, 1)] = true := by decide +kernel
theorem ok_Mo_begin_29 : okb prog_13_method_18_code 29 [(.iload_n 2, 1), (.bipush 9, 2), (.if_icmp .ge 28, 3), (.aload_n 0, 1), (.getfield 63, 3), (.iload_n 2, 1), (.aload_n 0, 1), (.getfield 60, 3), (.iload_n 2, 1), (.baload, 1), (.bastore, 1), (.aload_n 0, 1), (.getfield 60, 3), (.iload_n 2, 1), (.iconst 0, 1), (.bastore, 1), (.iinc 2 1, 3), (.goto (-28), 3)] = true := by decide +kernel
theorem ok_Mo_begin_60 : okb prog_13_method_18_code 60 [(.aload_n 0, 1), (.aload_n 0, 1), (.getfield 246, 3), (.putfield 249, 3), (.iconst 0, 1), (.istore_n 2, 1)] = true := by decide +kernel
theorem ok_Mo_begin_70 : okb prog_13_method_18_code 70 [(.iload_n 2, 1), (.bipush 8, 2), (.if_icmp .ge 21, 3), (.aload_n 0, 1), (.getfield 78, 3), (.iload_n 2, 1), (.aload_n 0, 1), (.getfield 72, 3), (.iload_n 2, 1), (.iaload, 1), (.iastore, 1), (.iinc 2 1, 3), (.goto (-21), 3)] = true := by decide +kernel
theorem ok_Mo_begin_94 : okb prog_13_method_18_code 94 [(.iconst 0, 1), (.istore_n 2, 1)] = true := by decide +kernel
theorem ok_Mo_begin_96 : okb prog_13_method_18_code 96 [(.iload_n 2, 1), (.bipush 32, 2), (.if_icmp .ge 21, 3), (.aload_n 0, 1), (.getfield 81, 3), (.iload_n 2, 1), (.aload_n 0, 1), (.getfield 75, 3), (.iload_n 2, 1), (.iaload, 1), (.iastore, 1), (.iinc 2 1, 3), (.goto (-21), 3)] = true := by decide +kernel
theorem ok_Mo_begin_120 : okb prog_13_method_18_code 120 [(.aload_n 0, 1), (.iconst 0, 1), (.putfield 246, 3), (.aload_n 0, 1), (.invokevirtual 252, 3), (.aload_n 0, 1), (.getfield 255, 3), (.sipush 1000, 3), (.if_icmp .lt 77, 3), (.aload_n 0, 1), (.getfield 255, 3), (.sipush 1008, 3), (.if_icmp .ge 67, 3), (.aload_n 0, 1), (.getfield 198, 3), (.ifCond .eq 60, 3), (.aload_n 0, 1), (.getfield 202, 3), (.ifCond .ne 53, 3), (.aload_n 0, 1), (.getfield 36, 3), (.aload_n 0, 1), (.getfield 255, 3), (.sipush 1000, 3), (.isub, 1), (.dup2, 1), (.iaload, 1), (.aload_n 0, 1), (.getfield 192, 3), (.aload_n 0, 1), (.getfield 258, 3), (.isub, 1), (.iadd, 1), (.iastore, 1), (.aload_n 0, 1), (.getfield 39, 3), (.aload_n 0, 1), (.getfield 255, 3), (.sipush 1000, 3), (.isub, 1), (.dup2, 1), (.iaload, 1), (.aload_n 0, 1), (.getfield 195, 3), (.aload_n 0, 1), (.getfield 261, 3), (.isub, 1), (.iadd, 1), (.iastore, 1)] = true := by decide +kernel
theorem ok_Mo_begin_213 : okb prog_13_method_18_code 213 [(.aload_n 0, 1), (.aload_n 0, 1), (.getfield 192, 3), (.putfield 258, 3), (.aload_n 0, 1), (.aload_n 0, 1), (.getfield 195, 3), (.putfield 261, 3), (.aload_n 0, 1), (.iconst (-1), 1), (.putfield 90, 3), (.iconst 0, 1), (.istore_n 2, 1)] = true := by decide +kernel
theorem ok_Mo_begin_236 : okb prog_13_method_18_code 236 [(.iload_n 2, 1), (.aload_n 0, 1), (.getfield 249, 3), (.if_icmp .ge 88, 3), (.aload_n 0, 1), (.getfield 26, 3), (.iconst (-1), 1), (.if_icmp .eq 74, 3), (.aload_n 0, 1), (.getfield 78, 3), (.iload_n 2, 1), (.iaload, 1), (.aload_n 0, 1), (.getfield 26, 3), (.if_icmp .ne 61, 3), (.aload_n 0, 1), (.aload_n 0, 1), (.getfield 192, 3), (.aload_n 0, 1), (.getfield 195, 3), (.aload_n 0, 1), (.getfield 81, 3), (.iconst 4, 1), (.iload_n 2, 1), (.imul, 1), (.iaload, 1), (.aload_n 0, 1), (.getfield 81, 3), (.iconst 4, 1), (.iload_n 2, 1), (.imul, 1), (.iconst 1, 1), (.iadd, 1), (.iaload, 1), (.aload_n 0, 1), (.getfield 81, 3), (.iconst 4, 1), (.iload_n 2, 1), (.imul, 1), (.iconst 2, 1), (.iadd, 1), (.iaload, 1), (.aload_n 0, 1), (.getfield 81, 3), (.iconst 4, 1), (.iload_n 2, 1), (.imul, 1), (.iconst 3, 1), (.iadd, 1), (.iaload, 1), (.invokevirtual 228, 3), (.ifCond .eq 8, 3), (.aload_n 0, 1), (.iload_n 2, 1), (.putfield 90, 3)] = true := by decide +kernel
theorem ok_Mo_begin_323 : okb prog_13_method_18_code 323 [(.iinc 2 1, 3), (.goto (-90), 3)] = true := by decide +kernel
theorem ok_Mo_begin_329 : okb prog_13_method_18_code 329 [(.aload_n 0, 1), (.iconst 0, 1), (.putfield 264, 3), (.aload_n 0, 1), (.iconst 0, 1), (.putfield 267, 3), (.aload_n 0, 1), (.iconst 0, 1), (.putfield 270, 3), (.aload_n 0, 1), (.iconst 0, 1), (.putfield 273, 3), (.aload_n 0, 1), (.iconst 0, 1), (.putfield 276, 3), (.aload_n 0, 1), (.iconst 0, 1), (.putfield 279, 3), (.aload_n 0, 1), (.iconst 0, 1), (.putfield 282, 3), (.aload_n 0, 1), (.iconst 0, 1), (.putfield 285, 3), (.aload_n 0, 1), (.iconst 0, 1), (.putfield 288, 3), (.aload_n 0, 1), (.iconst (-1), 1), (.putfield 144, 3), (.iload_n 1, 1), (.ireturn, 1)] = true := by decide +kernel
set_option maxRecDepth 100000 in
def b_Mo_begin_323 (G : GT) (k236 : Nat → Int32 → Int32 → PH → Option (Int32 × PH)) (l0 : Nat) (l1 : Int32) (l2 : Int32) (M : PH) : Option (Int32 × PH) :=
  k236 l0 l1 (l2 + (1 : Int32)) M
set_option maxRecDepth 100000 in
set_option maxHeartbeats 4000000 in
theorem t_Mo_begin_323 {G : GT} {k236 : Nat → Int32 → Int32 → PH → Option (Int32 × PH)} (hk236 : ∀ (l0 : Nat) (l1 : Int32) (l2 : Int32) (M : PH), VX G mi_Mo_begin 3 46 236 [some (.ref l0), some (.int l1), some (.int l2)] [] M qI (k236 l0 l1 l2 M)) (l0 : Nat) (l1 : Int32) (l2 : Int32) (M : PH) : VX G mi_Mo_begin 3 46 323 [some (.ref l0), some (.int l1), some (.int l2)] [] M qI (b_Mo_begin_323 G k236 l0 l1 l2 M) := by
  unfold b_Mo_begin_323
  refine V_open ok_Mo_begin_323 ?_
  refine S_inc (1 : Int32) [some (.ref l0), some (.int l1), some (.int (l2 + (1 : Int32)))] ic_1 rfl (by decide) rfl ?_
  refine B_goto (tgt := 236) (by decide) ?_
  exact V_weak (ls' := [some (.ref l0), some (.int l1), some (.int (l2 + (1 : Int32)))]) ⟨rfl, ⟨rfl, ⟨rfl, trivial⟩⟩⟩ (hk236 l0 l1 (l2 + (1 : Int32)) M)
set_option maxRecDepth 100000 in
def b_Mo_begin_236 (G : GT) (k236 : Nat → Int32 → Int32 → PH → Option (Int32 × PH)) (l0 : Nat) (l1 : Int32) (l2 : Int32) (M : PH) : Option (Int32 × PH) :=
  if hT M l0 = 11 then if hI M 2249 l0 ≤ l2 then (hb (sI M 2220 l0 (0 : Int32)) fun M3 => hb (sI M3 2225 l0 (0 : Int32)) fun M6 => hb (sI M6 2227 l0 (0 : Int32)) fun M9 => hb (sI M9 2228 l0 (0 : Int32)) fun M12 => hb (sI M12 2241 l0 (0 : Int32)) fun M15 => hb (sI M15 2256 l0 (0 : Int32)) fun M18 => hb (sI M18 2258 l0 (0 : Int32)) fun M21 => hb (sI M21 2270 l0 (0 : Int32)) fun M24 => hb (sI M24 2282 l0 (0 : Int32)) fun M27 => hb (sI M27 2271 l0 (-1 : Int32)) fun M30 => some (l1, M30)) else (if hI M 2223 l0 = (-1 : Int32) then (b_Mo_begin_323 G k236 l0 l1 l2 M) else ((hR M 2244 l0).bind fun a31 => if hT M a31 = 16 then if ib l2 (hN M a31) = true then if ¬ hA M a31 l2.toNatClampNeg = hI M 2223 l0 then (b_Mo_begin_323 G k236 l0 l1 l2 M) else ((hR M 2245 l0).bind fun a34 => if hT M a34 = 16 then if ib ((4 : Int32) * l2) (hN M a34) = true then if ib (((4 : Int32) * l2) + (1 : Int32)) (hN M a34) = true then if ib (((4 : Int32) * l2) + (2 : Int32)) (hN M a34) = true then if ib (((4 : Int32) * l2) + (3 : Int32)) (hN M a34) = true then bI (f_Mo_isIn G l0 (hI M 2203 l0) (hI M 2204 l0) (hA M a34 ((4 : Int32) * l2).toNatClampNeg) (hA M a34 (((4 : Int32) * l2) + (1 : Int32)).toNatClampNeg) (hA M a34 (((4 : Int32) * l2) + (2 : Int32)).toNatClampNeg) (hA M a34 (((4 : Int32) * l2) + (3 : Int32)).toNatClampNeg) M) fun v38 M37 => (if v38 = 0 then (b_Mo_begin_323 G k236 l0 l1 l2 M37) else (if hT M37 l0 = 11 then hb (sI M37 2250 l0 l2) fun M41 => b_Mo_begin_323 G k236 l0 l1 l2 M41 else none)) else none else none else none else none else none) else none else none)) else none
set_option maxRecDepth 100000 in
set_option maxHeartbeats 4000000 in
theorem t_Mo_begin_236 {G : GT} {k236 : Nat → Int32 → Int32 → PH → Option (Int32 × PH)} (hk236 : ∀ (l0 : Nat) (l1 : Int32) (l2 : Int32) (M : PH), VX G mi_Mo_begin 3 46 236 [some (.ref l0), some (.int l1), some (.int l2)] [] M qI (k236 l0 l1 l2 M)) (l0 : Nat) (l1 : Int32) (l2 : Int32) (M : PH) : VX G mi_Mo_begin 3 46 236 [some (.ref l0), some (.int l1), some (.int l2)] [] M qI (b_Mo_begin_236 G k236 l0 l1 l2 M) := by
  unfold b_Mo_begin_236
  refine V_open ok_Mo_begin_236 ?_
  refine B_iload_n rfl ?_
  refine B_aload_n rfl ?_
  refine B_chk (fun t1 => ?_)
  refine K_getI 11 49 2249 lf_Mo_249 rfl rfl t1 ?_
  refine B_ige (tgt := 329) (by decide) ?_ ?_
  · skip
    refine V_open ok_Mo_begin_329 ?_
    refine B_aload_n rfl ?_
    refine B_iconst (0 : Int32) ic_0 ?_
    refine K_putI 11 20 2220 lf_Mo_264 rfl (Or.inl rfl) rfl t1 (fun M3 e2 => ?_)
    refine B_aload_n rfl ?_
    refine B_iconst (0 : Int32) ic_0 ?_
    have h4 : hT M3 l0 = 11 := by rw [e2]; exact t1
    refine K_putI 11 25 2225 lf_Mo_267 rfl (Or.inl rfl) rfl h4 (fun M6 e5 => ?_)
    refine B_aload_n rfl ?_
    refine B_iconst (0 : Int32) ic_0 ?_
    have h7 : hT M6 l0 = 11 := by rw [e5]; exact h4
    refine K_putI 11 27 2227 lf_Mo_270 rfl (Or.inl rfl) rfl h7 (fun M9 e8 => ?_)
    refine B_aload_n rfl ?_
    refine B_iconst (0 : Int32) ic_0 ?_
    have h10 : hT M9 l0 = 11 := by rw [e8]; exact h7
    refine K_putZ 11 28 2228 lf_Mo_273 rfl (Or.inl rfl) rfl h10 (Or.inl rfl) (fun M12 e11 => ?_)
    refine B_aload_n rfl ?_
    refine B_iconst (0 : Int32) ic_0 ?_
    have h13 : hT M12 l0 = 11 := by rw [e11]; exact h10
    refine K_putZ 11 41 2241 lf_Mo_276 rfl (Or.inl rfl) rfl h13 (Or.inl rfl) (fun M15 e14 => ?_)
    refine B_aload_n rfl ?_
    refine B_iconst (0 : Int32) ic_0 ?_
    have h16 : hT M15 l0 = 11 := by rw [e14]; exact h13
    refine K_putI 11 56 2256 lf_Mo_279 rfl (Or.inl rfl) rfl h16 (fun M18 e17 => ?_)
    refine B_aload_n rfl ?_
    refine B_iconst (0 : Int32) ic_0 ?_
    have h19 : hT M18 l0 = 11 := by rw [e17]; exact h16
    refine K_putI 11 58 2258 lf_Mo_282 rfl (Or.inl rfl) rfl h19 (fun M21 e20 => ?_)
    refine B_aload_n rfl ?_
    refine B_iconst (0 : Int32) ic_0 ?_
    have h22 : hT M21 l0 = 11 := by rw [e20]; exact h19
    refine K_putI 11 70 2270 lf_Mo_285 rfl (Or.inl rfl) rfl h22 (fun M24 e23 => ?_)
    refine B_aload_n rfl ?_
    refine B_iconst (0 : Int32) ic_0 ?_
    have h25 : hT M24 l0 = 11 := by rw [e23]; exact h22
    refine K_putI 11 82 2282 lf_Mo_288 rfl (Or.inl rfl) rfl h25 (fun M27 e26 => ?_)
    refine B_aload_n rfl ?_
    refine B_iconst (-1 : Int32) ic_m1 ?_
    have h28 : hT M27 l0 = 11 := by rw [e26]; exact h25
    refine K_putI 11 71 2271 lf_Mo_144 rfl (Or.inl rfl) rfl h28 (fun M30 e29 => ?_)
    refine B_iload_n rfl ?_
    exact B_iret rfl
  · skip
    refine B_aload_n rfl ?_
    refine K_getI 11 23 2223 lf_Mo_26 rfl rfl t1 ?_
    refine B_iconst (-1 : Int32) ic_m1 ?_
    refine B_ieq (tgt := 323) (by decide) ?_ ?_
    · skip
      exact V_weak (ls' := [some (.ref l0), some (.int l1), some (.int l2)]) ⟨rfl, ⟨rfl, ⟨rfl, trivial⟩⟩⟩ (t_Mo_begin_323 hk236 l0 l1 l2 M)
    · skip
      refine B_aload_n rfl ?_
      refine K_getR 11 44 2244 lf_Mo_78 rfl rfl t1 (fun a31 r32 => ?_)
      refine B_iload_n rfl ?_
      refine B_chk (fun t33 => ?_)
      refine K_iald t33 ?_
      refine B_aload_n rfl ?_
      refine K_getI 11 23 2223 lf_Mo_26 rfl rfl t1 ?_
      refine B_ine (tgt := 323) (by decide) ?_ ?_
      · skip
        exact V_weak (ls' := [some (.ref l0), some (.int l1), some (.int l2)]) ⟨rfl, ⟨rfl, ⟨rfl, trivial⟩⟩⟩ (t_Mo_begin_323 hk236 l0 l1 l2 M)
      · skip
        refine B_aload_n rfl ?_
        refine B_aload_n rfl ?_
        refine K_getI 11 3 2203 lf_Mo_192 rfl rfl t1 ?_
        refine B_aload_n rfl ?_
        refine K_getI 11 4 2204 lf_Mo_195 rfl rfl t1 ?_
        refine B_aload_n rfl ?_
        refine K_getR 11 45 2245 lf_Mo_81 rfl rfl t1 (fun a34 r35 => ?_)
        refine B_iconst (4 : Int32) ic_4 ?_
        refine B_iload_n rfl ?_
        refine B_imul ?_
        refine B_chk (fun t36 => ?_)
        refine K_iald t36 ?_
        refine B_aload_n rfl ?_
        refine K_getRk 11 45 2245 lf_Mo_81 rfl rfl t1 r35 ?_
        refine B_iconst (4 : Int32) ic_4 ?_
        refine B_iload_n rfl ?_
        refine B_imul ?_
        refine B_iconst (1 : Int32) ic_1 ?_
        refine B_iadd ?_
        refine K_iald t36 ?_
        refine B_aload_n rfl ?_
        refine K_getRk 11 45 2245 lf_Mo_81 rfl rfl t1 r35 ?_
        refine B_iconst (4 : Int32) ic_4 ?_
        refine B_iload_n rfl ?_
        refine B_imul ?_
        refine B_iconst (2 : Int32) ic_2 ?_
        refine B_iadd ?_
        refine K_iald t36 ?_
        refine B_aload_n rfl ?_
        refine K_getRk 11 45 2245 lf_Mo_81 rfl rfl t1 r35 ?_
        refine B_iconst (4 : Int32) ic_4 ?_
        refine B_iload_n rfl ?_
        refine B_imul ?_
        refine B_iconst (3 : Int32) ic_3 ?_
        refine B_iadd ?_
        refine K_iald t36 ?_
        refine C_I (vs := [.ref l0, .int (hI M 2203 l0), .int (hI M 2204 l0), .int (hA M a34 ((4 : Int32) * l2).toNatClampNeg), .int (hA M a34 (((4 : Int32) * l2) + (1 : Int32)).toNatClampNeg), .int (hA M a34 (((4 : Int32) * l2) + (2 : Int32)).toNatClampNeg), .int (hA M a34 (((4 : Int32) * l2) + (3 : Int32)).toNatClampNeg)]) (st := []) (ci_V lv_Mo_228 rfl rfl t1) rfl rfl rfl (s_Mo_isIn l0 (hI M 2203 l0) (hI M 2204 l0) (hA M a34 ((4 : Int32) * l2).toNatClampNeg) (hA M a34 (((4 : Int32) * l2) + (1 : Int32)).toNatClampNeg) (hA M a34 (((4 : Int32) * l2) + (2 : Int32)).toNatClampNeg) (hA M a34 (((4 : Int32) * l2) + (3 : Int32)).toNatClampNeg) M) (fun v38 M37 => ?_)
        refine B_eq (tgt := 323) (by decide) ?_ ?_
        · skip
          exact V_weak (ls' := [some (.ref l0), some (.int l1), some (.int l2)]) ⟨rfl, ⟨rfl, ⟨rfl, trivial⟩⟩⟩ (t_Mo_begin_323 hk236 l0 l1 l2 M37)
        · skip
          refine B_aload_n rfl ?_
          refine B_iload_n rfl ?_
          refine B_chk (fun t39 => ?_)
          refine K_putI 11 50 2250 lf_Mo_90 rfl (Or.inl rfl) rfl t39 (fun M41 e40 => ?_)
          refine V_close ?_
          exact V_weak (ls' := [some (.ref l0), some (.int l1), some (.int l2)]) ⟨rfl, ⟨rfl, ⟨rfl, trivial⟩⟩⟩ (t_Mo_begin_323 hk236 l0 l1 l2 M41)
set_option maxRecDepth 100000 in
def w_Mo_begin_236 (G : GT) : Nat → Nat → Int32 → Int32 → PH → Option (Int32 × PH)
  | 0 => fun _ _ _ _ => none
  | n + 1 => b_Mo_begin_236 G (w_Mo_begin_236 G n)
set_option maxRecDepth 100000 in
set_option maxHeartbeats 4000000 in
theorem tw_Mo_begin_236 {G : GT} : ∀ (n : Nat) (l0 : Nat) (l1 : Int32) (l2 : Int32) (M : PH), VX G mi_Mo_begin 3 46 236 [some (.ref l0), some (.int l1), some (.int l2)] [] M qI (w_Mo_begin_236 G n l0 l1 l2 M)
  | 0, _, _, _, _ => X_none
  | n + 1, l0, l1, l2, M => t_Mo_begin_236 (tw_Mo_begin_236 n) l0 l1 l2 M
set_option maxRecDepth 100000 in
def b_Mo_begin_213 (G : GT) (l0 : Nat) (l1 : Int32) (M : PH) : Option (Int32 × PH) :=
  if hT M l0 = 11 then hb (sI M 2205 l0 (hI M 2203 l0)) fun M3 => hb (sI M3 2206 l0 (hI M3 2204 l0)) fun M6 => hb (sI M6 2250 l0 (-1 : Int32)) fun M9 => w_Mo_begin_236 G FU l0 l1 (0 : Int32) M9 else none
set_option maxRecDepth 100000 in
set_option maxHeartbeats 4000000 in
theorem t_Mo_begin_213 {G : GT} (l0 : Nat) (l1 : Int32) (M : PH) : VX G mi_Mo_begin 3 46 213 [some (.ref l0), some (.int l1), none] [] M qI (b_Mo_begin_213 G l0 l1 M) := by
  unfold b_Mo_begin_213
  refine V_open ok_Mo_begin_213 ?_
  refine B_aload_n rfl ?_
  refine B_aload_n rfl ?_
  refine B_chk (fun t1 => ?_)
  refine K_getI 11 3 2203 lf_Mo_192 rfl rfl t1 ?_
  refine K_putI 11 5 2205 lf_Mo_258 rfl (Or.inl rfl) rfl t1 (fun M3 e2 => ?_)
  refine B_aload_n rfl ?_
  refine B_aload_n rfl ?_
  have h4 : hT M3 l0 = 11 := by rw [e2]; exact t1
  refine K_getI 11 4 2204 lf_Mo_195 rfl rfl h4 ?_
  refine K_putI 11 6 2206 lf_Mo_261 rfl (Or.inl rfl) rfl h4 (fun M6 e5 => ?_)
  refine B_aload_n rfl ?_
  refine B_iconst (-1 : Int32) ic_m1 ?_
  have h7 : hT M6 l0 = 11 := by rw [e5]; exact h4
  refine K_putI 11 50 2250 lf_Mo_90 rfl (Or.inl rfl) rfl h7 (fun M9 e8 => ?_)
  refine B_iconst (0 : Int32) ic_0 ?_
  refine S_in [some (.ref l0), some (.int l1), some (.int (0 : Int32))] (by decide) rfl ?_
  refine V_close ?_
  exact V_weak (ls' := [some (.ref l0), some (.int l1), some (.int (0 : Int32))]) ⟨rfl, ⟨rfl, ⟨rfl, trivial⟩⟩⟩ (tw_Mo_begin_236 FU l0 l1 (0 : Int32) M9)
set_option maxRecDepth 100000 in
def b_Mo_begin_96 (G : GT) (k96 : Nat → Int32 → Int32 → PH → Option (Int32 × PH)) (l0 : Nat) (l1 : Int32) (l2 : Int32) (M : PH) : Option (Int32 × PH) :=
  if (32 : Int32) ≤ l2 then (if hT M l0 = 11 then hb (sI M 2248 l0 (0 : Int32)) fun M3 => bV (f_Mo_findWindow G l0 M3) fun M5 => (if hT M5 l0 = 11 then if hI M5 2219 l0 < (1000 : Int32) then (b_Mo_begin_213 G l0 l1 M5) else (if (1008 : Int32) ≤ hI M5 2219 l0 then (b_Mo_begin_213 G l0 l1 M5) else (if hI M5 2209 l0 = 0 then (b_Mo_begin_213 G l0 l1 M5) else (if ¬ hI M5 2213 l0 = 0 then (b_Mo_begin_213 G l0 l1 M5) else ((hR M5 2229 l0).bind fun a7 => if hT M5 a7 = 16 then if ib ((hI M5 2219 l0) - (1000 : Int32)) (hN M5 a7) = true then if ib ((hI M5 2219 l0) - (1000 : Int32)) (hN M5 a7) = true then hb (sA M5 a7 ((hI M5 2219 l0) - (1000 : Int32)).toNatClampNeg ((hA M5 a7 ((hI M5 2219 l0) - (1000 : Int32)).toNatClampNeg) + ((hI M5 2203 l0) - (hI M5 2205 l0)))) fun M11 => ((hR M11 2230 l0).bind fun a13 => if hT M11 a13 = 16 then if ib ((hI M11 2219 l0) - (1000 : Int32)) (hN M11 a13) = true then if ib ((hI M11 2219 l0) - (1000 : Int32)) (hN M11 a13) = true then hb (sA M11 a13 ((hI M11 2219 l0) - (1000 : Int32)).toNatClampNeg ((hA M11 a13 ((hI M11 2219 l0) - (1000 : Int32)).toNatClampNeg) + ((hI M11 2204 l0) - (hI M11 2206 l0)))) fun M17 => (b_Mo_begin_213 G l0 l1 M17) else none else none else none) else none else none else none)))) else none) else none) else (if hT M l0 = 11 then (hR M 2245 l0).bind fun a19 => (hR M 2243 l0).bind fun a21 => if hT M a21 = 16 then if ib l2 (hN M a21) = true then if hT M a19 = 16 then if ib l2 (hN M a19) = true then hb (sA M a19 l2.toNatClampNeg (hA M a21 l2.toNatClampNeg)) fun M26 => (k96 l0 l1 (l2 + (1 : Int32)) M26) else none else none else none else none else none)
set_option maxRecDepth 100000 in
set_option maxHeartbeats 4000000 in
theorem t_Mo_begin_96 {G : GT} {k96 : Nat → Int32 → Int32 → PH → Option (Int32 × PH)} (hk96 : ∀ (l0 : Nat) (l1 : Int32) (l2 : Int32) (M : PH), VX G mi_Mo_begin 3 46 96 [some (.ref l0), some (.int l1), some (.int l2)] [] M qI (k96 l0 l1 l2 M)) (l0 : Nat) (l1 : Int32) (l2 : Int32) (M : PH) : VX G mi_Mo_begin 3 46 96 [some (.ref l0), some (.int l1), some (.int l2)] [] M qI (b_Mo_begin_96 G k96 l0 l1 l2 M) := by
  unfold b_Mo_begin_96
  refine V_open ok_Mo_begin_96 ?_
  refine B_iload_n rfl ?_
  refine B_bipush (32 : Int32) bp_32 ?_
  refine B_ige (tgt := 120) (by decide) ?_ ?_
  · skip
    refine V_open ok_Mo_begin_120 ?_
    refine B_aload_n rfl ?_
    refine B_iconst (0 : Int32) ic_0 ?_
    refine B_chk (fun t1 => ?_)
    refine K_putI 11 48 2248 lf_Mo_246 rfl (Or.inl rfl) rfl t1 (fun M3 e2 => ?_)
    refine B_aload_n rfl ?_
    have h4 : hT M3 l0 = 11 := by rw [e2]; exact t1
    refine C_V (vs := [.ref l0]) (st := []) (ci_V lv_Mo_252 rfl rfl h4) rfl rfl rfl (s_Mo_findWindow l0 M3) (fun M5 => ?_)
    refine B_aload_n rfl ?_
    refine B_chk (fun t6 => ?_)
    refine K_getI 11 19 2219 lf_Mo_255 rfl rfl t6 ?_
    refine B_sipush (1000 : Int32) sp_1000 ?_
    refine B_ilt (tgt := 213) (by decide) ?_ ?_
    · skip
      exact V_weak (ls' := [some (.ref l0), some (.int l1), none]) ⟨rfl, ⟨rfl, trivial⟩⟩ (t_Mo_begin_213 l0 l1 M5)
    · skip
      refine B_aload_n rfl ?_
      refine K_getI 11 19 2219 lf_Mo_255 rfl rfl t6 ?_
      refine B_sipush (1008 : Int32) sp_1008 ?_
      refine B_ige (tgt := 213) (by decide) ?_ ?_
      · skip
        exact V_weak (ls' := [some (.ref l0), some (.int l1), none]) ⟨rfl, ⟨rfl, trivial⟩⟩ (t_Mo_begin_213 l0 l1 M5)
      · skip
        refine B_aload_n rfl ?_
        refine K_getI 11 9 2209 lf_Mo_198 rfl rfl t6 ?_
        refine B_eq (tgt := 213) (by decide) ?_ ?_
        · skip
          exact V_weak (ls' := [some (.ref l0), some (.int l1), none]) ⟨rfl, ⟨rfl, trivial⟩⟩ (t_Mo_begin_213 l0 l1 M5)
        · skip
          refine B_aload_n rfl ?_
          refine K_getI 11 13 2213 lf_Mo_202 rfl rfl t6 ?_
          refine B_ne (tgt := 213) (by decide) ?_ ?_
          · skip
            exact V_weak (ls' := [some (.ref l0), some (.int l1), none]) ⟨rfl, ⟨rfl, trivial⟩⟩ (t_Mo_begin_213 l0 l1 M5)
          · skip
            refine B_aload_n rfl ?_
            refine K_getR 11 29 2229 lf_Mo_36 rfl rfl t6 (fun a7 r8 => ?_)
            refine B_aload_n rfl ?_
            refine K_getI 11 19 2219 lf_Mo_255 rfl rfl t6 ?_
            refine B_sipush (1000 : Int32) sp_1000 ?_
            refine B_isub ?_
            refine B_dup2 rfl rfl ?_
            refine B_chk (fun t9 => ?_)
            refine K_iald t9 ?_
            refine B_aload_n rfl ?_
            refine K_getI 11 3 2203 lf_Mo_192 rfl rfl t6 ?_
            refine B_aload_n rfl ?_
            refine K_getI 11 5 2205 lf_Mo_258 rfl rfl t6 ?_
            refine B_isub ?_
            refine B_iadd ?_
            refine K_iast t9 (fun M11 e10 => ?_)
            refine B_aload_n rfl ?_
            have h12 : hT M11 l0 = 11 := by rw [e10]; exact t6
            refine K_getR 11 30 2230 lf_Mo_39 rfl rfl h12 (fun a13 r14 => ?_)
            refine B_aload_n rfl ?_
            refine K_getI 11 19 2219 lf_Mo_255 rfl rfl h12 ?_
            refine B_sipush (1000 : Int32) sp_1000 ?_
            refine B_isub ?_
            refine B_dup2 rfl rfl ?_
            refine B_chk (fun t15 => ?_)
            refine K_iald t15 ?_
            refine B_aload_n rfl ?_
            refine K_getI 11 4 2204 lf_Mo_195 rfl rfl h12 ?_
            refine B_aload_n rfl ?_
            refine K_getI 11 6 2206 lf_Mo_261 rfl rfl h12 ?_
            refine B_isub ?_
            refine B_iadd ?_
            refine K_iast t15 (fun M17 e16 => ?_)
            refine V_close ?_
            exact V_weak (ls' := [some (.ref l0), some (.int l1), none]) ⟨rfl, ⟨rfl, trivial⟩⟩ (t_Mo_begin_213 l0 l1 M17)
  · skip
    refine B_aload_n rfl ?_
    refine B_chk (fun t18 => ?_)
    refine K_getR 11 45 2245 lf_Mo_81 rfl rfl t18 (fun a19 r20 => ?_)
    refine B_iload_n rfl ?_
    refine B_aload_n rfl ?_
    refine K_getR 11 43 2243 lf_Mo_75 rfl rfl t18 (fun a21 r22 => ?_)
    refine B_iload_n rfl ?_
    refine B_chk (fun t23 => ?_)
    refine K_iald t23 ?_
    refine B_chk (fun t24 => ?_)
    refine K_iast t24 (fun M26 e25 => ?_)
    refine S_inc (1 : Int32) [some (.ref l0), some (.int l1), some (.int (l2 + (1 : Int32)))] ic_1 rfl (by decide) rfl ?_
    refine B_goto (tgt := 96) (by decide) ?_
    exact V_weak (ls' := [some (.ref l0), some (.int l1), some (.int (l2 + (1 : Int32)))]) ⟨rfl, ⟨rfl, ⟨rfl, trivial⟩⟩⟩ (hk96 l0 l1 (l2 + (1 : Int32)) M26)
set_option maxRecDepth 100000 in
def w_Mo_begin_96 (G : GT) : Nat → Nat → Int32 → Int32 → PH → Option (Int32 × PH)
  | 0 => fun _ _ _ _ => none
  | n + 1 => b_Mo_begin_96 G (w_Mo_begin_96 G n)
set_option maxRecDepth 100000 in
set_option maxHeartbeats 4000000 in
theorem tw_Mo_begin_96 {G : GT} : ∀ (n : Nat) (l0 : Nat) (l1 : Int32) (l2 : Int32) (M : PH), VX G mi_Mo_begin 3 46 96 [some (.ref l0), some (.int l1), some (.int l2)] [] M qI (w_Mo_begin_96 G n l0 l1 l2 M)
  | 0, _, _, _, _ => X_none
  | n + 1, l0, l1, l2, M => t_Mo_begin_96 (tw_Mo_begin_96 n) l0 l1 l2 M
set_option maxRecDepth 100000 in
def b_Mo_begin_70 (G : GT) (k70 : Nat → Int32 → Int32 → PH → Option (Int32 × PH)) (l0 : Nat) (l1 : Int32) (l2 : Int32) (M : PH) : Option (Int32 × PH) :=
  if (8 : Int32) ≤ l2 then (w_Mo_begin_96 G FU l0 l1 (0 : Int32) M) else (if hT M l0 = 11 then (hR M 2244 l0).bind fun a2 => (hR M 2242 l0).bind fun a4 => if hT M a4 = 16 then if ib l2 (hN M a4) = true then if hT M a2 = 16 then if ib l2 (hN M a2) = true then hb (sA M a2 l2.toNatClampNeg (hA M a4 l2.toNatClampNeg)) fun M9 => (k70 l0 l1 (l2 + (1 : Int32)) M9) else none else none else none else none else none)
set_option maxRecDepth 100000 in
set_option maxHeartbeats 4000000 in
theorem t_Mo_begin_70 {G : GT} {k70 : Nat → Int32 → Int32 → PH → Option (Int32 × PH)} (hk70 : ∀ (l0 : Nat) (l1 : Int32) (l2 : Int32) (M : PH), VX G mi_Mo_begin 3 46 70 [some (.ref l0), some (.int l1), some (.int l2)] [] M qI (k70 l0 l1 l2 M)) (l0 : Nat) (l1 : Int32) (l2 : Int32) (M : PH) : VX G mi_Mo_begin 3 46 70 [some (.ref l0), some (.int l1), some (.int l2)] [] M qI (b_Mo_begin_70 G k70 l0 l1 l2 M) := by
  unfold b_Mo_begin_70
  refine V_open ok_Mo_begin_70 ?_
  refine B_iload_n rfl ?_
  refine B_bipush (8 : Int32) bp_8 ?_
  refine B_ige (tgt := 94) (by decide) ?_ ?_
  · skip
    refine V_open ok_Mo_begin_94 ?_
    refine B_iconst (0 : Int32) ic_0 ?_
    refine S_in [some (.ref l0), some (.int l1), some (.int (0 : Int32))] (by decide) rfl ?_
    refine V_close ?_
    exact V_weak (ls' := [some (.ref l0), some (.int l1), some (.int (0 : Int32))]) ⟨rfl, ⟨rfl, ⟨rfl, trivial⟩⟩⟩ (tw_Mo_begin_96 FU l0 l1 (0 : Int32) M)
  · skip
    refine B_aload_n rfl ?_
    refine B_chk (fun t1 => ?_)
    refine K_getR 11 44 2244 lf_Mo_78 rfl rfl t1 (fun a2 r3 => ?_)
    refine B_iload_n rfl ?_
    refine B_aload_n rfl ?_
    refine K_getR 11 42 2242 lf_Mo_72 rfl rfl t1 (fun a4 r5 => ?_)
    refine B_iload_n rfl ?_
    refine B_chk (fun t6 => ?_)
    refine K_iald t6 ?_
    refine B_chk (fun t7 => ?_)
    refine K_iast t7 (fun M9 e8 => ?_)
    refine S_inc (1 : Int32) [some (.ref l0), some (.int l1), some (.int (l2 + (1 : Int32)))] ic_1 rfl (by decide) rfl ?_
    refine B_goto (tgt := 70) (by decide) ?_
    exact V_weak (ls' := [some (.ref l0), some (.int l1), some (.int (l2 + (1 : Int32)))]) ⟨rfl, ⟨rfl, ⟨rfl, trivial⟩⟩⟩ (hk70 l0 l1 (l2 + (1 : Int32)) M9)
set_option maxRecDepth 100000 in
def w_Mo_begin_70 (G : GT) : Nat → Nat → Int32 → Int32 → PH → Option (Int32 × PH)
  | 0 => fun _ _ _ _ => none
  | n + 1 => b_Mo_begin_70 G (w_Mo_begin_70 G n)
set_option maxRecDepth 100000 in
set_option maxHeartbeats 4000000 in
theorem tw_Mo_begin_70 {G : GT} : ∀ (n : Nat) (l0 : Nat) (l1 : Int32) (l2 : Int32) (M : PH), VX G mi_Mo_begin 3 46 70 [some (.ref l0), some (.int l1), some (.int l2)] [] M qI (w_Mo_begin_70 G n l0 l1 l2 M)
  | 0, _, _, _, _ => X_none
  | n + 1, l0, l1, l2, M => t_Mo_begin_70 (tw_Mo_begin_70 n) l0 l1 l2 M
set_option maxRecDepth 100000 in
def b_Mo_begin_29 (G : GT) (k29 : Nat → Int32 → Int32 → PH → Option (Int32 × PH)) (l0 : Nat) (l1 : Int32) (l2 : Int32) (M : PH) : Option (Int32 × PH) :=
  if (9 : Int32) ≤ l2 then (if hT M l0 = 11 then hb (sI M 2249 l0 (hI M 2248 l0)) fun M3 => w_Mo_begin_70 G FU l0 l1 (0 : Int32) M3 else none) else (if hT M l0 = 11 then (hR M 2238 l0).bind fun a5 => (hR M 2237 l0).bind fun a7 => if hT M a7 = 17 then if ib l2 (hN M a7) = true then if hT M a5 = 17 then if (hA M a7 l2.toNatClampNeg) = 0 ∨ (hA M a7 l2.toNatClampNeg) = 1 then if ib l2 (hN M a5) = true then hb (sA M a5 l2.toNatClampNeg (hA M a7 l2.toNatClampNeg)) fun M13 => (if ib l2 (hN M13 a7) = true then hb (sA M13 a7 l2.toNatClampNeg (0 : Int32)) fun M18 => (k29 l0 l1 (l2 + (1 : Int32)) M18) else none) else none else none else none else none else none else none)
set_option maxRecDepth 100000 in
set_option maxHeartbeats 4000000 in
theorem t_Mo_begin_29 {G : GT} {k29 : Nat → Int32 → Int32 → PH → Option (Int32 × PH)} (hk29 : ∀ (l0 : Nat) (l1 : Int32) (l2 : Int32) (M : PH), VX G mi_Mo_begin 3 46 29 [some (.ref l0), some (.int l1), some (.int l2)] [] M qI (k29 l0 l1 l2 M)) (l0 : Nat) (l1 : Int32) (l2 : Int32) (M : PH) : VX G mi_Mo_begin 3 46 29 [some (.ref l0), some (.int l1), some (.int l2)] [] M qI (b_Mo_begin_29 G k29 l0 l1 l2 M) := by
  unfold b_Mo_begin_29
  refine V_open ok_Mo_begin_29 ?_
  refine B_iload_n rfl ?_
  refine B_bipush (9 : Int32) bp_9 ?_
  refine B_ige (tgt := 60) (by decide) ?_ ?_
  · skip
    refine V_open ok_Mo_begin_60 ?_
    refine B_aload_n rfl ?_
    refine B_aload_n rfl ?_
    refine B_chk (fun t1 => ?_)
    refine K_getI 11 48 2248 lf_Mo_246 rfl rfl t1 ?_
    refine K_putI 11 49 2249 lf_Mo_249 rfl (Or.inl rfl) rfl t1 (fun M3 e2 => ?_)
    refine B_iconst (0 : Int32) ic_0 ?_
    refine S_in [some (.ref l0), some (.int l1), some (.int (0 : Int32))] (by decide) rfl ?_
    refine V_close ?_
    exact V_weak (ls' := [some (.ref l0), some (.int l1), some (.int (0 : Int32))]) ⟨rfl, ⟨rfl, ⟨rfl, trivial⟩⟩⟩ (tw_Mo_begin_70 FU l0 l1 (0 : Int32) M3)
  · skip
    refine B_aload_n rfl ?_
    refine B_chk (fun t4 => ?_)
    refine K_getR 11 38 2238 lf_Mo_63 rfl rfl t4 (fun a5 r6 => ?_)
    refine B_iload_n rfl ?_
    refine B_aload_n rfl ?_
    refine K_getR 11 37 2237 lf_Mo_60 rfl rfl t4 (fun a7 r8 => ?_)
    refine B_iload_n rfl ?_
    refine B_chk (fun t9 => ?_)
    refine K_zald t9 ?_
    refine B_chk (fun t10 => ?_)
    refine B_chk (fun z11 => ?_)
    refine K_zast t10 z11 (fun M13 e12 => ?_)
    refine B_aload_n rfl ?_
    have h14 : hT M13 l0 = 11 := by rw [e12]; exact t4
    have h15 : hR M13 2237 l0 = some a7 := by rw [e12]; exact r8
    refine K_getRk 11 37 2237 lf_Mo_60 rfl rfl h14 h15 ?_
    refine B_iload_n rfl ?_
    refine B_iconst (0 : Int32) ic_0 ?_
    have h16 : hT M13 a7 = 17 := by rw [e12]; exact t9
    refine K_zast h16 (Or.inl rfl) (fun M18 e17 => ?_)
    refine S_inc (1 : Int32) [some (.ref l0), some (.int l1), some (.int (l2 + (1 : Int32)))] ic_1 rfl (by decide) rfl ?_
    refine B_goto (tgt := 29) (by decide) ?_
    exact V_weak (ls' := [some (.ref l0), some (.int l1), some (.int (l2 + (1 : Int32)))]) ⟨rfl, ⟨rfl, ⟨rfl, trivial⟩⟩⟩ (hk29 l0 l1 (l2 + (1 : Int32)) M18)
set_option maxRecDepth 100000 in
def w_Mo_begin_29 (G : GT) : Nat → Nat → Int32 → Int32 → PH → Option (Int32 × PH)
  | 0 => fun _ _ _ _ => none
  | n + 1 => b_Mo_begin_29 G (w_Mo_begin_29 G n)
set_option maxRecDepth 100000 in
set_option maxHeartbeats 4000000 in
theorem tw_Mo_begin_29 {G : GT} : ∀ (n : Nat) (l0 : Nat) (l1 : Int32) (l2 : Int32) (M : PH), VX G mi_Mo_begin 3 46 29 [some (.ref l0), some (.int l1), some (.int l2)] [] M qI (w_Mo_begin_29 G n l0 l1 l2 M)
  | 0, _, _, _, _ => X_none
  | n + 1, l0, l1, l2, M => t_Mo_begin_29 (tw_Mo_begin_29 n) l0 l1 l2 M
set_option maxRecDepth 100000 in
def f_Mo_begin (G : GT) (l0 : Nat) (M : PH) : Option (Int32 × PH) :=
  if hT M l0 = 11 then hb (sI M 2200 l0 (0 : Int32)) fun M3 => if hI M3 2218 l0 = 0 then (bI (f_Mo_takeAll G l0 M3) fun v6 M5 => (if hT M5 l0 = 11 then hb (sI M5 2218 l0 (1 : Int32)) fun M9 => w_Mo_begin_29 G FU l0 v6 (0 : Int32) M9 else none)) else (bI (f_Mo_breaks G l0 M3) fun v11 M10 => (some (v11, M10))) else none
set_option maxRecDepth 100000 in
set_option maxHeartbeats 4000000 in
theorem s_Mo_begin {G : GT} (l0 : Nat) (M : PH) : VX G mi_Mo_begin 3 46 0 [some (.ref l0), none, none] [] M qI (f_Mo_begin G l0 M) := by
  unfold f_Mo_begin
  refine V_open ok_Mo_begin_0 ?_
  refine B_aload_n rfl ?_
  refine B_iconst (0 : Int32) ic_0 ?_
  refine B_chk (fun t1 => ?_)
  refine K_putI 11 0 2200 lf_Mo_175 rfl (Or.inl rfl) rfl t1 (fun M3 e2 => ?_)
  refine B_aload_n rfl ?_
  have h4 : hT M3 l0 = 11 := by rw [e2]; exact t1
  refine K_getI 11 18 2218 lf_Mo_236 rfl rfl h4 ?_
  refine B_eq (tgt := 17) (by decide) ?_ ?_
  · skip
    refine V_open ok_Mo_begin_17 ?_
    refine B_aload_n rfl ?_
    refine C_I (vs := [.ref l0]) (st := []) (ci_V lv_Mo_243 rfl rfl h4) rfl rfl rfl (s_Mo_takeAll l0 M3) (fun v6 M5 => ?_)
    refine S_in [some (.ref l0), some (.int v6), none] (by decide) rfl ?_
    refine B_aload_n rfl ?_
    refine B_iconst (1 : Int32) ic_1 ?_
    refine B_chk (fun t7 => ?_)
    refine K_putZ 11 18 2218 lf_Mo_236 rfl (Or.inl rfl) rfl t7 (Or.inr rfl) (fun M9 e8 => ?_)
    refine B_iconst (0 : Int32) ic_0 ?_
    refine S_in [some (.ref l0), some (.int v6), some (.int (0 : Int32))] (by decide) rfl ?_
    refine V_close ?_
    exact V_weak (ls' := [some (.ref l0), some (.int v6), some (.int (0 : Int32))]) ⟨rfl, ⟨rfl, ⟨rfl, trivial⟩⟩⟩ (tw_Mo_begin_29 FU l0 v6 (0 : Int32) M9)
  · skip
    refine B_aload_n rfl ?_
    refine C_I (vs := [.ref l0]) (st := []) (ci_V lv_Mo_239 rfl rfl h4) rfl rfl rfl (s_Mo_breaks l0 M3) (fun v11 M10 => ?_)
    exact B_iret rfl

-- Mo_thrown
theorem ok_Mo_thrown_0 : okb prog_13_method_2_code 0 [(.aload_n 0, 1), (.getfield 175, 3), (.ireturn, 1)] = true := by decide +kernel
set_option maxRecDepth 100000 in
def f_Mo_thrown (G : GT) (l0 : Nat) (M : PH) : Option (Int32 × PH) :=
  if hT M l0 = 11 then some (hI M 2200 l0, M) else none
set_option maxRecDepth 100000 in
set_option maxHeartbeats 4000000 in
theorem s_Mo_thrown {G : GT} (l0 : Nat) (M : PH) : VX G mi_Mo_thrown 0 0 0 [some (.ref l0)] [] M qI (f_Mo_thrown G l0 M) := by
  unfold f_Mo_thrown
  refine V_open ok_Mo_thrown_0 ?_
  refine B_aload_n rfl ?_
  refine B_chk (fun t1 => ?_)
  refine K_getI 11 0 2200 lf_Mo_175 rfl rfl t1 ?_
  exact B_iret rfl

-- Att_end
theorem ok_Att_end_0 : okb prog_2_method_8_code 0 [(.aload_n 0, 1), (.getfield 23, 3), (.ifCond .eq 11, 3), (.aload_n 0, 1), (.aload_n 0, 1), (.getfield 20, 3), (.invokevirtual 16, 3)] = true := by decide +kernel
theorem ok_Att_end_15 : okb prog_2_method_8_code 15 [(.aload_n 0, 1), (.getfield 30, 3), (.ifCond .ne 8, 3), (.aload_n 0, 1), (.iconst 0, 1), (.putfield 7, 3)] = true := by decide +kernel
theorem ok_Att_end_27 : okb prog_2_method_8_code 27 [(.aload_n 0, 1), (.getfield 33, 3), (.ifCond .ne 8, 3), (.aload_n 0, 1), (.iconst 0, 1), (.invokevirtual 16, 3), (.return_, 1)] = true := by decide +kernel
theorem ok_Att_end_39 : okb prog_2_method_8_code 39 [(.return_, 1)] = true := by decide +kernel
set_option maxRecDepth 100000 in
def b_Att_end_27 (G : GT) (l0 : Nat) (M : PH) : Option (PH) :=
  if hT M l0 = 9 then if ¬ hI M 1808 l0 = 0 then (some M) else (bV (f_Att_focus G l0 (0 : Int32) M) fun M2 => (some M2)) else none
set_option maxRecDepth 100000 in
set_option maxHeartbeats 4000000 in
theorem t_Att_end_27 {G : GT} (l0 : Nat) (M : PH) : VX G mi_Att_end 1 13 27 [some (.ref l0)] [] M qV (b_Att_end_27 G l0 M) := by
  unfold b_Att_end_27
  refine V_open ok_Att_end_27 ?_
  refine B_aload_n rfl ?_
  refine B_chk (fun t1 => ?_)
  refine K_getI 9 8 1808 lf_Att_33 rfl rfl t1 ?_
  refine B_ne (tgt := 39) (by decide) ?_ ?_
  · skip
    refine V_open ok_Att_end_39 ?_
    exact B_vret rfl
  · skip
    refine B_aload_n rfl ?_
    refine B_iconst (0 : Int32) ic_0 ?_
    refine C_V (vs := [.ref l0, .int (0 : Int32)]) (st := []) (ci_V lv_Att_16 rfl rfl t1) rfl rfl rfl (s_Att_focus l0 (0 : Int32) M) (fun M2 => ?_)
    exact B_vret rfl
set_option maxRecDepth 100000 in
def b_Att_end_15 (G : GT) (l0 : Nat) (M : PH) : Option (PH) :=
  if hT M l0 = 9 then if ¬ hI M 1807 l0 = 0 then (b_Att_end_27 G l0 M) else (hb (sI M 1800 l0 (0 : Int32)) fun M3 => b_Att_end_27 G l0 M3) else none
set_option maxRecDepth 100000 in
set_option maxHeartbeats 4000000 in
theorem t_Att_end_15 {G : GT} (l0 : Nat) (M : PH) : VX G mi_Att_end 1 13 15 [some (.ref l0)] [] M qV (b_Att_end_15 G l0 M) := by
  unfold b_Att_end_15
  refine V_open ok_Att_end_15 ?_
  refine B_aload_n rfl ?_
  refine B_chk (fun t1 => ?_)
  refine K_getI 9 7 1807 lf_Att_30 rfl rfl t1 ?_
  refine B_ne (tgt := 27) (by decide) ?_ ?_
  · skip
    exact V_weak (ls' := [some (.ref l0)]) ⟨rfl, trivial⟩ (t_Att_end_27 l0 M)
  · skip
    refine B_aload_n rfl ?_
    refine B_iconst (0 : Int32) ic_0 ?_
    refine K_putI 9 0 1800 lf_Att_7 rfl (Or.inl rfl) rfl t1 (fun M3 e2 => ?_)
    refine V_close ?_
    exact V_weak (ls' := [some (.ref l0)]) ⟨rfl, trivial⟩ (t_Att_end_27 l0 M3)
set_option maxRecDepth 100000 in
def f_Att_end (G : GT) (l0 : Nat) (M : PH) : Option (PH) :=
  if hT M l0 = 9 then if hI M 1805 l0 = 0 then (b_Att_end_15 G l0 M) else (bV (f_Att_focus G l0 (hI M 1804 l0) M) fun M2 => (b_Att_end_15 G l0 M2)) else none
set_option maxRecDepth 100000 in
set_option maxHeartbeats 4000000 in
theorem s_Att_end {G : GT} (l0 : Nat) (M : PH) : VX G mi_Att_end 1 13 0 [some (.ref l0)] [] M qV (f_Att_end G l0 M) := by
  unfold f_Att_end
  refine V_open ok_Att_end_0 ?_
  refine B_aload_n rfl ?_
  refine B_chk (fun t1 => ?_)
  refine K_getI 9 5 1805 lf_Att_23 rfl rfl t1 ?_
  refine B_eq (tgt := 15) (by decide) ?_ ?_
  · skip
    exact V_weak (ls' := [some (.ref l0)]) ⟨rfl, trivial⟩ (t_Att_end_15 l0 M)
  · skip
    refine B_aload_n rfl ?_
    refine B_aload_n rfl ?_
    refine K_getI 9 4 1804 lf_Att_20 rfl rfl t1 ?_
    refine C_V (vs := [.ref l0, .int (hI M 1804 l0)]) (st := []) (ci_V lv_Att_16 rfl rfl t1) rfl rfl rfl (s_Att_focus l0 (hI M 1804 l0) M) (fun M2 => ?_)
    refine V_close ?_
    exact V_weak (ls' := [some (.ref l0)]) ⟨rfl, trivial⟩ (t_Att_end_15 l0 M2)

-- DrawList_clear
theorem ok_DrawList_clear_0 : okb prog_3_method_2_code 0 [(.aload_n 0, 1), (.getfield 10, 3), (.iconst 0, 1), (.putfield 22, 3), (.aload_n 0, 1), (.getfield 16, 3), (.iconst 0, 1), (.putfield 22, 3), (.aload_n 0, 1), (.getfield 19, 3), (.iconst 0, 1), (.putfield 22, 3), (.return_, 1)] = true := by decide +kernel
set_option maxRecDepth 100000 in
def f_DrawList_clear (G : GT) (l0 : Nat) (M : PH) : Option (PH) :=
  if hT M l0 = 4 then (hR M 800 l0).bind fun a2 => if hT M a2 = 0 then hb (sI M 1 a2 (0 : Int32)) fun M6 => (hR M6 801 l0).bind fun a8 => if hT M6 a8 = 0 then hb (sI M6 1 a8 (0 : Int32)) fun M12 => (hR M12 802 l0).bind fun a14 => if hT M12 a14 = 0 then hb (sI M12 1 a14 (0 : Int32)) fun M18 => some M18 else none else none else none else none
set_option maxRecDepth 100000 in
set_option maxHeartbeats 4000000 in
theorem s_DrawList_clear {G : GT} (l0 : Nat) (M : PH) : VX G mi_DrawList_clear 0 0 0 [some (.ref l0)] [] M qV (f_DrawList_clear G l0 M) := by
  unfold f_DrawList_clear
  refine V_open ok_DrawList_clear_0 ?_
  refine B_aload_n rfl ?_
  refine B_chk (fun t1 => ?_)
  refine K_getR 4 0 800 lf_DrawList_10 rfl rfl t1 (fun a2 r3 => ?_)
  refine B_iconst (0 : Int32) ic_0 ?_
  refine B_chk (fun t4 => ?_)
  refine K_putI 0 1 1 lf_DrawList_22 rfl (Or.inl rfl) rfl t4 (fun M6 e5 => ?_)
  refine B_aload_n rfl ?_
  have h7 : hT M6 l0 = 4 := by rw [e5]; exact t1
  refine K_getR 4 1 801 lf_DrawList_16 rfl rfl h7 (fun a8 r9 => ?_)
  refine B_iconst (0 : Int32) ic_0 ?_
  refine B_chk (fun t10 => ?_)
  refine K_putI 0 1 1 lf_DrawList_22 rfl (Or.inl rfl) rfl t10 (fun M12 e11 => ?_)
  refine B_aload_n rfl ?_
  have h13 : hT M12 l0 = 4 := by rw [e11]; exact h7
  refine K_getR 4 2 802 lf_DrawList_19 rfl rfl h13 (fun a14 r15 => ?_)
  refine B_iconst (0 : Int32) ic_0 ?_
  refine B_chk (fun t16 => ?_)
  refine K_putI 0 1 1 lf_DrawList_22 rfl (Or.inl rfl) rfl t16 (fun M18 e17 => ?_)
  exact B_vret rfl

-- DrawList_made
theorem ok_DrawList_made_0 : okb prog_3_method_3_code 0 [(.aload_n 0, 1), (.getfield 19, 3), (.getfield 22, 3), (.iconst 3, 1), (.idiv, 1), (.ireturn, 1)] = true := by decide +kernel
set_option maxRecDepth 100000 in
def f_DrawList_made (G : GT) (l0 : Nat) (M : PH) : Option (Int32 × PH) :=
  if hT M l0 = 4 then (hR M 802 l0).bind fun a2 => if hT M a2 = 0 then if (3 : Int32) = 0 then none else some ((hI M 1 a2) / (3 : Int32), M) else none else none
set_option maxRecDepth 100000 in
set_option maxHeartbeats 4000000 in
theorem s_DrawList_made {G : GT} (l0 : Nat) (M : PH) : VX G mi_DrawList_made 0 0 0 [some (.ref l0)] [] M qI (f_DrawList_made G l0 M) := by
  unfold f_DrawList_made
  refine V_open ok_DrawList_made_0 ?_
  refine B_aload_n rfl ?_
  refine B_chk (fun t1 => ?_)
  refine K_getR 4 2 802 lf_DrawList_19 rfl rfl t1 (fun a2 r3 => ?_)
  refine B_chk (fun t4 => ?_)
  refine K_getI 0 1 1 lf_DrawList_22 rfl rfl t4 ?_
  refine B_iconst (3 : Int32) ic_3 ?_
  refine B_idiv ?_
  exact B_iret rfl

-- Row_add
theorem ok_Row_add_0 : okb prog_9_method_2_code 0 [(.aload_n 0, 1), (.getfield 15, 3), (.aload_n 0, 1), (.getfield 9, 3), (.arraylength, 1), (.if_icmp .ne 31, 3), (.iconst 2, 1), (.aload_n 0, 1), (.getfield 15, 3), (.imul, 1), (.newarray .int, 2), (.astore_n 2, 1), (.aload_n 0, 1), (.getfield 9, 3), (.iconst 0, 1), (.aload_n 2, 1), (.iconst 0, 1), (.aload_n 0, 1), (.getfield 15, 3), (.invokestatic 19, 3), (.aload_n 0, 1), (.aload_n 2, 1), (.putfield 9, 3)] = true := by decide +kernel
theorem ok_Row_add_40 : okb prog_9_method_2_code 40 [(.aload_n 0, 1), (.getfield 9, 3), (.aload_n 0, 1), (.getfield 15, 3), (.iload_n 1, 1), (.iastore, 1), (.aload_n 0, 1), (.dup, 1), (.getfield 15, 3), (.iconst 1, 1), (.iadd, 1), (.putfield 15, 3), (.return_, 1)] = true := by decide +kernel
set_option maxRecDepth 100000 in
def b_Row_add_40 (G : GT) (l0 : Nat) (l1 : Int32) (M : PH) : Option (PH) :=
  if hT M l0 = 0 then (hR M 0 l0).bind fun a2 => if hT M a2 = 16 then if ib (hI M 1 l0) (hN M a2) = true then hb (sA M a2 (hI M 1 l0).toNatClampNeg l1) fun M6 => (hb (sI M6 1 l0 ((hI M6 1 l0) + (1 : Int32))) fun M9 => some M9) else none else none else none
set_option maxRecDepth 100000 in
set_option maxHeartbeats 4000000 in
theorem t_Row_add_40 {G : GT} (l0 : Nat) (l1 : Int32) (M : PH) : VX G mi_Row_add 1 18 40 [some (.ref l0), some (.int l1), none] [] M qV (b_Row_add_40 G l0 l1 M) := by
  unfold b_Row_add_40
  refine V_open ok_Row_add_40 ?_
  refine B_aload_n rfl ?_
  refine B_chk (fun t1 => ?_)
  refine K_getR 0 0 0 lf_Row_9 rfl rfl t1 (fun a2 r3 => ?_)
  refine B_aload_n rfl ?_
  refine K_getI 0 1 1 lf_Row_15 rfl rfl t1 ?_
  refine B_iload_n rfl ?_
  refine B_chk (fun t4 => ?_)
  refine K_iast t4 (fun M6 e5 => ?_)
  refine B_aload_n rfl ?_
  refine B_dup rfl ?_
  have h7 : hT M6 l0 = 0 := by rw [e5]; exact t1
  refine K_getI 0 1 1 lf_Row_15 rfl rfl h7 ?_
  refine B_iconst (1 : Int32) ic_1 ?_
  refine B_iadd ?_
  refine K_putI 0 1 1 lf_Row_15 rfl (Or.inl rfl) rfl h7 (fun M9 e8 => ?_)
  exact B_vret rfl
set_option maxRecDepth 100000 in
def f_Row_add (G : GT) (l0 : Nat) (l1 : Int32) (M : PH) : Option (PH) :=
  if hT M l0 = 0 then (hR M 0 l0).bind fun a2 => if hT M a2 = 16 then if ¬ hI M 1 l0 = nI (hN M a2) then (b_Row_add_40 G l0 l1 M) else (if 0 ≤ ((2 : Int32) * (hI M 1 l0)) ∧ ((2 : Int32) * (hI M 1 l0)).toNatClampNeg ≤ 1000000 ∧ hZ M < gC G ∧ hU M + ((2 : Int32) * (hI M 1 l0)).toNatClampNeg ≤ gS G then hb (nA M 16 ((2 : Int32) * (hI M 1 l0)).toNatClampNeg) fun M6 => (if hT M6 l0 = 0 then (hR M6 0 l0).bind fun a9 => if (hT M6 a9 = 16 ∧ hT M6 (hZ M) = 16) ∧ (0 ≤ (0 : Int32) ∧ 0 ≤ (0 : Int32) ∧ 0 ≤ (hI M6 1 l0)) ∧ (0 : Int32).toNatClampNeg + (hI M6 1 l0).toNatClampNeg ≤ hN M6 a9 ∧ (0 : Int32).toNatClampNeg + (hI M6 1 l0).toNatClampNeg ≤ hN M6 (hZ M) then hb (cA M6 a9 (0 : Int32).toNatClampNeg (hZ M) (0 : Int32).toNatClampNeg (hI M6 1 l0).toNatClampNeg) fun M12 => (hb (sR M12 0 l0 (some (hZ M))) fun M15 => b_Row_add_40 G l0 l1 M15) else none else none) else none) else none else none
set_option maxRecDepth 100000 in
set_option maxHeartbeats 4000000 in
theorem s_Row_add {G : GT} (l0 : Nat) (l1 : Int32) (M : PH) : VX G mi_Row_add 1 18 0 [some (.ref l0), some (.int l1), none] [] M qV (f_Row_add G l0 l1 M) := by
  unfold f_Row_add
  refine V_open ok_Row_add_0 ?_
  refine B_aload_n rfl ?_
  refine B_chk (fun t1 => ?_)
  refine K_getI 0 1 1 lf_Row_15 rfl rfl t1 ?_
  refine B_aload_n rfl ?_
  refine K_getR 0 0 0 lf_Row_9 rfl rfl t1 (fun a2 r3 => ?_)
  refine B_chk (fun t4 => ?_)
  refine K_alen t4 ?_
  refine B_ine (tgt := 40) (by decide) ?_ ?_
  · skip
    exact V_weak (ls' := [some (.ref l0), some (.int l1), none]) ⟨rfl, ⟨rfl, trivial⟩⟩ (t_Row_add_40 l0 l1 M)
  · skip
    refine B_iconst (2 : Int32) ic_2 ?_
    refine B_aload_n rfl ?_
    refine K_getI 0 1 1 lf_Row_15 rfl rfl t1 ?_
    refine B_imul ?_
    refine K_newa 16 rfl la_16 (fun M6 e5 => ?_)
    have t7 : hT M6 (hZ M) = 16 := by rw [e5]; exact nA_T
    refine S_an [some (.ref l0), some (.int l1), some (.ref (hZ M))] (by decide) rfl ?_
    refine B_aload_n rfl ?_
    refine B_chk (fun t8 => ?_)
    refine K_getR 0 0 0 lf_Row_9 rfl rfl t8 (fun a9 r10 => ?_)
    refine B_iconst (0 : Int32) ic_0 ?_
    refine B_aload_n rfl ?_
    refine B_iconst (0 : Int32) ic_0 ?_
    refine B_aload_n rfl ?_
    refine K_getI 0 1 1 lf_Row_15 rfl rfl t8 ?_
    refine B_copy lj_Row_19 rfl ?_
    refine B_hb (fun M12 e11 => ?_)
    refine B_aload_n rfl ?_
    refine B_aload_n rfl ?_
    have h13 : hT M12 l0 = 0 := by rw [e11]; exact t8
    refine K_putR 0 0 0 lf_Row_9 rfl (Or.inl rfl) rfl h13 (fun M15 e14 => ?_)
    refine V_close ?_
    exact V_weak (ls' := [some (.ref l0), some (.int l1), none]) ⟨rfl, ⟨rfl, trivial⟩⟩ (t_Row_add_40 l0 l1 M15)

-- Row_addAll
theorem ok_Row_addAll_0 : okb prog_9_method_3_code 0 [(.iconst 0, 1), (.istore_n 3, 1)] = true := by decide +kernel
theorem ok_Row_addAll_2 : okb prog_9_method_3_code 2 [(.iload_n 3, 1), (.aload_n 1, 1), (.getfield 15, 3), (.if_icmp .ge 21, 3), (.aload_n 0, 1), (.aload_n 1, 1), (.getfield 9, 3), (.iload_n 3, 1), (.iaload, 1), (.iload_n 2, 1), (.iadd, 1), (.invokevirtual 25, 3), (.iinc 3 1, 3), (.goto (-23), 3)] = true := by decide +kernel
theorem ok_Row_addAll_28 : okb prog_9_method_3_code 28 [(.return_, 1)] = true := by decide +kernel
set_option maxRecDepth 100000 in
def b_Row_addAll_2 (G : GT) (k2 : Nat → Nat → Int32 → Int32 → PH → Option (PH)) (l0 : Nat) (l1 : Nat) (l2 : Int32) (l3 : Int32) (M : PH) : Option (PH) :=
  if hT M l1 = 0 then if hI M 1 l1 ≤ l3 then (some M) else ((hR M 0 l1).bind fun a2 => if hT M a2 = 16 then if ib l3 (hN M a2) = true then if hT M l0 = 0 then bV (f_Row_add G l0 ((hA M a2 l3.toNatClampNeg) + l2) M) fun M6 => (k2 l0 l1 l2 (l3 + (1 : Int32)) M6) else none else none else none) else none
set_option maxRecDepth 100000 in
set_option maxHeartbeats 4000000 in
theorem t_Row_addAll_2 {G : GT} {k2 : Nat → Nat → Int32 → Int32 → PH → Option (PH)} (hk2 : ∀ (l0 : Nat) (l1 : Nat) (l2 : Int32) (l3 : Int32) (M : PH), VX G mi_Row_addAll 2 32 2 [some (.ref l0), some (.ref l1), some (.int l2), some (.int l3)] [] M qV (k2 l0 l1 l2 l3 M)) (l0 : Nat) (l1 : Nat) (l2 : Int32) (l3 : Int32) (M : PH) : VX G mi_Row_addAll 2 32 2 [some (.ref l0), some (.ref l1), some (.int l2), some (.int l3)] [] M qV (b_Row_addAll_2 G k2 l0 l1 l2 l3 M) := by
  unfold b_Row_addAll_2
  refine V_open ok_Row_addAll_2 ?_
  refine B_iload_n rfl ?_
  refine B_aload_n rfl ?_
  refine B_chk (fun t1 => ?_)
  refine K_getI 0 1 1 lf_Row_15 rfl rfl t1 ?_
  refine B_ige (tgt := 28) (by decide) ?_ ?_
  · skip
    refine V_open ok_Row_addAll_28 ?_
    exact B_vret rfl
  · skip
    refine B_aload_n rfl ?_
    refine B_aload_n rfl ?_
    refine K_getR 0 0 0 lf_Row_9 rfl rfl t1 (fun a2 r3 => ?_)
    refine B_iload_n rfl ?_
    refine B_chk (fun t4 => ?_)
    refine K_iald t4 ?_
    refine B_iload_n rfl ?_
    refine B_iadd ?_
    refine B_chk (fun t5 => ?_)
    refine C_V (vs := [.ref l0, .int ((hA M a2 l3.toNatClampNeg) + l2)]) (st := []) (ci_V lv_Row_25 rfl rfl t5) rfl rfl rfl (s_Row_add l0 ((hA M a2 l3.toNatClampNeg) + l2) M) (fun M6 => ?_)
    refine S_inc (1 : Int32) [some (.ref l0), some (.ref l1), some (.int l2), some (.int (l3 + (1 : Int32)))] ic_1 rfl (by decide) rfl ?_
    refine B_goto (tgt := 2) (by decide) ?_
    exact V_weak (ls' := [some (.ref l0), some (.ref l1), some (.int l2), some (.int (l3 + (1 : Int32)))]) ⟨rfl, ⟨rfl, ⟨rfl, ⟨rfl, trivial⟩⟩⟩⟩ (hk2 l0 l1 l2 (l3 + (1 : Int32)) M6)
set_option maxRecDepth 100000 in
def w_Row_addAll_2 (G : GT) : Nat → Nat → Nat → Int32 → Int32 → PH → Option (PH)
  | 0 => fun _ _ _ _ _ => none
  | n + 1 => b_Row_addAll_2 G (w_Row_addAll_2 G n)
set_option maxRecDepth 100000 in
set_option maxHeartbeats 4000000 in
theorem tw_Row_addAll_2 {G : GT} : ∀ (n : Nat) (l0 : Nat) (l1 : Nat) (l2 : Int32) (l3 : Int32) (M : PH), VX G mi_Row_addAll 2 32 2 [some (.ref l0), some (.ref l1), some (.int l2), some (.int l3)] [] M qV (w_Row_addAll_2 G n l0 l1 l2 l3 M)
  | 0, _, _, _, _, _ => X_none
  | n + 1, l0, l1, l2, l3, M => t_Row_addAll_2 (tw_Row_addAll_2 n) l0 l1 l2 l3 M
set_option maxRecDepth 100000 in
def f_Row_addAll (G : GT) (l0 : Nat) (l1 : Nat) (l2 : Int32) (M : PH) : Option (PH) :=
  w_Row_addAll_2 G FU l0 l1 l2 (0 : Int32) M
set_option maxRecDepth 100000 in
set_option maxHeartbeats 4000000 in
theorem s_Row_addAll {G : GT} (l0 : Nat) (l1 : Nat) (l2 : Int32) (M : PH) : VX G mi_Row_addAll 2 32 0 [some (.ref l0), some (.ref l1), some (.int l2), none] [] M qV (f_Row_addAll G l0 l1 l2 M) := by
  unfold f_Row_addAll
  refine V_open ok_Row_addAll_0 ?_
  refine B_iconst (0 : Int32) ic_0 ?_
  refine S_in [some (.ref l0), some (.ref l1), some (.int l2), some (.int (0 : Int32))] (by decide) rfl ?_
  refine V_close ?_
  exact V_weak (ls' := [some (.ref l0), some (.ref l1), some (.int l2), some (.int (0 : Int32))]) ⟨rfl, ⟨rfl, ⟨rfl, ⟨rfl, trivial⟩⟩⟩⟩ (tw_Row_addAll_2 FU l0 l1 l2 (0 : Int32) M)
