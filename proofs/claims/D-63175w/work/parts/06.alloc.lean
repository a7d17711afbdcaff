section R6
variable {G : GT} {mi : MI} {d lo pc : Nat} {rest : List (Instr × Nat)} {ls : List (Option Value)} {st : List Value} {M : PH} {α : Type} {q : α → Outcome → PH → Prop} {x : Option α}
theorem Rep.grow {G : GT} {M M' : PH} {H H' : Heap} (h : Rep G M H) (hs : H'.size = hZ M + 1) (ho : ∀ b : Nat, b < hZ M → H'[b]? = H[b]?) (hz : hZ M' = hZ M + 1) (hS : ∀ b : Nat, b ≠ hZ M → SameAt M M' b) (hP : Pic G M' (hZ M) H') : Rep G M' H' := by
  obtain ⟨h1, h2, h3, h4, h5⟩ := h
  refine ⟨by rw [hs, hz], by omega, fun b hb => by rw [ho b (by omega)]; exact h3 b hb, fun b b1 b2 => ?_, fun b hb => ?_⟩
  · by_cases e : b = hZ M
    · subst e; exact hP
    · exact Pic_same (hS b e) (ho b (by omega)) (h4 b b1 (by omega))
  · have e : b ≠ hZ M := by omega
    rw [(hS b e).1]
    exact h5 b (by omega)
theorem same_nO {t n b : Nat} (h : b ≠ hZ M) : SameAt M (nO M t n) b := ⟨by simp [hT, nO, h], rfl, fun f => by simp [hI, nO, h], fun _ => rfl, fun f => by simp [hR, nO, h], fun _ => rfl, fun _ => rfl⟩
theorem same_nA {t n b : Nat} (h : b ≠ hZ M) : SameAt M (nA M t n) b := ⟨by simp [hT, nA, h], by simp [hN, nA, h], fun _ => rfl, fun f => by simp [hA, nA, h], fun _ => rfl, fun f => by simp [hX, nA, h], fun f => by simp [hL, nA, h]⟩
theorem nO_T {t n : Nat} : hT (nO M t n) (hZ M) = t := by simp [hT, nO]
theorem nA_T {t n : Nat} : hT (nA M t n) (hZ M) = t := by simp [hT, nA]
theorem nA_N {t n : Nat} : hN (nA M t n) (hZ M) = n := by simp [hN, nA]
theorem nO_Z {t n : Nat} : hZ (nO M t n) = hZ M + 1 := rfl
theorem nO_U {t n : Nat} : hU (nO M t n) = hU M + n := rfl
theorem nA_Z {t n : Nat} : hZ (nA M t n) = hZ M + 1 := rfl
theorem nA_U {t n : Nat} : hU (nA M t n) = hU M + n := rfl
def LkC (own : String) (idx c : Nat) : Prop := Cond.classLink own idx (cR c) ∈ lw_tbl
theorem c_init : ∀ c, c < 12 → Cond.initialized (cR c) ∈ lw_tbl := by decide +kernel
theorem dflt_fv {G : GT} {s : State} {c k n : Nat} (hc : c < 12) (hk : k < cN c) (hch : isI c k = true ∨ isRf c k = true) : defaultValue (cT c k) = fv (nO M c n) c k (hZ M) := by
  unfold fv
  rcases hch with h | h
  · unfold isI at h
    split at h <;> first | (rename_i e; rw [e]; simp [hI, nO, defaultValue]) | cases h
  · unfold isRf at h
    split at h <;> first | (rename_i e; rw [e]; simp [hR, nO, defaultValue, va_rf]) | cases h
theorem c_kinds : ∀ c, c < 12 → ∀ k, k < cN c → isI c k = true ∨ isRf c k = true := by decide +kernel
theorem B_new {idx : Nat} (c : Nat) (hc : (decide (c < 12)) = true) (hl : LkC mi.1.cls idx c) (kk : VB G mi d lo (pc + 3) rest ls (.ref (hZ M) :: st) (nO M c (cN c)) q x) : VB G mi d lo pc ((.new idx, 3) :: rest) ls st M q (if hZ M < gC G ∧ hU M + cN c ≤ gS G then x else none) := by
  simp only [decide_eq_true_eq] at hc
  by_cases h : hZ M < gC G ∧ hU M + cN c ≤ gS G
  · rw [if_pos h]
    intro hok r hr p l e R s m args below meth cd c0 u0 hA H locs cells slots jls hRep hlo hc' hu hL
    obtain ⟨h1, h2⟩ := okb_cons hok
    obtain ⟨hx, hb, -, -, -, hown, -, -, -, hKn, -, -, hRc, hRs⟩ := id hA
    have hts : ∀ w ∈ lw_tbl, w.before args s = true := fun w hw => hKn.1 w hw args
    have hkn := hKn.2.1 c hc
    refine W.newcK hx hb hown (hts _ hl) (hts _ (c_inst c hc)) (hts _ (c_init c hc)) rfl h1 (by omega) (by omega) hkn.2.1 hRep.1 (fun H' kC hkC e1 e2 e3 => ?_)
    refine kk h2 r hr p l e R s m args below meth cd c0 u0 hA H' locs _ _ jls (hRep.grow e2 e3 rfl (fun b hb => same_nO hb) (Or.inl ⟨by rw [nO_T]; exact hc, ?_⟩)) hlo (by rw [nO_Z]; omega) (by rw [nO_U]; omega) hL
    rw [nO_T]
    exact (u_born (cT c) hts (c_in c hc) hkn hkC e1 (c_ty c hc)).to (fun k hk => dflt_fv (G := G) (s := s) hc hk (c_kinds c hc k hk))
  · rw [if_neg h]; exact V_none
def atp : ArrayType → Nat := fun t => match newarray.typeOf t with
  | .int => 16
  | .boolean => 17
  | .byte => 18
  | .long => 19
  | _ => 99
theorem B_newa {at' : ArrayType} {n : Int32} (t : Nat) (hat : (decide (atp at' = t) && decide (t < 20) && decide (newarray.typeOf at' = aty t) && decide (componentBytes (aty t) ≤ 8)) = true) (hcl : Cond.arrayClass (newarray.typeOf at') ∈ lw_tbl) (kk : VB G mi d lo (pc + 2) rest ls (.ref (hZ M) :: st) (nA M t n.toNatClampNeg) q x) : VB G mi d lo pc ((.newarray at', 2) :: rest) ls (.int n :: st) M q (if 0 ≤ n ∧ n.toNatClampNeg ≤ 1000000 ∧ hZ M < gC G ∧ hU M + n.toNatClampNeg ≤ gS G then x else none) := by
  simp only [Bool.and_eq_true, decide_eq_true_eq] at hat
  obtain ⟨⟨⟨ha1, ha2⟩, ha3⟩, ha4⟩ := hat
  have hge : 16 ≤ t := by rw [← ha1]; unfold atp; split <;> decide
  by_cases h : 0 ≤ n ∧ n.toNatClampNeg ≤ 1000000 ∧ hZ M < gC G ∧ hU M + n.toNatClampNeg ≤ gS G
  · rw [if_pos h]
    intro hok r hr p l e R s m args below meth cd c0 u0 hA' H locs cells slots jls hRep hlo hc' hu hL'
    obtain ⟨h1, h2⟩ := okb_cons hok
    obtain ⟨hx, hb, -, -, -, hown, -, -, -, hKn, -, -, hRc, hRs⟩ := id hA'
    have hbytes : n.toNatClampNeg * componentBytes (newarray.typeOf at') ≤ 536870912 := by
      rw [ha3]
      exact Nat.le_trans (Nat.mul_le_mul h.2.1 ha4) (by decide)
    refine W.newa hx hb (hKn.1 _ hcl args) rfl h1 rfl (fun hq => absurd h.1 (Int32.not_le.mpr hq)) hbytes (by omega) (by omega) (fun cA kA comp f1 f2 f3 => ?_)
    have hcA : cA = gA G t := by
      have := (hKn.2.2.1 t hge (by omega)).2
      rw [ha3] at f1
      rcases (show t = 16 ∨ t = 17 ∨ t = 18 ∨ t = 19 by omega) with rfl | rfl | rfl | rfl <;> exact Option.some.inj (f1.symm.trans this)
    subst hcA
    have hsz : H.size = hZ M := hRep.1
    have e1 : (H.push ({ cls := gA G t, slots := Array.replicate n.toNatClampNeg (defaultValue (newarray.typeOf at')), vm := .none } : Cell))[hZ M]? = some (arrV (gA G t) n.toNatClampNeg (fun j => av (nA M t n.toNatClampNeg) t (hZ M) j)) := by
      rw [← hsz, Array.getElem?_push_size, arrV_new]
      congr 2
      funext j
      rw [ha3]
      rcases (show t = 16 ∨ t = 17 ∨ t = 18 ∨ t = 19 by omega) with rfl | rfl | rfl | rfl <;> simp [av, aty, defaultValue, hA, hL, nA, hsz]
    have hR' : Rep G (nA M t n.toNatClampNeg) (H.push ({ cls := gA G t, slots := Array.replicate n.toNatClampNeg (defaultValue (newarray.typeOf at')), vm := .none } : Cell)) := by
      refine hRep.grow (by simp [hsz]) (fun b hb => by rw [Array.getElem?_push, if_neg (by omega)]) rfl (fun b hb => same_nA hb) (Or.inr (Or.inl ⟨by rw [nA_T]; exact hge, by rw [nA_T]; omega, ?_⟩))
      rw [nA_T, nA_N]
      exact e1
    have K := kk h2 r hr p l e R s m args below meth cd c0 u0 hA' _ locs (cells + 1) (slots + n.toNatClampNeg) jls hR' hlo (by rw [nA_Z]; omega) (by rw [nA_U]; omega) hL'
    rw [← hsz] at K
    exact K
  · rw [if_neg h]; exact V_none
theorem B_anew {idx : Nat} {n : Int32} (t : Nat) (htt : (decide (20 ≤ t) && decide (t < 24)) = true) (hl : LkC mi.1.cls idx (acl t)) (hov : Cond.arrayOver (.object (cR (acl t))) ∈ lw_tbl) (kk : VB G mi d lo (pc + 3) rest ls (.ref (hZ M) :: st) (nA M t n.toNatClampNeg) q x) : VB G mi d lo pc ((.anewarray idx, 3) :: rest) ls (.int n :: st) M q (if 0 ≤ n ∧ n.toNatClampNeg ≤ 1000000 ∧ hZ M < gC G ∧ hU M + n.toNatClampNeg ≤ gS G then x else none) := by
  simp only [Bool.and_eq_true, decide_eq_true_eq] at htt
  by_cases h : 0 ≤ n ∧ n.toNatClampNeg ≤ 1000000 ∧ hZ M < gC G ∧ hU M + n.toNatClampNeg ≤ gS G
  · rw [if_pos h]
    intro hok r hr p l e R s m args below meth cd c0 u0 hA' H locs cells slots jls hRep hlo hc' hu hL'
    obtain ⟨h1, h2⟩ := okb_cons hok
    obtain ⟨hx, hb, -, -, -, hown, -, -, -, hKn, -, -, hRc, hRs⟩ := id hA'
    refine W.anew hx hb hown (hKn.1 _ hl args) (hKn.1 _ hov args) rfl h1 rfl (fun hq => absurd h.1 (Int32.not_le.mpr hq)) (by omega) (by omega) (by omega) (fun cA kA comp f1 f2 f3 f4 => ?_)
    have hcA : cA = gA G t := by
      have := (hKn.2.2.1 t (by omega) (by omega)).2
      rcases (show t = 20 ∨ t = 21 ∨ t = 22 ∨ t = 23 by omega) with rfl | rfl | rfl | rfl <;> exact Option.some.inj (f1.symm.trans this.choose_spec.choose_spec.2.2.2)
    subst hcA
    have hsz : H.size = hZ M := hRep.1
    have hR' : Rep G (nA M t n.toNatClampNeg) (H.push ({ cls := gA G t, slots := Array.replicate n.toNatClampNeg .null, vm := .none } : Cell)) := by
      refine hRep.grow (by simp [hsz]) (fun b hb => by rw [Array.getElem?_push, if_neg (by omega)]) rfl (fun b hb => same_nA hb) (Or.inr (Or.inl ⟨by rw [nA_T]; omega, by rw [nA_T]; omega, ?_⟩))
      rw [nA_T, nA_N, ← hsz, Array.getElem?_push_size, arrV_new]
      congr 2
      funext j
      have n1 : ¬ t < 19 := by omega
      have n2 : ¬ t = 19 := by omega
      simp [av, n1, n2, hX, nA, va_rf, hsz]
    have K := kk h2 r hr p l e R s m args below meth cd c0 u0 hA' _ locs (cells + 1) (slots + n.toNatClampNeg) jls hR' hlo (by rw [nA_Z]; omega) (by rw [nA_U]; omega) hL'
    rw [← hsz] at K
    exact K
  · rw [if_neg h]; exact V_none
/-! ends -/
def qV : PH → Outcome → PH → Prop := fun r o M' => o = .returned none ∧ M' = r
def qI : Int32 × PH → Outcome → PH → Prop := fun r o M' => o = .returned (some (.int r.1)) ∧ M' = r.2
def qR : Nat × PH → Outcome → PH → Prop := fun r o M' => o = .returned (some (.ref r.1)) ∧ M' = r.2
/-- with a throw: 0 it returns; 1, 2: it throws -/
def qT : Nat × Int32 × PH → Outcome → PH → Prop := fun r o M' => M' = r.2.2 ∧ ((r.1 = 0 ∧ o = .returned (some (.int r.2.1))) ∨ ((r.1 = 1 ∨ r.1 = 2) ∧ ∃ a : Nat, o = .threw a ∧ hT M' a = 31 + r.1))
def qU : Nat × PH → Outcome → PH → Prop := fun r o M' => M' = r.2 ∧ ((r.1 = 0 ∧ o = .returned none) ∨ ((r.1 = 1 ∨ r.1 = 2) ∧ ∃ a : Nat, o = .threw a ∧ hT M' a = 31 + r.1))
theorem V_ret {i : Instr} {v : Option Value} {r : α} (hq : q r (.returned v) M)
    (hstep : ∀ (p : Program) (l : Launch) (e : Env) (R : Room) (s : State) (m : MethodId) (args : Array Value) (below : List Frame) (meth : Method) (c : Code) (H : Heap) (locs : List Loc) (cells slots : Nat) (jls : Array Slot), p.tables.exec = Jvm.exec → c.code = mi.2.1 → meth.sig.returnType = mi.2.2.2.1 → meth.locks = false → decode mi.2.1 pc = .ok (i, 1) →
      W p l e R s m args below meth c H locs cells slots (MQ below (fun _ _ o t => o = .returned v ∧ t.heap = H) args s cells slots (fun a => ∃ x ∈ locs, x.base = a)) (F0 m pc jls st)) : VB G mi d lo pc ((i, 1) :: rest) ls st M q (some r) := by
  intro hok r' hr p l e R s m args below meth c c0 u0 hA H locs cells slots jls hRep hlo hc hu hL
  obtain ⟨h1, h2⟩ := okb_cons hok
  cases hr
  obtain ⟨hx, hb, hret, -, hlk, -⟩ := id hA
  intro T hT' X
  obtain ⟨t, a1, o, b1, b2, ⟨rfl, b3⟩, L, b4, b5⟩ := hstep p l e R s m args below meth c H locs cells slots jls hx hb hret hlk h1 T hT' X
  exact ⟨t, a1, _, M, L, cells, slots, b1, b2, hq, by rw [b3]; exact hRep, b4.2.1, b4.2.2, fun x hx => by obtain ⟨y, hy, e⟩ := b5 x hx; rw [← e]; exact hlo y hy, hc, hu⟩
theorem B_vret (hr : mi.2.2.2.1 = none) : VB G mi d lo pc ((.return_, 1) :: rest) ls [] M qV (some M) :=
  V_ret (v := none) ⟨rfl, rfl⟩ (fun _ _ _ _ _ _ _ _ _ _ _ _ _ _ _ hx hb hret hlk hd => W.vret hx hb (hret.trans hr) (fun t ht _ => ⟨rfl, ht⟩) (fun x hx => ⟨x, hx, rfl⟩) hd hlk)
theorem B_uret (hr : mi.2.2.2.1 = none) : VB G mi d lo pc ((.return_, 1) :: rest) ls [] M qU (some (0, M)) :=
  V_ret (v := none) ⟨rfl, Or.inl ⟨rfl, rfl⟩⟩ (fun _ _ _ _ _ _ _ _ _ _ _ _ _ _ _ hx hb hret hlk hd => W.vret hx hb (hret.trans hr) (fun t ht _ => ⟨rfl, ht⟩) (fun x hx => ⟨x, hx, rfl⟩) hd hlk)
theorem B_iret {v : Int32} (hr : mi.2.2.2.1 = some .int) : VB G mi d lo pc ((.ireturn, 1) :: rest) ls [.int v] M qI (some (v, M)) :=
  V_ret (v := some (.int v)) ⟨rfl, rfl⟩ (fun _ _ _ _ _ _ _ _ _ _ _ _ _ _ _ hx hb hret hlk hd => W.iret hx hb (hret.trans hr) (fun t ht _ => ⟨rfl, ht⟩) (fun x hx => ⟨x, hx, rfl⟩) hd hlk)
theorem B_tret {v : Int32} (hr : mi.2.2.2.1 = some .int) : VB G mi d lo pc ((.ireturn, 1) :: rest) ls [.int v] M qT (some (0, v, M)) :=
  V_ret (v := some (.int v)) ⟨rfl, Or.inl ⟨rfl, rfl⟩⟩ (fun _ _ _ _ _ _ _ _ _ _ _ _ _ _ _ hx hb hret hlk hd => W.iret hx hb (hret.trans hr) (fun t ht _ => ⟨rfl, ht⟩) (fun x hx => ⟨x, hx, rfl⟩) hd hlk)
theorem B_zret {v : Int32} (hr : mi.2.2.2.1 = some .boolean) : VB G mi d lo pc ((.ireturn, 1) :: rest) ls [.int v] M qI (if v = 0 ∨ v = 1 then some (v, M) else none) := by
  by_cases h : v = 0 ∨ v = 1
  · rw [if_pos h]
    exact V_ret (v := some (.int v)) ⟨rfl, rfl⟩ (fun _ _ _ _ _ _ _ _ _ _ _ _ _ _ _ hx hb hret hlk hd => W.zret hx hb (hret.trans hr) (nar_b h) (fun t ht _ => ⟨rfl, ht⟩) (fun x hx => ⟨x, hx, rfl⟩) hd hlk)
  · rw [if_neg h]; exact V_none
theorem B_ztret {v : Int32} (hr : mi.2.2.2.1 = some .boolean) : VB G mi d lo pc ((.ireturn, 1) :: rest) ls [.int v] M qT (if v = 0 ∨ v = 1 then some (0, v, M) else none) := by
  by_cases h : v = 0 ∨ v = 1
  · rw [if_pos h]
    exact V_ret (v := some (.int v)) ⟨rfl, Or.inl ⟨rfl, rfl⟩⟩ (fun _ _ _ _ _ _ _ _ _ _ _ _ _ _ _ hx hb hret hlk hd => W.zret hx hb (hret.trans hr) (nar_b h) (fun t ht _ => ⟨rfl, ht⟩) (fun x hx => ⟨x, hx, rfl⟩) hd hlk)
  · rw [if_neg h]; exact V_none
theorem B_aret {a : Nat} {ty : FieldType} (hr : mi.2.2.2.1 = some ty) (hty : (∃ n, ty = .object n) ∨ ∃ t, ty = .array t) : VB G mi d lo pc ((.areturn, 1) :: rest) ls [.ref a] M qR (some (a, M)) :=
  V_ret (v := some (.ref a)) ⟨rfl, rfl⟩ (fun _ _ _ _ _ _ _ _ _ _ _ _ _ _ _ hx hb hret hlk hd => W.aret hx hb (hret.trans hr) hty (Or.inr ⟨_, rfl⟩) (fun t ht _ => ⟨rfl, ht⟩) (fun x hx => ⟨x, hx, rfl⟩) hd hlk)
end R6
