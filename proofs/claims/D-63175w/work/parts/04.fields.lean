section R2
variable {G : GT} {mi : MI} {d lo pc : Nat} {rest : List (Instr × Nat)} {ls : List (Option Value)} {st : List Value} {M : PH} {α : Type} {q : α → Outcome → PH → Prop} {x x1 x2 : Option α}
/-! branches -/
theorem B_br {i : Instr} {n tgt : Nat} {st' : List Value} {P : Prop} [Decidable P] (step : ∀ (p : Program) (l : Launch) (e : Env) (R : Room) (s : State) (m : MethodId) (args : Array Value) (below : List Frame) (meth : Method) (c : Code) (H : Heap) (locs : List Loc) (cells slots : Nat) (jls : Array Slot) (Q : State → Prop), p.tables.exec = Jvm.exec → c.code = mi.2.1 → decode mi.2.1 pc = .ok (i, n) → (P → W p l e R s m args below meth c H locs cells slots Q (F0 m tgt jls st')) → (¬ P → W p l e R s m args below meth c H locs cells slots Q (F0 m (pc + n) jls st')) → W p l e R s m args below meth c H locs cells slots Q (F0 m pc jls st))
    (k1 : VX G mi d lo tgt ls st' M q x1) (k2 : VB G mi d lo (pc + n) rest ls st' M q x2) : VB G mi d lo pc ((i, n) :: rest) ls st M q (if P then x1 else x2) := by
  intro hok r hr p l e R s m args below meth c c0 u0 hA H locs cells slots jls hRep hlo hc hu hL
  obtain ⟨h1, h2⟩ := okb_cons hok
  refine step p l e R s m args below meth c H locs cells slots jls _ hA.1 hA.2.1 h1 (fun hp => ?_) (fun hp => ?_)
  · rw [if_pos hp] at hr
    exact k1 r hr p l e R s m args below meth c c0 u0 hA H locs cells slots jls hRep hlo hc hu hL
  · rw [if_neg hp] at hr
    exact k2 h2 r hr p l e R s m args below meth c c0 u0 hA H locs cells slots jls hRep hlo hc hu hL
theorem B_eq {off : Int} {tgt : Nat} {v : Int32} (ht : (pc : Int) + off = (tgt : Int)) (k1 : VX G mi d lo tgt ls st M q x1) (k2 : VB G mi d lo (pc + 3) rest ls st M q x2) : VB G mi d lo pc ((.ifCond .eq off, 3) :: rest) ls (.int v :: st) M q (if v = 0 then x1 else x2) :=
  B_br (fun _ _ _ _ _ _ _ _ _ _ _ _ _ _ _ _ hx hb hd a b => lv_if_eq hx hb hd ht a b) k1 k2
theorem B_ne {off : Int} {tgt : Nat} {v : Int32} (ht : (pc : Int) + off = (tgt : Int)) (k1 : VX G mi d lo tgt ls st M q x1) (k2 : VB G mi d lo (pc + 3) rest ls st M q x2) : VB G mi d lo pc ((.ifCond .ne off, 3) :: rest) ls (.int v :: st) M q (if ¬ v = 0 then x1 else x2) :=
  B_br (fun _ _ _ _ _ _ _ _ _ _ _ _ _ _ _ _ hx hb hd a b => lv_if_ne hx hb hd ht a (fun h => b (fun g => g h))) k1 k2
theorem B_lt {off : Int} {tgt : Nat} {v : Int32} (ht : (pc : Int) + off = (tgt : Int)) (k1 : VX G mi d lo tgt ls st M q x1) (k2 : VB G mi d lo (pc + 3) rest ls st M q x2) : VB G mi d lo pc ((.ifCond .lt off, 3) :: rest) ls (.int v :: st) M q (if v < 0 then x1 else x2) :=
  B_br (fun _ _ _ _ _ _ _ _ _ _ _ _ _ _ _ _ hx hb hd a b => lv_if_lt hx hb hd ht a b) k1 k2
theorem B_ge {off : Int} {tgt : Nat} {v : Int32} (ht : (pc : Int) + off = (tgt : Int)) (k1 : VX G mi d lo tgt ls st M q x1) (k2 : VB G mi d lo (pc + 3) rest ls st M q x2) : VB G mi d lo pc ((.ifCond .ge off, 3) :: rest) ls (.int v :: st) M q (if 0 ≤ v then x1 else x2) :=
  B_br (fun _ _ _ _ _ _ _ _ _ _ _ _ _ _ _ _ hx hb hd a b => lv_if_ge hx hb hd ht a b) k1 k2
theorem B_gt {off : Int} {tgt : Nat} {v : Int32} (ht : (pc : Int) + off = (tgt : Int)) (k1 : VX G mi d lo tgt ls st M q x1) (k2 : VB G mi d lo (pc + 3) rest ls st M q x2) : VB G mi d lo pc ((.ifCond .gt off, 3) :: rest) ls (.int v :: st) M q (if 0 < v then x1 else x2) :=
  B_br (fun _ _ _ _ _ _ _ _ _ _ _ _ _ _ _ _ hx hb hd a b => lv_if_gt hx hb hd ht a b) k1 k2
theorem B_le {off : Int} {tgt : Nat} {v : Int32} (ht : (pc : Int) + off = (tgt : Int)) (k1 : VX G mi d lo tgt ls st M q x1) (k2 : VB G mi d lo (pc + 3) rest ls st M q x2) : VB G mi d lo pc ((.ifCond .le off, 3) :: rest) ls (.int v :: st) M q (if v ≤ 0 then x1 else x2) :=
  B_br (fun _ _ _ _ _ _ _ _ _ _ _ _ _ _ _ _ hx hb hd a b => lv_if_le hx hb hd ht a b) k1 k2
theorem B_ieq {off : Int} {tgt : Nat} {v w : Int32} (ht : (pc : Int) + off = (tgt : Int)) (k1 : VX G mi d lo tgt ls st M q x1) (k2 : VB G mi d lo (pc + 3) rest ls st M q x2) : VB G mi d lo pc ((.if_icmp .eq off, 3) :: rest) ls (.int w :: .int v :: st) M q (if v = w then x1 else x2) :=
  B_br (fun _ _ _ _ _ _ _ _ _ _ _ _ _ _ _ _ hx hb hd a b => lv_icmp_eq hx hb hd ht a b) k1 k2
theorem B_ine {off : Int} {tgt : Nat} {v w : Int32} (ht : (pc : Int) + off = (tgt : Int)) (k1 : VX G mi d lo tgt ls st M q x1) (k2 : VB G mi d lo (pc + 3) rest ls st M q x2) : VB G mi d lo pc ((.if_icmp .ne off, 3) :: rest) ls (.int w :: .int v :: st) M q (if ¬ v = w then x1 else x2) :=
  B_br (fun _ _ _ _ _ _ _ _ _ _ _ _ _ _ _ _ hx hb hd a b => lv_icmp_ne hx hb hd ht a (fun h => b (fun g => g h))) k1 k2
theorem B_ilt {off : Int} {tgt : Nat} {v w : Int32} (ht : (pc : Int) + off = (tgt : Int)) (k1 : VX G mi d lo tgt ls st M q x1) (k2 : VB G mi d lo (pc + 3) rest ls st M q x2) : VB G mi d lo pc ((.if_icmp .lt off, 3) :: rest) ls (.int w :: .int v :: st) M q (if v < w then x1 else x2) :=
  B_br (fun _ _ _ _ _ _ _ _ _ _ _ _ _ _ _ _ hx hb hd a b => lv_icmp_lt hx hb hd ht a b) k1 k2
theorem B_ige {off : Int} {tgt : Nat} {v w : Int32} (ht : (pc : Int) + off = (tgt : Int)) (k1 : VX G mi d lo tgt ls st M q x1) (k2 : VB G mi d lo (pc + 3) rest ls st M q x2) : VB G mi d lo pc ((.if_icmp .ge off, 3) :: rest) ls (.int w :: .int v :: st) M q (if w ≤ v then x1 else x2) :=
  B_br (fun _ _ _ _ _ _ _ _ _ _ _ _ _ _ _ _ hx hb hd a b => lv_icmp_ge hx hb hd ht a b) k1 k2
theorem B_igt {off : Int} {tgt : Nat} {v w : Int32} (ht : (pc : Int) + off = (tgt : Int)) (k1 : VX G mi d lo tgt ls st M q x1) (k2 : VB G mi d lo (pc + 3) rest ls st M q x2) : VB G mi d lo pc ((.if_icmp .gt off, 3) :: rest) ls (.int w :: .int v :: st) M q (if w < v then x1 else x2) :=
  B_br (fun _ _ _ _ _ _ _ _ _ _ _ _ _ _ _ _ hx hb hd a b => lv_icmp_gt hx hb hd ht a b) k1 k2
theorem B_ile {off : Int} {tgt : Nat} {v w : Int32} (ht : (pc : Int) + off = (tgt : Int)) (k1 : VX G mi d lo tgt ls st M q x1) (k2 : VB G mi d lo (pc + 3) rest ls st M q x2) : VB G mi d lo pc ((.if_icmp .le off, 3) :: rest) ls (.int w :: .int v :: st) M q (if v ≤ w then x1 else x2) :=
  B_br (fun _ _ _ _ _ _ _ _ _ _ _ _ _ _ _ _ hx hb hd a b => lv_icmp_le hx hb hd ht a b) k1 k2
theorem B_goto {off : Int} {tgt : Nat} (ht : (pc : Int) + off = (tgt : Int)) (k : VX G mi d lo tgt ls st M q x) : VB G mi d lo pc ((.goto off, 3) :: rest) ls st M q x := by
  intro hok r hr p l e R s m args below meth c c0 u0 hA H locs cells slots jls hRep hlo hc hu hL
  obtain ⟨h1, h2⟩ := okb_cons hok
  exact lv_goto hA.1 hA.2.1 h1 ht (k r hr p l e R s m args below meth c c0 u0 hA H locs cells slots jls hRep hlo hc hu hL)
def TX (G : GT) (mi : MI) (d lo : Nat) (ls : List (Option Value)) (st : List Value) (M : PH) {α : Type} (q : α → Outcome → PH → Prop) : List Nat → List (Option α) → Prop
  | [], [] => True
  | t :: ts, x :: xs => VX G mi d lo t ls st M q x ∧ TX G mi d lo ls st M q ts xs
  | _, _ => False
theorem TX_get : ∀ {ts : List Nat} {xs : List (Option α)}, TX G mi d lo ls st M q ts xs → ts.length = xs.length ∧ ∀ (k : Nat) (t : Nat) (y : Option α), ts[k]? = some t → xs[k]? = some y → VX G mi d lo t ls st M q y
  | [], [], _ => ⟨rfl, fun k t y h => by simp at h⟩
  | t :: ts, y :: xs, h => by
    obtain ⟨h0, h⟩ := h
    obtain ⟨h1, h2⟩ := TX_get h
    refine ⟨by simp [h1], fun k t' y' ht hy => ?_⟩
    cases k with
    | zero => simp at ht hy; subst ht; subst hy; exact h0
    | succ k => exact h2 k t' y' (by simpa using ht) (by simpa using hy)
  | [], _ :: _, h => by cases h
  | _ :: _, [], h => by cases h
def sw {α : Type} (v : Int32) (lo : Int) (xs : List (Option α)) (xd : Option α) : Option α := if v.toInt < lo ∨ lo + xs.length ≤ v.toInt then xd else xs.getD (v.toInt - lo).toNat xd
theorem B_tsw {dflt lw hi : Int} {offs : Array Int} {len : Nat} {v : Int32} (tgts : List Nat) (tgtd : Nat) {xs : List (Option α)} {xd : Option α} (h1 : offs.toList.map (fun o => (pc : Int) + o) = tgts.map (fun t : Nat => (t : Int))) (h2 : hi + 1 = lw + tgts.length) (h3 : (pc : Int) + dflt = (tgtd : Int)) (kd : VX G mi d lo tgtd ls st M q xd) (k : TX G mi d lo ls st M q tgts xs) : VB G mi d lo pc ((.tableswitch dflt lw hi offs, len) :: rest) ls (.int v :: st) M q (sw v lw xs xd) := by
  intro hok r hr p l e R s m args below meth c c0 u0 hA H locs cells slots jls hRep hlo hc hu hL
  obtain ⟨hd1, -⟩ := okb_cons hok
  obtain ⟨g1, g2⟩ := TX_get k
  unfold sw at hr
  by_cases ho : v.toInt < lw ∨ lw + xs.length ≤ v.toInt
  · rw [if_pos ho] at hr
    exact lv_tableOut hA.1 hA.2.1 hd1 (by omega) h3 (kd r hr p l e R s m args below meth c c0 u0 hA H locs cells slots jls hRep hlo hc hu hL)
  · rw [if_neg ho] at hr
    have hn : (v.toInt - lw).toNat < tgts.length := by omega
    have e1 : tgts[(v.toInt - lw).toNat]? = some (tgts[(v.toInt - lw).toNat]) := List.getElem?_eq_getElem hn
    have hn2 : (v.toInt - lw).toNat < xs.length := by omega
    have e2 : xs[(v.toInt - lw).toNat]? = some (xs[(v.toInt - lw).toNat]) := List.getElem?_eq_getElem hn2
    rw [List.getD_eq_getElem?_getD, e2] at hr
    have hlen : offs.toList.length = tgts.length := by have := congrArg List.length h1; simpa using this
    have hn3 : (v.toInt - lw).toNat < offs.toList.length := by omega
    have e3 : offs.toList[(v.toInt - lw).toNat]? = some (offs.toList[(v.toInt - lw).toNat]) := List.getElem?_eq_getElem hn3
    have e4 := congrArg (fun l => l[(v.toInt - lw).toNat]?) h1
    simp only [List.getElem?_map, e1, e3, Option.map_some, Option.some.injEq] at e4
    exact lv_tableIn hA.1 hA.2.1 hd1 (by omega) (by omega) (off := offs.toList[(v.toInt - lw).toNat]) (by rw [← Array.getElem?_toList]; exact e3) e4 (g2 _ _ _ e1 e2 r hr p l e R s m args below meth c c0 u0 hA H locs cells slots jls hRep hlo hc hu hL)
end R2
section R3
variable {G : GT} {M M' : PH} {H H' : Heap} {a : Nat}
def SameAt (M M' : PH) (b : Nat) : Prop := hT M' b = hT M b ∧ hN M' b = hN M b ∧ (∀ f, hI M' f b = hI M f b) ∧ (∀ i, hA M' b i = hA M b i) ∧ (∀ f, hR M' f b = hR M f b) ∧ (∀ i, hX M' b i = hX M b i) ∧ ∀ i, hL M' b i = hL M b i
theorem Pic_same {b : Nat} (h : SameAt M M' b) (hh : H'[b]? = H[b]?) (hp : Pic G M b H) : Pic G M' b H' := by
  obtain ⟨h1, h2, h3, h4, h5, h6, h7⟩ := h
  have ef : ∀ c k, fv M' c k b = fv M c k b := fun c k => by unfold fv; split <;> simp [h3, h5]
  have ea : ∀ t j, av M' t b j = av M t b j := fun t j => by unfold av; simp [h4, h6, h7]
  unfold Pic at hp ⊢
  rw [h1, h2]
  rcases hp with ⟨p1, p2⟩ | ⟨p1, p2, p3⟩ | ⟨p1, p2, cell, p3, p4, p5⟩
  · exact Or.inl ⟨p1, (p2.kept hh).to (fun k _ => (ef _ k).symm)⟩
  · refine Or.inr (Or.inl ⟨p1, p2, ?_⟩)
    rw [hh, p3]
    congr 2
    funext j
    exact (ea _ j).symm
  · exact Or.inr (Or.inr ⟨p1, p2, cell, by rw [hh]; exact p3, p4, p5⟩)
theorem Rep.at (h : Rep G M H) (hn : hT M a ≠ 99) : gB G ≤ a ∧ a < hZ M := by
  constructor
  · exact Nat.not_lt.mp fun q => hn (h.2.2.2.2 a (Or.inl q))
  · exact Nat.not_le.mp fun q => hn (h.2.2.2.2 a (Or.inr q))
theorem Rep.pic (h : Rep G M H) (hn : hT M a ≠ 99) : Pic G M a H := h.2.2.2.1 a (h.at hn).1 (h.at hn).2
theorem Rep.obj (h : Rep G M H) {c : Nat} (hc : c < 12) (ht : hT M a = c) : t_OB a ((gD G).1 c) (cN c) ((gD G).2 c) H (fun k => fv M c k a) := by
  subst ht
  rcases h.pic (a := a) (by omega) with ⟨_, p⟩ | ⟨p, _⟩ | ⟨p, _⟩
  · exact p
  · omega
  · omega
theorem Rep.arr (h : Rep G M H) {t : Nat} (h1 : 16 ≤ t) (h2 : t < 24) (ht : hT M a = t) : H[a]? = some (arrV (gA G t) (hN M a) (fun j => av M t a j)) := by
  subst ht
  rcases h.pic (a := a) (by omega) with ⟨p, _⟩ | ⟨_, _, p⟩ | ⟨p, _⟩
  · omega
  · exact p
  · omega
theorem Rep.upd (h : Rep G M H) (hn : hT M a ≠ 99) (hs : H'.size = H.size) (ho : ∀ b : Nat, b ≠ a → H'[b]? = H[b]?) (hz : hZ M' = hZ M) (hS : ∀ b : Nat, b ≠ a → SameAt M M' b) (ht : hT M' a = hT M a) (hP : Pic G M' a H') : Rep G M' H' := by
  have hr := h.at hn
  obtain ⟨h1, h2, h3, h4, h5⟩ := h
  refine ⟨by rw [hs, h1, hz], by rw [hz]; exact h2, fun b hb => by rw [ho b (by omega)]; exact h3 b hb, fun b b1 b2 => ?_, fun b hb => ?_⟩
  · by_cases e : b = a
    · subst e; exact hP
    · exact Pic_same (hS b e) (ho b e) (h4 b b1 (by rw [← hz]; exact b2))
  · rw [hz] at hb
    by_cases e : b = a
    · subst e
      rw [ht]
      exact h5 b hb
    · rw [(hS b e).1]
      exact h5 b hb
theorem same_sI {f a b : Nat} {v : Int32} (h : b ≠ a) : SameAt M (sI M f a v) b := ⟨rfl, rfl, fun g => by simp [sI, hI, up2, h], fun _ => rfl, fun _ => rfl, fun _ => rfl, fun _ => rfl⟩
theorem same_sR {f a b : Nat} {v : Option Nat} (h : b ≠ a) : SameAt M (sR M f a v) b := ⟨rfl, rfl, fun _ => rfl, fun _ => rfl, fun g => by simp [sR, hR, up2, h], fun _ => rfl, fun _ => rfl⟩
theorem same_sA {a b i : Nat} {v : Int32} (h : b ≠ a) : SameAt M (sA M a i v) b := ⟨rfl, rfl, fun _ => rfl, fun g => by simp [sA, hA, up2, h], fun _ => rfl, fun _ => rfl, fun _ => rfl⟩
theorem same_sX {a b i : Nat} {v : Option Nat} (h : b ≠ a) : SameAt M (sX M a i v) b := ⟨rfl, rfl, fun _ => rfl, fun _ => rfl, fun _ => rfl, fun g => by simp [sX, hX, up2, h], fun _ => rfl⟩
theorem same_sL {a b i : Nat} {v : Int64} (h : b ≠ a) : SameAt M (sL M a i v) b := ⟨rfl, rfl, fun _ => rfl, fun _ => rfl, fun _ => rfl, fun _ => rfl, fun g => by simp [sL, hL, up2, h]⟩
end R3
section R4
variable {G : GT} {mi : MI} {d lo pc : Nat} {rest : List (Instr × Nat)} {ls : List (Option Value)} {st : List Value} {M : PH} {α : Type} {q : α → Outcome → PH → Prop} {x : Option α}
/-- what a class's entry for a field says -/
def LkF (own : String) (idx c k : Nat) : Prop := Cond.fieldLink own idx (cR c) (cF c k).2.1 (cF c k).2.2.1 ∈ lw_tbl ∨ ∃ host : String, Cond.fieldLinkNest own idx (cR c) (cF c k).2.1 (cF c k).2.2.1 host ∈ lw_tbl
def isI (c k : Nat) : Bool := match cT c k with
  | .int => true
  | .boolean => true
  | _ => false
def isRf (c k : Nat) : Bool := match cT c k with
  | .object _ => true
  | .array _ => true
  | _ => false
theorem B_get {idx c k a : Nat} {v : Value} (hl : LkF mi.1.cls idx c k) (hc : c < 12) (hk : k < cN c) (ht : hT M a = c) (hv : fv M c k a = v) (kk : VB G mi d lo (pc + 3) rest ls (v :: st) M q x) : VB G mi d lo pc ((.getfield idx, 3) :: rest) ls (.ref a :: st) M q x := by
  intro hok r hr p l e R s m args below meth c0' c0 u0 hA H locs cells slots jls hRep hlo hc' hu hL
  obtain ⟨h1, h2⟩ := okb_cons hok
  have hKn := hA.2.2.2.2.2.2.2.2.2.1
  obtain ⟨cell, q1, q2, q3, q4⟩ := hRep.obj hc ht
  obtain ⟨hS, hfc, kC, hkC, hkind⟩ := hKn.2.1 c hc
  obtain ⟨cf, kf, fi, f, hi, hsl⟩ := hS k hk
  have hts : ∀ w ∈ lw_tbl, w.before args s = true := fun w hw => hKn.1 w hw args
  have hst := (u_facts hfc hkC (u_lays hts (c_in c hc) hk) hi).1
  have hi' : s.fieldFound? (cR c) (cF c k).2.1 (cF c k).2.2.1 = some (cf, kf, fi, f) := by rw [← c_own c hc k]; exact hi
  have hval : cell.slots[f.slot]? = some v := by rw [hsl, q4 k hk]; exact congrArg some hv
  have K := kk h2 r hr p l e R s m args below meth c0' c0 u0 hA H locs cells slots jls hRep hlo hc' hu hL
  rcases hl with hl | ⟨host, hl⟩
  · exact W.getf hA.1 hA.2.1 hA.2.2.2.2.2.1 (hts _ hl) hi' hst q1 (by rw [q3]; exact fun h => by cases h) hval rfl rfl h1 K
  · exact va_Wgetf hA.1 hA.2.1 hA.2.2.2.2.2.1 (hts _ hl) hi' hst q1 (by rw [q3]; exact fun h => by cases h) hval rfl rfl h1 K
theorem B_getI {idx a : Nat} (c k fid : Nat) (hl : LkF mi.1.cls idx c k) (hk : (decide (c < 12) && decide (k < cN c) && isI c k) = true) (hf : 200 * c + k = fid) (kk : VB G mi d lo (pc + 3) rest ls (.int (hI M fid a) :: st) M q x) : VB G mi d lo pc ((.getfield idx, 3) :: rest) ls (.ref a :: st) M q (if hT M a = c then x else none) := by
  simp only [Bool.and_eq_true, decide_eq_true_eq] at hk
  by_cases ht : hT M a = c
  · rw [if_pos ht]
    refine B_get hl hk.1.1 hk.1.2 ht ?_ kk
    have := hk.2
    unfold isI at this
    unfold fv
    rw [hf]
    split at this <;> simp_all
  · rw [if_neg ht]; exact V_none
theorem B_getR {idx a : Nat} (c k fid : Nat) {y : Nat → Option α} (hl : LkF mi.1.cls idx c k) (hk : (decide (c < 12) && decide (k < cN c) && isRf c k) = true) (hf : 200 * c + k = fid) (kk : ∀ b : Nat, VB G mi d lo (pc + 3) rest ls (.ref b :: st) M q (y b)) : VB G mi d lo pc ((.getfield idx, 3) :: rest) ls (.ref a :: st) M q (if hT M a = c then (hR M fid a).bind y else none) := by
  simp only [Bool.and_eq_true, decide_eq_true_eq] at hk
  by_cases ht : hT M a = c
  · rw [if_pos ht]
    cases hb : hR M fid a with
    | none => exact V_none
    | some b =>
      refine B_get hl hk.1.1 hk.1.2 ht ?_ (kk b)
      have := hk.2
      unfold isRf at this
      unfold fv
      rw [hf]
      split at this <;> simp_all [va_rf]
  · rw [if_neg ht]; exact V_none
theorem fits_tag {c k : Nat} {v : Value} (h : fits (cT c k) v = true) (hn : narrow (cT c k) v = v) : fits (cT c k) v = true ∧ narrow (cT c k) v = v := ⟨h, hn⟩
theorem c_apart {G : GT} {s : State} (hKn : Kn G s) {c : Nat} (hc : c < 12) : ∀ a b, a < cN c → b < cN c → a ≠ b → (gD G).2 c a ≠ (gD G).2 c b := by
  intro a b ha hb hne
  obtain ⟨hS, -⟩ := hKn.2.1 c hc
  obtain ⟨_, _, _, fa, hia, ea⟩ := hS a ha
  obtain ⟨_, _, _, fb, hib, eb⟩ := hS b hb
  have hts : ∀ w ∈ lw_tbl, w.before #[] s = true := fun w hw => hKn.1 w hw #[]
  rw [← ea, ← eb]
  refine u_apart (u_lays hts (c_in c hc) ha) (u_lays hts (c_in c hc) hb) hia hib ?_
  rw [(State.fieldFound?_type hia (c_ty c hc a ha)).1, (State.fieldFound?_type hib (c_ty c hc b hb)).1]
  exact c_nm c hc a ha b hb hne
/-- a field is written: the new heap is M' -/
theorem B_put {idx c k a : Nat} {v : Value} {M' : PH} (hl : LkF mi.1.cls idx c k) (hc : c < 12) (hk : k < cN c) (hfin : (cF c k).2.2.2 = false ∨ (mi.1.name = "<init>" ∧ mi.1.cls = cR c)) (ht : hT M a = c) (hn : narrow (cT c k) v = v) (hfit : fits (cT c k) v = true)
    (hz : hZ M' = hZ M) (hu' : hU M' = hU M) (hS' : ∀ b : Nat, b ≠ a → SameAt M M' b) (ht' : hT M' a = hT M a) (hv : ∀ j, j < cN c → fv M' c j a = updV (fun k => fv M c k a) k v j) (kk : VB G mi d lo (pc + 3) rest ls st M' q x) : VB G mi d lo pc ((.putfield idx, 3) :: rest) ls (v :: .ref a :: st) M q x := by
  intro hok r hr p l e R s m args below meth c0' c0 u0 hA H locs cells slots jls hRep hlo hc' hu hL
  obtain ⟨h1, h2⟩ := okb_cons hok
  have hKn := hA.2.2.2.2.2.2.2.2.2.1
  have hown := hA.2.2.2.2.2.1
  obtain ⟨cell, q1, q2, q3, q4⟩ := hRep.obj hc ht
  obtain ⟨hS, hfc, kC, hkC, hkind⟩ := hKn.2.1 c hc
  obtain ⟨cf, kf, fi, f, hi, hsl⟩ := hS k hk
  have hts : ∀ w ∈ lw_tbl, w.before args s = true := fun w hw => hKn.1 w hw args
  have hst := (u_facts hfc hkC (u_lays hts (c_in c hc) hk) hi).1
  have hi' : s.fieldFound? (cR c) (cF c k).2.1 (cF c k).2.2.1 = some (cf, kf, fi, f) := by rw [← c_own c hc k]; exact hi
  have hlay := hts _ (c_in c hc _ (u_in_lay hk))
  have hd := c_ty c hc k hk
  have hlt : f.slot < cell.slots.size := by rw [hsl]; exact k2_hasslot (q4 k hk)
  have go : ∀ H' : Heap, H'[a]? = some (cell.setSlot f.slot v) → H'.size = H.size → (∀ q, q ≠ a → H'[q]? = H[q]?) → W p l e R s m args below meth c0' H' (locs ++ [⟨a, f.slot⟩]) cells slots (EndQ G s below c0 u0 (q r)) (F0 m (pc + 3) jls st) := by
    intro H' e1 e2 e3
    rw [hsl] at e1
    have hR' : Rep G M' H' := by
      refine hRep.upd (a := a) (by omega) e2 e3 hz hS' ht' (Or.inl ⟨by rw [ht', ht]; exact hc, ?_⟩)
      rw [ht', ht]
      exact t_OB.to (V := updV (fun k => fv M c k a) k v) ⟨_, e1, q2, q3, t_set q4 (c_apart hKn hc) hk v⟩ (fun j hj => (hv j hj).symm)
    refine kk h2 r hr p l e R s m args below meth c0' c0 u0 hA H' _ cells slots jls hR' ?_ (by rw [hz]; exact hc') (by rw [hu']; exact hu) hL
    intro y hy
    rcases List.mem_append.mp hy with hy | hy
    · exact hlo y hy
    · simp only [List.mem_cons, List.not_mem_nil, or_false] at hy
      subst hy
      exact (hRep.at (a := a) (by omega)).1
  by_cases hff : (cF c k).2.2.2 = true
  · rcases hfin with hfin | ⟨hin, hcl⟩
    · rw [hff] at hfin; cases hfin
    · rcases hl with hl | ⟨host, hl⟩
      · unfold u_lay at hlay
        rw [if_pos hff] at hlay
        have hcf : m.cls = cf := by
          obtain ⟨_, _, c', _, _, _, -, -, hf', -, -, -, hown2, -⟩ := Cond.laysFinal_spec hlay
          have e1 : c' = cf := by have := hi.symm.trans hf'; simp at this; exact this.1.symm
          rw [c_own c hc k, ← hcl] at hown2
          rw [← e1]; exact Option.some.inj (hown.symm.trans hown2)
        have h6 := u_fits hfc hkC hkind (Or.inr hlay) hi hd hn hfit
        exact W.putFinK hA.1 hA.2.1 hown (hts _ hl) hi' hst hcf (hA.2.2.2.2.2.2.1.trans hin) (by rw [q2]; exact h6) q1 q3 hlt rfl rfl h1 go
      · unfold u_lay at hlay
        rw [if_pos hff] at hlay
        have hcf : m.cls = cf := by
          obtain ⟨_, _, c', _, _, _, -, -, hf', -, -, -, hown2, -⟩ := Cond.laysFinal_spec hlay
          have e1 : c' = cf := by have := hi.symm.trans hf'; simp at this; exact this.1.symm
          rw [c_own c hc k, ← hcl] at hown2
          rw [← e1]; exact Option.some.inj (hown.symm.trans hown2)
        have h6 := u_fits hfc hkC hkind (Or.inr hlay) hi hd hn hfit
        refine va_Wputf hA.1 hA.2.1 hown (hts _ hl) hi' hst (Or.inr ⟨hcf, hA.2.2.2.2.2.2.1.trans hin⟩) q1 (by rw [q3]; exact fun h => by cases h) hlt h6.1 (by rw [q3, q2]; exact h6.2) rfl rfl h1 ?_
        have ha : a < H.size := (Array.getElem?_eq_some_iff.mp q1).1
        refine go _ ?_ ?_ ?_
        · simp [Array.getElem?_setIfInBounds, ha]
        · simp
        · intro y hy
          simp [Array.getElem?_setIfInBounds, Ne.symm hy]
  · unfold u_lay at hlay
    rw [if_neg hff] at hlay
    have h6 := u_store hfc hkC hkind hlay hi hd hn hfit
    rcases hl with hl | ⟨host, hl⟩
    · exact W.putK hA.1 hA.2.1 (f := f) ⟨hown, hts _ hl, ⟨_, _, _, hi'⟩, hst⟩ (by rw [q2]; exact h6) q1 q3 hlt rfl rfl h1 go
    · exact va_WputK hA.1 hA.2.1 hown (hts _ hl) hi' hst (by rw [q2]; exact h6) q1 q3 hlt rfl rfl h1 go
end R4
