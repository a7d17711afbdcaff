/-! ===== rows: the thirty growing arrays ===== -/
section P2
def rowA (B j : Nat) : Nat := if j < 3 then B + 27 + 2 * j else B + 37 + 10 * ((j - 3) / 3) + 2 * ((j - 3) % 3)
theorem rowA_inj {B i j : Nat} (hi : i < 30) (hj : j < 30) (h : rowA B i = rowA B j) : i = j := by
  unfold rowA at h
  split at h <;> split at h <;> omega
def cap (M : PH) (r : Nat) : Nat := (hR M 0 r).elim 0 (hN M)
def sumN (f : Nat → Nat) : Nat → Nat
  | 0 => 0
  | n + 1 => sumN f n + f n
theorem sumN_same {f g : Nat → Nat} {n : Nat} (h : ∀ i, i < n → f i = g i) : sumN f n = sumN g n := by
  induction n with
  | zero => rfl
  | succ n ih => unfold sumN; rw [ih (fun i hi => h i (by omega)), h n (by omega)]
theorem sumN_one {f g : Nat → Nat} {n k x : Nat} (hk : k < n) (hx : f k = g k + x) (h : ∀ i, i < n → i ≠ k → f i = g i) : sumN f n = sumN g n + x := by
  induction n with
  | zero => omega
  | succ n ih =>
    unfold sumN
    by_cases e : k = n
    · subst e
      rw [sumN_same (fun i hi => h i (by omega) (by omega)), hx]; omega
    · rw [ih (by omega) (fun i hi hne => h i (by omega) hne), h n (by omega) (fun q => e q.symm)]; omega
def pot (B : Nat) (M : PH) : Nat := sumN (fun j => 65536 - 2 * cap M (rowA B j)) 30
/-- the places where a row's cells may lie -/
def Dyn (B c : Nat) : Prop := (c = B + 28 ∨ c = B + 30 ∨ c = B + 32) ∨ (∃ w t, w < 9 ∧ t < 3 ∧ c = B + 38 + 10 * w + 2 * t) ∨ B + 314 ≤ c
/-- the rows as such -/
def RowsOk (B : Nat) (M : PH) : Prop :=
  (∀ j, j < 30 → hT M (rowA B j) = 0 ∧ ∃ c, hR M 0 (rowA B j) = some c ∧ hT M c = 16 ∧ 64 ≤ hN M c ∧ hN M c ≤ 32768 ∧ c < hZ M ∧ Dyn B c) ∧
  (∀ i j, i < 30 → j < 30 → i ≠ j → hR M 0 (rowA B i) ≠ hR M 0 (rowA B j)) ∧
  (∀ a, hT M a = 0 → ∃ j, j < 30 ∧ a = rowA B j) ∧
  (∀ a, hZ M ≤ a → hT M a = 99) ∧ B + 314 ≤ hZ M
/-- what a step that draws leaves -/
def DS (B : Nat) (M M' : PH) : Prop :=
  hZ M ≤ hZ M' ∧ (∀ a, a < hZ M → hT M' a = hT M a ∧ hN M' a = hN M a ∧ (∀ i, hX M' a i = hX M a i) ∧ ∀ i, hL M' a i = hL M a i) ∧
  (∀ a, a < hZ M → hT M a ≠ 0 → ri M' a = ri M a) ∧ (∀ f a, f ≠ 0 → hR M' f a = hR M f a) ∧ ∀ a, a < hZ M → ¬ Dyn B a → hA M' a = hA M a
theorem DS.rf {B : Nat} {M : PH} : DS B M M := ⟨Nat.le_refl _, fun _ _ => ⟨rfl, rfl, fun _ => rfl, fun _ => rfl⟩, fun _ _ _ => rfl, fun _ _ _ => rfl, fun _ _ _ => rfl⟩
theorem DS.tr {B : Nat} {M M1 M2 : PH} (h : DS B M M1) (k : DS B M1 M2) : DS B M M2 := by
  obtain ⟨h1, h2, h3, h4, h5⟩ := h
  obtain ⟨k1, k2, k3, k4, k5⟩ := k
  refine ⟨Nat.le_trans h1 k1, fun a ha => ?_, fun a ha ht => ?_, fun f a hf => (k4 f a hf).trans (h4 f a hf), fun a ha hd => (k5 a (Nat.lt_of_lt_of_le ha h1) hd).trans (h5 a ha hd)⟩
  · obtain ⟨a1, a2, a3, a4⟩ := h2 a ha
    obtain ⟨b1, b2, b3, b4⟩ := k2 a (Nat.lt_of_lt_of_le ha h1)
    exact ⟨b1.trans a1, b2.trans a2, fun i => (b3 i).trans (a3 i), fun i => (b4 i).trans (a4 i)⟩
  · exact (k3 a (Nat.lt_of_lt_of_le ha h1) (by rw [(h2 a ha).1]; exact ht)).trans (h3 a ha ht)
/-- the row at r holds the list l -/
def RowL (M : PH) (r : Nat) (l : List Int32) : Prop := ri M r 1 = nI l.length ∧ ∃ c, hR M 0 r = some c ∧ l.length ≤ hN M c ∧ ∀ i, i < l.length → hA M c i = l.getD i 0
/-- the room that is left for n operations -/
def Room (G : GT) (B n : Nat) (M : PH) : Prop := hU M + pot B M + 6 * n ≤ 3000000 ∧ 6 * hZ M ≤ hU M + 6 * gB G + 3000 ∧ gS G = 7293034 ∧ gC G = gB G + 601024
theorem ci_nn {n : Nat} (h : n < 2 ^ 31) : (nI n).toNatClampNeg = n := nI_clamp h
theorem ib_nI {n N : Nat} (h : n < N) (hN : N < 2 ^ 31) : ib (nI n) N = true := by
  simp only [ib, Bool.and_eq_true, decide_eq_true_eq]
  exact ⟨nI_pos' (by omega), by rw [nI_clamp (by omega)]; exact h⟩
theorem pot_le (B : Nat) (M : PH) {j : Nat} (hj : j < 30) : 65536 - 2 * cap M (rowA B j) ≤ pot B M := by
  unfold pot
  have : ∀ n, j < n → 65536 - 2 * cap M (rowA B j) ≤ sumN (fun j => 65536 - 2 * cap M (rowA B j)) n := by
    intro n
    induction n with
    | zero => intro h; omega
    | succ n ih =>
      intro h
      unfold sumN
      by_cases e : j = n
      · subst e; omega
      · have := ih (by omega); omega
  exact this 30 hj
/-- the last steps of Row.add: there is room in the cells -/
theorem e_Row_add0 {G : GT} {M : PH} {r c n : Nat} {v : Int32} (h0 : hT M r = 0) (hc : hR M 0 r = some c) (h16 : hT M c = 16) (hn : ri M r 1 = nI n) (hlt : n < hN M c) (hcap : hN M c ≤ 32768) : b_Row_add_40 G r v M = some (wR (wA M c (va_up (hA M c) n v)) r (va_up (ri M r) 1 (nI (n + 1)))) := by
  have hib : ib (nI n) (hN M c) = true := ib_nI hlt (by omega)
  have hcl : (nI n).toNatClampNeg = n := nI_clamp (by omega)
  simp only [b_Row_add_40, h0, hc, h16, not_true, not_false_iff, eq_self, ↓reduceIte, bV_s, bI_s, bR_s, bT_0, bU_0, ob_s, hb_e, vb_e, if_true, if_false, ite_true, ite_false, hT_wR, hT_wA, hT_sI, hT_sA, hT_sR, hT_sX, hT_sL, hN_wR, hN_wA, hN_sI, hN_sA, hN_sR, hN_sX, hN_sL, hR_wR, hR_wA, hR_sI, hR_sA, hR_sX, hR_sL, hX_wR, hX_wA, hX_sI, hX_sA, hX_sR, hX_sL, hI_ri, sI_wR, sA_wA, ri_wR_self, ri_wA, ri_sA, ri_sR, ri_sX, ri_sL, hA_wA_self, hA_wR, hA_sI, hA_sR, hA_sX, hA_sL, wR_wR, wA_wA, wR_ri, wA_hA, vu_self, vu_vu, vu_at, hZ_wR, hZ_wA, hU_wR, hU_wA, hn, hib, hcl, nI_succ]
/-- what Row.add gives -/
def Added (G : GT) (B n j : Nat) (l : List Int32) (v : Int32) (M M' : PH) : Prop :=
  RowL M' (rowA B j) (l ++ [v]) ∧ RowsOk B M' ∧ Room G B n M' ∧ DS B M M' ∧ ∀ i, i < 30 → i ≠ j → ∀ l', RowL M (rowA B i) l' → RowL M' (rowA B i) l'
theorem e_Row_in {G : GT} {B n j c : Nat} {l : List Int32} {v : Int32} {M : PH} (hj : j < 30) (I : RowsOk B M) (hl : RowL M (rowA B j) l) (R : Room G B n M) (hc : hR M 0 (rowA B j) = some c) (hlt : l.length < hN M c) : ∃ M', b_Row_add_40 G (rowA B j) v M = some M' ∧ Added G B n j l v M M' := by
  obtain ⟨i1, i2, i3, i4, i5⟩ := id I
  obtain ⟨t0, c', hc', t16, c64, cmx, cz, cd⟩ := i1 j hj
  cases hc.symm.trans hc'
  refine ⟨_, e_Row_add0 t0 hc t16 hl.1 hlt cmx, ?_, I, R, ?_, ?_⟩
  · refine ⟨?_, c, hc, ?_, ?_⟩
    · rw [ri_wR_self, vu_at]; simp
    · show (l ++ [v]).length ≤ hN M c
      simp; omega
    · intro i hi
      rw [hA_wR, hA_wA_self]
      simp only [List.length_append, List.length_singleton] at hi
      by_cases e : i = l.length
      · subst e; rw [vu_at]; simp
      · rw [vu_ne e]
        obtain ⟨-, c2, h2, -, h3⟩ := hl
        cases hc.symm.trans h2
        rw [h3 i (by omega)]
        simp [List.getD_eq_getElem?_getD, List.getElem?_append_left (show i < l.length by omega)]
  · refine ⟨Nat.le_refl _, fun a ha => ⟨rfl, rfl, fun _ => rfl, fun _ => rfl⟩, fun a ha ht => ?_, fun f a _ => rfl, fun a ha hd => ?_⟩
    · rw [ri_wR_ne (fun q => ht (by rw [q]; exact t0)), ri_wA]
    · rw [hA_wR, hA_wA_ne (fun q => hd (by rw [q]; exact cd))]
  · intro i hi hne l' hl'
    obtain ⟨g1, c2, g2, g3, g4⟩ := hl'
    refine ⟨?_, c2, g2, g3, fun k hk => ?_⟩
    · rw [ri_wR_ne (fun q => hne (rowA_inj hi hj q)), ri_wA]; exact g1
    · rw [hA_wR, hA_wA_ne (fun q => i2 i j hi hj hne (by rw [g2, hc, q]))]; exact g4 k hk
/-- the row's cells grow -/
def grown (M : PH) (r c n : Nat) : PH := sR (cA (nA M 16 (2 * n)) c 0 (hZ M) 0 n) 0 r (some (hZ M))
theorem gr_T {M : PH} {r c n a : Nat} : hT (grown M r c n) a = if a = hZ M then 16 else hT M a := Eq.trans rfl rfl
theorem gr_N {M : PH} {r c n a : Nat} : hN (grown M r c n) a = if a = hZ M then 2 * n else hN M a := Eq.trans rfl rfl
theorem gr_R {M : PH} {r c n a f : Nat} : hR (grown M r c n) f a = if f = 0 ∧ a = r then some (hZ M) else hR M f a := Eq.trans rfl rfl
theorem gr_Z {M : PH} {r c n : Nat} : hZ (grown M r c n) = hZ M + 1 := Eq.trans rfl rfl
theorem gr_U {M : PH} {r c n : Nat} : hU (grown M r c n) = hU M + 2 * n := Eq.trans rfl rfl
theorem gr_I {M : PH} {r c n a : Nat} : ri (grown M r c n) a = ri M a := Eq.trans rfl rfl
theorem gr_A {M : PH} {r c n a : Nat} (h : a ≠ hZ M) : hA (grown M r c n) a = hA M a := by
  funext i
  show (if a = hZ M then va_cpy _ _ 0 0 n i else (if a = hZ M then 0 else hA M a i)) = hA M a i
  rw [if_neg h, if_neg h]
theorem gr_Az {M : PH} {r c n i : Nat} (hc : c ≠ hZ M) (hi : i < n) : hA (grown M r c n) (hZ M) i = hA M c i := by
  show (if hZ M = hZ M then va_cpy (fun i => if c = hZ M then 0 else hA M c i) (fun i => if hZ M = hZ M then 0 else hA M (hZ M) i) 0 0 n i else _) = hA M c i
  rw [if_pos rfl]
  unfold va_cpy
  rw [if_pos ⟨Nat.zero_le _, by omega⟩]
  simp [hc]
theorem e_Row_add {G : GT} {B n j : Nat} {l : List Int32} (v : Int32) {M : PH} (hj : j < 30) (I : RowsOk B M) (hl : RowL M (rowA B j) l) (hlen : l.length ≤ 16000) (R : Room G B n M) : ∃ M', f_Row_add G (rowA B j) v M = some M' ∧ Added G B n j l v M M' := by
  obtain ⟨i1, i2, i3, i4, i5⟩ := id I
  obtain ⟨t0, c, hc, t16, c64, cmx, cz, cd⟩ := i1 j hj
  obtain ⟨l1, c', hc', l2, l3⟩ := id hl
  cases hc.symm.trans hc'
  by_cases hlt : l.length < hN M c
  · obtain ⟨M', e, h⟩ := e_Row_in (v := v) hj I hl R hc hlt
    refine ⟨M', ?_, h⟩
    have hne : ¬ nI l.length = nI (hN M c) := fun q => by
      have := (nI_eq (by omega) (by omega)).mp q
      omega
    simp only [f_Row_add, t0, hc, t16, not_true, not_false_iff, eq_self, ↓reduceIte, bV_s, bI_s, bR_s, bT_0, bU_0, ob_s, hb_e, vb_e, if_true, if_false, ite_true, ite_false, hI_ri, l1, hne, not_false_iff, e]
  · have hcap : hN M c = l.length := by omega
    obtain ⟨R1, R2, R3, R4⟩ := id R
    have hpot := pot_le B M hj
    have hcapr : cap M (rowA B j) = l.length := by simp [cap, hc, hcap]
    rw [hcapr] at hpot
    have hzc : c ≠ hZ M := by omega
    have hzr : rowA B j ≠ hZ M := fun q => by
      have := i4 (rowA B j) (by omega)
      rw [t0] at this; cases this
    have h2n : (2 : Int32) * nI l.length = nI (2 * l.length) := by
      have := pk_mul 2 l.length
      exact this
    have hcl2 : (nI (2 * l.length)).toNatClampNeg = 2 * l.length := nI_clamp (by omega)
    have hcl1 : (nI l.length).toNatClampNeg = l.length := nI_clamp (by omega)
    have hp2 : (0 : Int32) ≤ nI (2 * l.length) := nI_pos' (by omega)
    have hp1 : (0 : Int32) ≤ nI l.length := nI_pos' (by omega)
    have hTr : hT (nA M 16 (2 * l.length)) (rowA B j) = 0 := by
      show (if rowA B j = hZ M then 16 else hT M (rowA B j)) = 0
      rw [if_neg hzr]; exact t0
    have hTc : hT (nA M 16 (2 * l.length)) c = 16 := by
      show (if c = hZ M then 16 else hT M c) = 16
      rw [if_neg hzc]; exact t16
    have hTz : hT (nA M 16 (2 * l.length)) (hZ M) = 16 := nA_T
    have hNc : hN (nA M 16 (2 * l.length)) c = l.length := by
      show (if c = hZ M then 2 * l.length else hN M c) = _
      rw [if_neg hzc]; exact hcap
    have hNz : hN (nA M 16 (2 * l.length)) (hZ M) = 2 * l.length := nA_N
    have hRc : hR (nA M 16 (2 * l.length)) 0 (rowA B j) = some c := hc
    have hrI : ∀ a, ri (nA M 16 (2 * l.length)) a = ri M a := fun a => Eq.trans rfl rfl
    have hz0 : (0 : Int32).toNatClampNeg = 0 := rfl
    -- the grown heap
    have hI' : RowsOk B (grown M (rowA B j) c l.length) := by
      refine ⟨fun i hi => ?_, fun a b ha hb hne => ?_, fun a ha => ?_, fun a ha => ?_, by rw [gr_Z]; omega⟩
      · obtain ⟨u0, c2, u1, u2, u3, u4, u5, u6⟩ := i1 i hi
        have hzi : rowA B i ≠ hZ M := fun q => by
          have := i4 (rowA B i) (by omega)
          rw [u0] at this; cases this
        refine ⟨by rw [gr_T, if_neg hzi]; exact u0, ?_⟩
        by_cases e : i = j
        · subst e
          exact ⟨hZ M, by rw [gr_R, if_pos ⟨rfl, rfl⟩], by rw [gr_T, if_pos rfl], by rw [gr_N, if_pos rfl]; omega, by rw [gr_N, if_pos rfl]; omega, by rw [gr_Z]; omega, Or.inr (Or.inr (by omega))⟩
        · have hne : c2 ≠ hZ M := by omega
          exact ⟨c2, by rw [gr_R, if_neg (fun q => e (rowA_inj hi hj q.2))]; exact u1, by rw [gr_T, if_neg hne]; exact u2, by rw [gr_N, if_neg hne]; exact u3, by rw [gr_N, if_neg hne]; exact u4, by rw [gr_Z]; omega, u6⟩
      · rw [gr_R, gr_R]
        have old : ∀ i, i < 30 → hR M 0 (rowA B i) ≠ some (hZ M) := fun i hi q => by
          obtain ⟨-, c2, u1, -, -, -, u5, -⟩ := i1 i hi
          rw [u1] at q; cases q; omega
        by_cases e1 : a = j
        · subst e1
          rw [if_pos ⟨rfl, rfl⟩, if_neg (fun q => hne (rowA_inj hb ha q.2).symm)]
          exact fun q => old b hb q.symm
        · rw [if_neg (fun q => e1 (rowA_inj ha hj q.2))]
          by_cases e2 : b = j
          · subst e2
            rw [if_pos ⟨rfl, rfl⟩]
            exact old a ha
          · rw [if_neg (fun q => e2 (rowA_inj hb hj q.2))]
            exact i2 a b ha hb hne
      · rw [gr_T] at ha
        split at ha
        · cases ha
        · exact i3 a ha
      · rw [gr_Z] at ha
        rw [gr_T, if_neg (by omega)]
        exact i4 a (by omega)
    have hpot' : pot B M = pot B (grown M (rowA B j) c l.length) + 2 * l.length := by
      unfold pot
      refine sumN_one hj ?_ (fun i hi hne => ?_)
      · have e2 : cap (grown M (rowA B j) c l.length) (rowA B j) = 2 * l.length := by
          unfold cap
          rw [gr_R, if_pos ⟨rfl, rfl⟩]
          simp [gr_N]
        rw [e2, hcapr]
        omega
      · have e2 : cap (grown M (rowA B j) c l.length) (rowA B i) = cap M (rowA B i) := by
          obtain ⟨-, c2, u1, -, -, -, u5, -⟩ := i1 i hi
          unfold cap
          rw [gr_R, if_neg (fun q => hne (rowA_inj hi hj q.2)), u1]
          simp only [Option.elim]
          rw [gr_N, if_neg (by omega)]
        rw [e2]
    have hR' : Room G B n (grown M (rowA B j) c l.length) := ⟨by rw [gr_U]; omega, by rw [gr_Z, gr_U]; omega, R3, R4⟩
    have hL' : RowL (grown M (rowA B j) c l.length) (rowA B j) l := by
      refine ⟨by rw [gr_I]; exact l1, hZ M, by rw [gr_R, if_pos ⟨rfl, rfl⟩], by rw [gr_N, if_pos rfl]; omega, fun i hi => ?_⟩
      rw [gr_Az hzc hi]
      exact l3 i hi
    obtain ⟨M', e, g1, g2, g3, g4, g5⟩ := e_Row_in (v := v) (G := G) hj hI' hL' hR' (c := hZ M) (by rw [gr_R, if_pos ⟨rfl, rfl⟩]) (by rw [gr_N, if_pos rfl]; omega)
    refine ⟨M', ?_, g1, g2, g3, DS.tr ?_ g4, fun i hi hne l' hl' => g5 i hi hne l' ?_⟩
    · have hcond : (0 : Int32) ≤ nI (2 * l.length) ∧ 2 * l.length ≤ 1000000 ∧ hZ M < gC G ∧ hU M + 2 * l.length ≤ gS G := ⟨hp2, by omega, by omega, by omega⟩
      have hcond2 : ((16 : Nat) = 16 ∧ (16 : Nat) = 16) ∧ ((0 : Int32) ≤ 0 ∧ (0 : Int32) ≤ 0 ∧ (0 : Int32) ≤ nI l.length) ∧ 0 + l.length ≤ l.length ∧ 0 + l.length ≤ 2 * l.length := ⟨⟨rfl, rfl⟩, ⟨by decide, by decide, hp1⟩, by omega, by omega⟩
      simp only [f_Row_add, t0, hc, t16, not_true, not_false_iff, eq_self, ↓reduceIte, bV_s, bI_s, bR_s, bT_0, bU_0, ob_s, hb_e, vb_e, if_true, if_false, ite_true, ite_false, hI_ri, l1, hcap, not_true, h2n, hcl2, hcond, hTr, hRc, hTc, hTz, hNc, hNz, hrI, hcl1, hz0, hcond2]
      simp only [and_self, if_true]
      exact e
    · refine ⟨by rw [gr_Z]; omega, fun a ha => ⟨by rw [gr_T, if_neg (by omega)], by rw [gr_N, if_neg (by omega)], fun i => ?_, fun i => ?_⟩, fun a ha ht => gr_I, fun f a hf => by rw [gr_R, if_neg (fun q => hf q.1)], fun a ha hd => gr_A (by omega)⟩
      · show (if a = hZ M then none else hX M a i) = _
        rw [if_neg (by omega)]
      · show (if a = hZ M then 0 else hL M a i) = _
        rw [if_neg (by omega)]
    · obtain ⟨q1, c2, q2, q3, q4⟩ := hl'
      obtain ⟨-, c3, u1, -, -, -, u5, -⟩ := i1 i hi
      cases q2.symm.trans u1
      exact ⟨by rw [gr_I]; exact q1, c2, by rw [gr_R, if_neg (fun q => hne (rowA_inj hi hj q.2))]; exact q2, by rw [gr_N, if_neg (by omega)]; exact q3, fun k hk => by rw [gr_A (by omega)]; exact q4 k hk⟩
end P2
