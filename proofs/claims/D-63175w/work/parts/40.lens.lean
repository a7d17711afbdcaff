/-! ===== plain Lean from here on: the heap as records by address ===== -/
section P0
variable {M : PH} {f a b i j k n t c : Nat} {v w : Int32} {g g' : Nat → Int32} {r : Option Nat} {x : Int64} {α : Type}
/-- the int fields of the object at a -/
def ri (M : PH) (a : Nat) : Nat → Int32 := fun f => M.1 f a
def wR (M : PH) (a : Nat) (g : Nat → Int32) : PH := (fun f b => if b = a then g f else M.1 f b, M.2)
def wA (M : PH) (a : Nat) (g : Nat → Int32) : PH := (M.1, fun b => if b = a then g else M.2.1 b, M.2.2)
theorem hI_ri : hI M f a = ri M a f := Eq.trans rfl rfl
theorem ri_wR_self : ri (wR M a g) a = g := by funext f; simp [ri, wR]
theorem ri_wR_ne (h : b ≠ a) : ri (wR M a g) b = ri M b := by funext f; simp [ri, wR, h]
theorem ri_wA : ri (wA M a g) b = ri M b := Eq.trans rfl rfl
theorem ri_sA : ri (sA M a i v) b = ri M b := Eq.trans rfl rfl
theorem ri_sR : ri (sR M f a r) b = ri M b := Eq.trans rfl rfl
theorem ri_sX : ri (sX M a i r) b = ri M b := Eq.trans rfl rfl
theorem ri_sL : ri (sL M a i x) b = ri M b := Eq.trans rfl rfl
theorem ri_cA {sp dp : Nat} : ri (cA M a sp b dp n) j = ri M j := Eq.trans rfl rfl
theorem hA_wA_self : hA (wA M a g) a = g := by funext f; simp [hA, wA]
theorem hA_wA_ne (h : b ≠ a) : hA (wA M a g) b = hA M b := by funext f; simp [hA, wA, h]
theorem hA_wR : hA (wR M a g) b = hA M b := Eq.trans rfl rfl
theorem hA_sI : hA (sI M f a v) b = hA M b := Eq.trans rfl rfl
theorem hA_sR : hA (sR M f a r) b = hA M b := Eq.trans rfl rfl
theorem hA_sX : hA (sX M a i r) b = hA M b := Eq.trans rfl rfl
theorem hA_sL : hA (sL M a i x) b = hA M b := Eq.trans rfl rfl
theorem sI_wR : sI M f a v = wR M a (va_up (ri M a) f v) := by
  unfold sI wR
  congr 1
  funext f' b
  unfold up2 va_up ri
  by_cases h : b = a <;> by_cases h2 : f' = f <;> simp [h, h2]
theorem sA_wA : sA M a i v = wA M a (va_up (hA M a) i v) := by
  unfold sA wA
  congr 2
  funext b j
  unfold up2 va_up hA
  by_cases h : b = a
  · subst h; by_cases h2 : j = i <;> simp [h2]
  · simp [h]
theorem wR_wR : wR (wR M a g) a g' = wR M a g' := by
  unfold wR
  congr 1
  funext f b
  by_cases h : b = a <;> simp [h]
theorem wA_wA : wA (wA M a g) a g' = wA M a g' := by
  unfold wA
  congr 2
  funext b
  by_cases h : b = a <;> simp [h]
theorem wR_ri : wR M a (ri M a) = M := by
  unfold wR ri
  have : (fun f b => if b = a then M.1 f a else M.1 f b) = M.1 := by
    funext f b
    by_cases h : b = a <;> simp [h]
  rw [this]
theorem wA_hA : wA M a (hA M a) = M := by
  unfold wA hA
  have : (fun b => if b = a then M.2.1 a else M.2.1 b) = M.2.1 := by
    funext b
    by_cases h : b = a <;> simp [h]
  rw [this]
theorem wR_comm (h : a ≠ b) : wR (wR M a g) b g' = wR (wR M b g') a g := by
  unfold wR
  congr 1
  funext f c
  by_cases h1 : c = a
  · subst h1; simp [h]
  · by_cases h2 : c = b
    · subst h2; simp [h1]
    · simp [h1, h2]
theorem wA_wR : wA (wR M a g) b g' = wR (wA M b g') a g := Eq.trans rfl rfl
theorem vu_self {β : Type} {h : Nat → β} : va_up h k (h k) = h := by funext j; unfold va_up; split <;> simp_all
theorem vu_vu {β : Type} {h : Nat → β} {x y : β} : va_up (va_up h k x) k y = va_up h k y := by funext j; unfold va_up; split <;> rfl
theorem vu_at {β : Type} {h : Nat → β} {x : β} : va_up h k x k = x := by simp [va_up]
theorem vu_ne {β : Type} {h : Nat → β} {x : β} (e : j ≠ k) : va_up h k x j = h j := by simp [va_up, e]
theorem hT_wR : hT (wR M a g) b = hT M b := Eq.trans rfl rfl
theorem hT_wA : hT (wA M a g) b = hT M b := Eq.trans rfl rfl
theorem hT_sI : hT (sI M f a v) b = hT M b := Eq.trans rfl rfl
theorem hT_sA : hT (sA M a i v) b = hT M b := Eq.trans rfl rfl
theorem hT_sR : hT (sR M f a r) b = hT M b := Eq.trans rfl rfl
theorem hT_sX : hT (sX M a i r) b = hT M b := Eq.trans rfl rfl
theorem hT_sL : hT (sL M a i x) b = hT M b := Eq.trans rfl rfl
theorem hN_wR : hN (wR M a g) b = hN M b := Eq.trans rfl rfl
theorem hN_wA : hN (wA M a g) b = hN M b := Eq.trans rfl rfl
theorem hN_sI : hN (sI M f a v) b = hN M b := Eq.trans rfl rfl
theorem hN_sA : hN (sA M a i v) b = hN M b := Eq.trans rfl rfl
theorem hN_sR : hN (sR M f a r) b = hN M b := Eq.trans rfl rfl
theorem hN_sX : hN (sX M a i r) b = hN M b := Eq.trans rfl rfl
theorem hN_sL : hN (sL M a i x) b = hN M b := Eq.trans rfl rfl
theorem hR_wR : hR (wR M a g) f b = hR M f b := Eq.trans rfl rfl
theorem hR_wA : hR (wA M a g) f b = hR M f b := Eq.trans rfl rfl
theorem hR_sI {f' : Nat} : hR (sI M f a v) f' b = hR M f' b := Eq.trans rfl rfl
theorem hR_sA : hR (sA M a i v) f b = hR M f b := Eq.trans rfl rfl
theorem hR_sX : hR (sX M a i r) f b = hR M f b := Eq.trans rfl rfl
theorem hR_sL : hR (sL M a i x) f b = hR M f b := Eq.trans rfl rfl
theorem hR_sR_self : hR (sR M f a r) f a = r := by simp [hR, sR, up2]
theorem hR_sR_ne {f' : Nat} (h : ¬ (f' = f ∧ b = a)) : hR (sR M f a r) f' b = hR M f' b := by simp [hR, sR, up2, h]
theorem hX_wR : hX (wR M a g) b i = hX M b i := Eq.trans rfl rfl
theorem hX_wA : hX (wA M a g) b i = hX M b i := Eq.trans rfl rfl
theorem hX_sI : hX (sI M f a v) b i = hX M b i := Eq.trans rfl rfl
theorem hX_sA : hX (sA M a i v) b j = hX M b j := Eq.trans rfl rfl
theorem hX_sR : hX (sR M f a r) b i = hX M b i := Eq.trans rfl rfl
theorem hX_sL : hX (sL M a i x) b j = hX M b j := Eq.trans rfl rfl
theorem hL_wR : hL (wR M a g) b i = hL M b i := Eq.trans rfl rfl
theorem hL_wA : hL (wA M a g) b i = hL M b i := Eq.trans rfl rfl
theorem hZ_wR : hZ (wR M a g) = hZ M := Eq.trans rfl rfl
theorem hZ_wA : hZ (wA M a g) = hZ M := Eq.trans rfl rfl
theorem hZ_sR : hZ (sR M f a r) = hZ M := Eq.trans rfl rfl
theorem hU_wR : hU (wR M a g) = hU M := Eq.trans rfl rfl
theorem hU_wA : hU (wA M a g) = hU M := Eq.trans rfl rfl
theorem hU_sR : hU (sR M f a r) = hU M := Eq.trans rfl rfl
theorem bV_s {y : PH → Option α} : bV (some M) y = y M := Eq.trans rfl rfl
theorem bI_s {y : Int32 → PH → Option α} : bI (some (v, M)) y = y v M := Eq.trans rfl rfl
theorem bR_s {y : Nat → PH → Option α} : bR (some (a, M)) y = y a M := Eq.trans rfl rfl
theorem bT_0 {y : PH → Option (Nat × Int32 × PH)} : bT (some (0, M)) y = y M := Eq.trans rfl rfl
theorem bT_s {y : PH → Option (Nat × Int32 × PH)} (h : k ≠ 0) : bT (some (k, M)) y = some (k, 0, M) := by simp [bT, thT, h]
theorem bU_0 {y : PH → Option (Nat × PH)} : bU (some (0, M)) y = y M := Eq.trans rfl rfl
theorem bU_s {y : PH → Option (Nat × PH)} (h : k ≠ 0) : bU (some (k, M)) y = some (k, M) := by simp [bU, thU, h]
theorem ob_s {β : Type} {y : Nat → Option β} : (some a).bind y = y a := Eq.trans rfl rfl
theorem hb_e {y : PH → Option α} : hb M y = y M := Eq.trans rfl rfl
theorem vb_e {y : Int32 → Option α} : vb v y = y v := Eq.trans rfl rfl
theorem ite_and_some {P Q : Prop} [Decidable P] [Decidable Q] {A B : α} (h : P ↔ Q) : (if P then A else B) = (if Q then A else B) := by simp only [h]
end P0
