/-! laying a pattern: plain -/
def nn : Pat → Nat
  | .neg p => nn p
  | .add p q => nn p + nn q + 1
  | _ => 0
/-- what the pins cost in the best way (CellMapper's lay) -/
def xl (K X Y ro C : Int → Int) : Pat → Int → Int → Int
  | .var _, n, _ => if 2 ≤ K n ∧ ro n = 0 then C n else 0
  | .neg p, n, t => if K n = 3 ∧ (t ≠ 0 ∨ ro n = 0) then xl K X Y ro C p (X n) 0 else 268435456
  | .add p q, n, t => if K n = 2 ∧ (t ≠ 0 ∨ ro n = 0) then (let a := xl K X Y ro C p (X n) 0 + xl K X Y ro C q (Y n) 0; let b := xl K X Y ro C p (Y n) 0 + xl K X Y ro C q (X n) 0; let a' := if a < 268435456 then a else 268435456; let b' := if b < 268435456 then b else 268435456; if b' < a' then b' else a') else 268435456
  | _, _, _ => 268435456
/-- straight and swapped -/
def xst (K X Y ro C : Int → Int) (p q : Pat) (n : Int) : Int := let a := xl K X Y ro C p (X n) 0 + xl K X Y ro C q (Y n) 0; if a < 268435456 then a else 268435456
def xsw (K X Y ro C : Int → Int) (p q : Pat) (n : Int) : Int := let b := xl K X Y ro C p (Y n) 0 + xl K X Y ro C q (X n) 0; if b < 268435456 then b else 268435456
/-- the first of the best ways, as swaps; and the nodes of its pins -/
def xs (K X Y ro C : Int → Int) : Pat → Int → Int
  | .neg p, n => xs K X Y ro C p (X n)
  | .add p q, n => if xsw K X Y ro C p q n < xst K X Y ro C p q n then 2 ^ (nn p + nn q) + xs K X Y ro C p (Y n) * 2 ^ nn q + xs K X Y ro C q (X n) else xs K X Y ro C p (X n) * 2 ^ nn q + xs K X Y ro C q (Y n)
  | _, _ => 0
def xp (K X Y ro C : Int → Int) : Pat → Int → List Int
  | .neg p, n => xp K X Y ro C p (X n)
  | .add p q, n => if xsw K X Y ro C p q n < xst K X Y ro C p q n then xp K X Y ro C p (Y n) ++ xp K X Y ro C q (X n) else xp K X Y ro C p (X n) ++ xp K X Y ro C q (Y n)
  | _, n => [n]
/-- the cost of laying with given swaps; its pins (the model's lay) -/
def lyo (K X Y ro C : Int → Int) : Pat → Int → Int → Int → Option Int
  | .var _, n, _, _ => some (if 2 ≤ K n ∧ ro n = 0 then C n else 0)
  | .neg p, n, t, s => if K n = 3 ∧ (t ≠ 0 ∨ ro n = 0) then lyo K X Y ro C p (X n) 0 s else none
  | .add p q, n, t, s => if K n = 2 ∧ (t ≠ 0 ∨ ro n = 0) then (match lyo K X Y ro C p (if s / 2 ^ (nn p + nn q) % 2 = 1 then Y n else X n) 0 (s / 2 ^ nn q) with
    | none => none
    | some a => match lyo K X Y ro C q (if s / 2 ^ (nn p + nn q) % 2 = 1 then X n else Y n) 0 s with
      | none => none
      | some b => some (a + b)) else none
  | _, _, _, _ => none
def lyp (X Y : Int → Int) : Pat → Int → Int → List Int
  | .neg p, n, s => lyp X Y p (X n) s
  | .add p q, n, s => lyp X Y p (if s / 2 ^ (nn p + nn q) % 2 = 1 then Y n else X n) (s / 2 ^ nn q) ++ lyp X Y q (if s / 2 ^ (nn p + nn q) % 2 = 1 then X n else Y n) s
  | _, n, _ => [n]
section
variable {K X Y ro C : Int → Int}
theorem xs_b : ∀ (P : Pat) (n : Int), 0 ≤ xs K X Y ro C P n ∧ xs K X Y ro C P n < 2 ^ nn P
  | .var _, n => by simp [xs, nn]
  | .num _, n => by simp [xs, nn]
  | .sub _ _, n => by simp [xs, nn]
  | .mulL _ _, n => by simp [xs, nn]
  | .mulR _ _, n => by simp [xs, nn]
  | .neg p, n => by
    simp only [xs, nn]
    exact xs_b p _
  | .add p q, n => by
    have cb : ∀ a b : Int, 0 ≤ a → a < 2 ^ nn p → 0 ≤ b → b < 2 ^ nn q → 0 ≤ a * 2 ^ nn q + b ∧ a * 2 ^ nn q + b < 2 ^ (nn p + nn q) := fun a b a0 a1 b0 b1 => by
      have hq : (0 : Int) < 2 ^ nn q := Int.pow_pos (by decide)
      have h1 : 0 ≤ a * 2 ^ nn q := Int.mul_nonneg a0 (by omega)
      have h2 : (a + 1) * 2 ^ nn q ≤ 2 ^ nn p * 2 ^ nn q := Int.mul_le_mul_of_nonneg_right (by omega) (by omega)
      rw [Int.add_mul, Int.one_mul] at h2
      rw [Int.pow_add]
      omega
    have hs : (2 : Int) ^ (nn p + nn q + 1) = 2 ^ (nn p + nn q) * 2 := Int.pow_succ ..
    simp only [xs, nn]
    rw [hs]
    have h0 : (0 : Int) < 2 ^ (nn p + nn q) := Int.pow_pos (by decide)
    split
    · have := cb _ _ (xs_b p (Y n)).1 (xs_b p (Y n)).2 (xs_b q (X n)).1 (xs_b q (X n)).2
      omega
    · have := cb _ _ (xs_b p (X n)).1 (xs_b p (X n)).2 (xs_b q (Y n)).1 (xs_b q (Y n)).2
      omega
/-- only the low bits count -/
theorem bit_add (s a : Int) (k m : Nat) (h : k < m) : (s + a * 2 ^ m) / 2 ^ k % 2 = s / 2 ^ k % 2 := by
  obtain ⟨j, rfl⟩ : ∃ j, m = k + 1 + j := ⟨m - k - 1, by omega⟩
  have hpos : (0 : Int) < 2 ^ k := Int.pow_pos (by decide)
  have e2 : a * 2 ^ (k + 1 + j) = (2 * (a * 2 ^ j)) * 2 ^ k := by
    rw [Int.pow_add, Int.pow_succ]
    ac_rfl
  rw [e2, Int.add_mul_ediv_right _ _ (by omega)]
  omega
theorem div_add (s a : Int) (k m : Nat) (h : k ≤ m) : (s + a * 2 ^ m) / 2 ^ k = s / 2 ^ k + a * 2 ^ (m - k) := by
  have hpos : (0 : Int) < 2 ^ k := Int.pow_pos (by decide)
  have e2 : a * 2 ^ m = (a * 2 ^ (m - k)) * 2 ^ k := by
    rw [Int.mul_assoc, ← Int.pow_add, Nat.sub_add_cancel h]
  rw [e2, Int.add_mul_ediv_right _ _ (by omega)]
theorem lyo_add : ∀ (P : Pat) (n t s a : Int) (m : Nat), nn P ≤ m → lyo K X Y ro C P n t (s + a * 2 ^ m) = lyo K X Y ro C P n t s
  | .var _, n, t, s, a, m, h => rfl
  | .num _, n, t, s, a, m, h => rfl
  | .sub _ _, n, t, s, a, m, h => rfl
  | .mulL _ _, n, t, s, a, m, h => rfl
  | .mulR _ _, n, t, s, a, m, h => rfl
  | .neg p, n, t, s, a, m, h => by
    simp only [lyo]
    rw [lyo_add p (X n) 0 s a m h]
  | .add p q, n, t, s, a, m, h => by
    simp only [nn] at h
    simp only [lyo]
    rw [bit_add s a _ m (by omega), div_add s a _ m (by omega), lyo_add p _ 0 _ a (m - nn q) (by omega), lyo_add q _ 0 s a m (by omega)]
theorem lyp_add : ∀ (P : Pat) (n s a : Int) (m : Nat), nn P ≤ m → lyp X Y P n (s + a * 2 ^ m) = lyp X Y P n s
  | .var _, n, s, a, m, h => rfl
  | .num _, n, s, a, m, h => rfl
  | .sub _ _, n, s, a, m, h => rfl
  | .mulL _ _, n, s, a, m, h => rfl
  | .mulR _ _, n, s, a, m, h => rfl
  | .neg p, n, s, a, m, h => by
    simp only [lyp]
    rw [lyp_add p (X n) s a m h]
  | .add p q, n, s, a, m, h => by
    simp only [nn] at h
    simp only [lyp]
    rw [bit_add s a _ m (by omega), div_add s a _ m (by omega), lyp_add p _ _ a (m - nn q) (by omega), lyp_add q _ s a m (by omega)]
/-- the parts of the number of a NAND's way -/
theorem way_0 {a b : Int} {i j : Nat} (a0 : 0 ≤ a) (a1 : a < 2 ^ i) (b0 : 0 ≤ b) (b1 : b < 2 ^ j) : (a * 2 ^ j + b) / 2 ^ (i + j) % 2 = 0 ∧ (a * 2 ^ j + b) / 2 ^ j = a := by
  have hq : (0 : Int) < 2 ^ j := Int.pow_pos (by decide)
  have h1 : 0 ≤ a * 2 ^ j := Int.mul_nonneg a0 (by omega)
  have h2 : (a + 1) * 2 ^ j ≤ 2 ^ i * 2 ^ j := Int.mul_le_mul_of_nonneg_right (by omega) (by omega)
  rw [Int.add_mul, Int.one_mul, ← Int.pow_add] at h2
  refine ⟨?_, ?_⟩
  · rw [Int.ediv_eq_zero_of_lt (by omega) (by omega)]
    rfl
  · rw [Int.add_comm, Int.add_mul_ediv_right _ _ (by omega), Int.ediv_eq_zero_of_lt b0 b1, Int.zero_add]
theorem way_1 {a b : Int} {i j : Nat} (a0 : 0 ≤ a) (a1 : a < 2 ^ i) (b0 : 0 ≤ b) (b1 : b < 2 ^ j) : (2 ^ (i + j) + a * 2 ^ j + b) / 2 ^ (i + j) % 2 = 1 ∧ (2 ^ (i + j) + a * 2 ^ j + b) / 2 ^ j = 2 ^ i + a := by
  have hq : (0 : Int) < 2 ^ j := Int.pow_pos (by decide)
  have hpq : (0 : Int) < 2 ^ (i + j) := Int.pow_pos (by decide)
  have h1 : 0 ≤ a * 2 ^ j := Int.mul_nonneg a0 (by omega)
  have h2 : (a + 1) * 2 ^ j ≤ 2 ^ i * 2 ^ j := Int.mul_le_mul_of_nonneg_right (by omega) (by omega)
  rw [Int.add_mul, Int.one_mul, ← Int.pow_add] at h2
  refine ⟨?_, ?_⟩
  · rw [show (2 : Int) ^ (i + j) + a * 2 ^ j + b = (a * 2 ^ j + b) + 1 * 2 ^ (i + j) by omega, Int.add_mul_ediv_right _ _ (by omega), Int.ediv_eq_zero_of_lt (by omega) (by omega)]
    rfl
  · have e : (2 : Int) ^ (i + j) + a * 2 ^ j + b = b + (2 ^ i + a) * 2 ^ j := by
      rw [Int.add_mul, ← Int.pow_add]
      omega
    rw [e, Int.add_mul_ediv_right _ _ (by omega), Int.ediv_eq_zero_of_lt b0 b1, Int.zero_add]
theorem lyp_xs : ∀ (P : Pat) (n : Int), lyp X Y P n (xs K X Y ro C P n) = xp K X Y ro C P n
  | .var _, n => rfl
  | .num _, n => rfl
  | .sub _ _, n => rfl
  | .mulL _ _, n => rfl
  | .mulR _ _, n => rfl
  | .neg p, n => by
    simp only [lyp, xs, xp]
    exact lyp_xs p _
  | .add p q, n => by
    simp only [lyp, xs, xp]
    split
    · have b1 := xs_b (K := K) (X := X) (Y := Y) (ro := ro) (C := C) p (Y n)
      have b2 := xs_b (K := K) (X := X) (Y := Y) (ro := ro) (C := C) q (X n)
      obtain ⟨w1, w2⟩ := way_1 (i := nn p) (j := nn q) b1.1 b1.2 b2.1 b2.2
      rw [w1, w2, if_pos rfl, if_pos rfl]
      have e1 : (2 : Int) ^ nn p + xs K X Y ro C p (Y n) = xs K X Y ro C p (Y n) + 1 * 2 ^ nn p := by omega
      rw [e1, lyp_add p _ _ _ _ (Nat.le_refl _), lyp_xs p (Y n)]
      have e2 : (2 : Int) ^ (nn p + nn q) + xs K X Y ro C p (Y n) * 2 ^ nn q + xs K X Y ro C q (X n) = xs K X Y ro C q (X n) + (2 ^ nn p + xs K X Y ro C p (Y n)) * 2 ^ nn q := by
        rw [Int.add_mul, ← Int.pow_add]
        omega
      rw [e2, lyp_add q _ _ _ _ (Nat.le_refl _), lyp_xs q (X n)]
    · have b1 := xs_b (K := K) (X := X) (Y := Y) (ro := ro) (C := C) p (X n)
      have b2 := xs_b (K := K) (X := X) (Y := Y) (ro := ro) (C := C) q (Y n)
      obtain ⟨w1, w2⟩ := way_0 (i := nn p) (j := nn q) b1.1 b1.2 b2.1 b2.2
      rw [w1, w2, if_neg (by decide), if_neg (by decide), lyp_xs p (X n)]
      have e2 : xs K X Y ro C p (X n) * 2 ^ nn q + xs K X Y ro C q (Y n) = xs K X Y ro C q (Y n) + xs K X Y ro C p (X n) * 2 ^ nn q := by omega
      rw [e2, lyp_add q _ _ _ _ (Nat.le_refl _), lyp_xs q (Y n)]
theorem xl_add (p q : Pat) (n t : Int) : xl K X Y ro C (.add p q) n t = if K n = 2 ∧ (t ≠ 0 ∨ ro n = 0) then (if xsw K X Y ro C p q n < xst K X Y ro C p q n then xsw K X Y ro C p q n else xst K X Y ro C p q n) else 268435456 := rfl
theorem lyo_le : ∀ (P : Pat) (n t s v : Int), lyo K X Y ro C P n t s = some v → xl K X Y ro C P n t ≤ v
  | .var _, n, t, s, v, h => by
    simp only [lyo, Option.some.injEq] at h
    simp only [xl]
    omega
  | .num _, n, t, s, v, h => by simp [lyo] at h
  | .sub _ _, n, t, s, v, h => by simp [lyo] at h
  | .mulL _ _, n, t, s, v, h => by simp [lyo] at h
  | .mulR _ _, n, t, s, v, h => by simp [lyo] at h
  | .neg p, n, t, s, v, h => by
    simp only [lyo] at h
    simp only [xl]
    split at h
    · rename_i hc
      rw [if_pos hc]
      exact lyo_le p _ _ _ _ h
    · simp at h
  | .add p q, n, t, s, v, h => by
    simp only [lyo] at h
    rw [xl_add]
    split at h
    · rename_i hc
      rw [if_pos hc]
      cases h1 : lyo K X Y ro C p (if s / 2 ^ (nn p + nn q) % 2 = 1 then Y n else X n) 0 (s / 2 ^ nn q) with
      | none => rw [h1] at h; simp at h
      | some a =>
        cases h2 : lyo K X Y ro C q (if s / 2 ^ (nn p + nn q) % 2 = 1 then X n else Y n) 0 s with
        | none => rw [h1, h2] at h; simp at h
        | some b =>
          rw [h1, h2] at h
          simp only [Option.some.injEq] at h
          have i1 := lyo_le p _ _ _ _ h1
          have i2 := lyo_le q _ _ _ _ h2
          have g1 : xst K X Y ro C p q n ≤ xl K X Y ro C p (X n) 0 + xl K X Y ro C q (Y n) 0 := by
            simp only [xst]
            split <;> omega
          have g2 : xsw K X Y ro C p q n ≤ xl K X Y ro C p (Y n) 0 + xl K X Y ro C q (X n) 0 := by
            simp only [xsw]
            split <;> omega
          by_cases hb : s / 2 ^ (nn p + nn q) % 2 = 1
          · rw [if_pos hb] at i1 i2
            split <;> omega
          · rw [if_neg hb] at i1 i2
            split <;> omega
    · simp at h
def isv : Pat → Prop
  | .var _ => True
  | _ => False
/-- the parts of n are in D -/
def dpt (K X Y : Int → Int) (D : Int → Prop) (n : Int) : Prop := (K n = 2 → D (X n) ∧ D (Y n)) ∧ (K n = 3 → D (X n))
theorem xl_b {D : Int → Prop} (hd : ∀ n, D n → dpt K X Y D n) (hC : ∀ n, D n → 2 ≤ K n → ro n = 0 → 0 ≤ C n ∧ C n ≤ 268435456) : ∀ (P : Pat) (n t : Int), D n ∨ (¬ isv P ∧ dpt K X Y D n) → 0 ≤ xl K X Y ro C P n t ∧ xl K X Y ro C P n t ≤ 268435456
  | .var i, n, t, h => by
    have hn : D n := h.elim id (fun q => absurd trivial q.1)
    simp only [xl]
    split
    · rename_i hc
      exact hC n hn hc.1 hc.2
    · omega
  | .num _, n, t, _ => ⟨by simp [xl], by simp [xl]⟩
  | .sub _ _, n, t, _ => ⟨by simp [xl], by simp [xl]⟩
  | .mulL _ _, n, t, _ => ⟨by simp [xl], by simp [xl]⟩
  | .mulR _ _, n, t, _ => ⟨by simp [xl], by simp [xl]⟩
  | .neg p, n, t, h => by
    have hn : dpt K X Y D n := h.elim (hd n) (fun q => q.2)
    simp only [xl]
    split
    · rename_i hc
      exact xl_b hd hC p _ _ (Or.inl (hn.2 hc.1))
    · omega
  | .add p q, n, t, h => by
    have hn : dpt K X Y D n := h.elim (hd n) (fun q => q.2)
    rw [xl_add]
    split
    · rename_i hc
      have d := hn.1 hc.1
      have b1 := xl_b hd hC p (X n) 0 (Or.inl d.1)
      have b2 := xl_b hd hC q (Y n) 0 (Or.inl d.2)
      have b3 := xl_b hd hC p (Y n) 0 (Or.inl d.2)
      have b4 := xl_b hd hC q (X n) 0 (Or.inl d.1)
      have g1 : 0 ≤ xst K X Y ro C p q n ∧ xst K X Y ro C p q n ≤ 268435456 := by
        simp only [xst]
        split <;> omega
      have g2 : 0 ≤ xsw K X Y ro C p q n ∧ xsw K X Y ro C p q n ≤ 268435456 := by
        simp only [xsw]
        split <;> omega
      split <;> omega
    · omega
theorem xl_congr {D : Int → Prop} {C' : Int → Int} (hd : ∀ n, D n → dpt K X Y D n) (hC : ∀ n, D n → 2 ≤ K n → ro n = 0 → C n = C' n) : ∀ (P : Pat) (n t : Int), D n ∨ (¬ isv P ∧ dpt K X Y D n) → xl K X Y ro C P n t = xl K X Y ro C' P n t
  | .var i, n, t, h => by
    have hn : D n := h.elim id (fun q => absurd trivial q.1)
    simp only [xl]
    split
    · rename_i hc
      exact hC n hn hc.1 hc.2
    · rfl
  | .num _, n, t, _ => rfl
  | .sub _ _, n, t, _ => rfl
  | .mulL _ _, n, t, _ => rfl
  | .mulR _ _, n, t, _ => rfl
  | .neg p, n, t, h => by
    have hn : dpt K X Y D n := h.elim (hd n) (fun q => q.2)
    simp only [xl]
    split
    · rename_i hc
      exact xl_congr hd hC p _ 0 (Or.inl (hn.2 hc.1))
    · rfl
  | .add p q, n, t, h => by
    have hn : dpt K X Y D n := h.elim (hd n) (fun q => q.2)
    by_cases hc : K n = 2 ∧ (t ≠ 0 ∨ ro n = 0)
    · have d := hn.1 hc.1
      have b1 := xl_congr hd hC p (X n) 0 (Or.inl d.1)
      have b2 := xl_congr hd hC q (Y n) 0 (Or.inl d.2)
      have b3 := xl_congr hd hC p (Y n) 0 (Or.inl d.2)
      have b4 := xl_congr hd hC q (X n) 0 (Or.inl d.1)
      simp only [xl, b1, b2, b3, b4]
    · simp only [xl, if_neg hc]
theorem lyo_congr {D : Int → Prop} {C' : Int → Int} (hd : ∀ n, D n → dpt K X Y D n) (hC : ∀ n, D n → 2 ≤ K n → ro n = 0 → C n = C' n) : ∀ (P : Pat) (n t s : Int), D n ∨ (¬ isv P ∧ dpt K X Y D n) → lyo K X Y ro C P n t s = lyo K X Y ro C' P n t s
  | .var i, n, t, s, h => by
    have hn : D n := h.elim id (fun q => absurd trivial q.1)
    simp only [lyo]
    congr 1
    split
    · rename_i hc
      exact hC n hn hc.1 hc.2
    · rfl
  | .num _, n, t, s, _ => rfl
  | .sub _ _, n, t, s, _ => rfl
  | .mulL _ _, n, t, s, _ => rfl
  | .mulR _ _, n, t, s, _ => rfl
  | .neg p, n, t, s, h => by
    have hn : dpt K X Y D n := h.elim (hd n) (fun q => q.2)
    simp only [lyo]
    split
    · rename_i hc
      exact lyo_congr hd hC p _ 0 s (Or.inl (hn.2 hc.1))
    · rfl
  | .add p q, n, t, s, h => by
    have hn : dpt K X Y D n := h.elim (hd n) (fun q => q.2)
    by_cases hc : K n = 2 ∧ (t ≠ 0 ∨ ro n = 0)
    · have d := hn.1 hc.1
      have b1 := lyo_congr hd hC p (if s / 2 ^ (nn p + nn q) % 2 = 1 then Y n else X n) 0 (s / 2 ^ nn q) (Or.inl (by split; exact d.2; exact d.1))
      have b2 := lyo_congr hd hC q (if s / 2 ^ (nn p + nn q) % 2 = 1 then X n else Y n) 0 s (Or.inl (by split; exact d.1; exact d.2))
      simp only [lyo, b1, b2]
    · simp only [lyo, if_neg hc]
/-- the best way is what it costs -/
theorem lyo_xs {D : Int → Prop} (hd : ∀ n, D n → dpt K X Y D n) (hC : ∀ n, D n → 2 ≤ K n → ro n = 0 → 0 ≤ C n ∧ C n ≤ 268435456) : ∀ (P : Pat) (n t : Int), D n ∨ (¬ isv P ∧ dpt K X Y D n) → xl K X Y ro C P n t < 268435456 → lyo K X Y ro C P n t (xs K X Y ro C P n) = some (xl K X Y ro C P n t)
  | .var i, n, t, h, hx => rfl
  | .num _, n, t, _, hx => by simp [xl] at hx
  | .sub _ _, n, t, _, hx => by simp [xl] at hx
  | .mulL _ _, n, t, _, hx => by simp [xl] at hx
  | .mulR _ _, n, t, _, hx => by simp [xl] at hx
  | .neg p, n, t, h, hx => by
    have hn : dpt K X Y D n := h.elim (hd n) (fun q => q.2)
    by_cases hc : K n = 3 ∧ (t ≠ 0 ∨ ro n = 0)
    · simp only [xl, if_pos hc] at hx
      simp only [xl, lyo, xs, if_pos hc]
      exact lyo_xs hd hC p _ 0 (Or.inl (hn.2 hc.1)) hx
    · simp only [xl, if_neg hc] at hx
      omega
  | .add p q, n, t, h, hx => by
    have hn : dpt K X Y D n := h.elim (hd n) (fun q => q.2)
    by_cases hc : K n = 2 ∧ (t ≠ 0 ∨ ro n = 0)
    · have d := hn.1 hc.1
      have c1 := xl_b hd hC p (X n) 0 (Or.inl d.1)
      have c2 := xl_b hd hC q (Y n) 0 (Or.inl d.2)
      have c3 := xl_b hd hC p (Y n) 0 (Or.inl d.2)
      have c4 := xl_b hd hC q (X n) 0 (Or.inl d.1)
      rw [xl_add, if_pos hc] at hx ⊢
      simp only [lyo, xs, if_pos hc]
      split at hx
      · rename_i hw
        simp only [if_pos hw]
        have e : xsw K X Y ro C p q n = xl K X Y ro C p (Y n) 0 + xl K X Y ro C q (X n) 0 := by
          simp only [xsw] at hx ⊢
          split at hx
          · rename_i hh
            rw [if_pos hh]
          · omega
        have b1 := xs_b (K := K) (X := X) (Y := Y) (ro := ro) (C := C) p (Y n)
        have b2 := xs_b (K := K) (X := X) (Y := Y) (ro := ro) (C := C) q (X n)
        obtain ⟨w1, w2⟩ := way_1 (i := nn p) (j := nn q) b1.1 b1.2 b2.1 b2.2
        simp only [w1, w2, if_true]
        have e1 : (2 : Int) ^ nn p + xs K X Y ro C p (Y n) = xs K X Y ro C p (Y n) + 1 * 2 ^ nn p := by omega
        have e2 : (2 : Int) ^ (nn p + nn q) + xs K X Y ro C p (Y n) * 2 ^ nn q + xs K X Y ro C q (X n) = xs K X Y ro C q (X n) + (2 ^ nn p + xs K X Y ro C p (Y n)) * 2 ^ nn q := by
          rw [Int.add_mul, ← Int.pow_add]
          omega
        rw [e1, lyo_add p _ _ _ _ _ (Nat.le_refl _), lyo_xs hd hC p (Y n) 0 (Or.inl d.2) (by omega), e2, lyo_add q _ _ _ _ _ (Nat.le_refl _), lyo_xs hd hC q (X n) 0 (Or.inl d.1) (by omega), e]
      · rename_i hw
        simp only [if_neg hw]
        have e : xst K X Y ro C p q n = xl K X Y ro C p (X n) 0 + xl K X Y ro C q (Y n) 0 := by
          simp only [xst] at hx ⊢
          split at hx
          · rename_i hh
            rw [if_pos hh]
          · omega
        have b1 := xs_b (K := K) (X := X) (Y := Y) (ro := ro) (C := C) p (X n)
        have b2 := xs_b (K := K) (X := X) (Y := Y) (ro := ro) (C := C) q (Y n)
        obtain ⟨w1, w2⟩ := way_0 (i := nn p) (j := nn q) b1.1 b1.2 b2.1 b2.2
        have w3 : ¬ ((0 : Int) = 1) := by decide
        simp only [w1, w2, if_neg w3]
        have e2 : xs K X Y ro C p (X n) * 2 ^ nn q + xs K X Y ro C q (Y n) = xs K X Y ro C q (Y n) + xs K X Y ro C p (X n) * 2 ^ nn q := by omega
        rw [lyo_xs hd hC p (X n) 0 (Or.inl d.1) (by omega), e2, lyo_add q _ _ _ _ _ (Nat.le_refl _), lyo_xs hd hC q (Y n) 0 (Or.inl d.2) (by omega), e]
    · rw [xl_add, if_neg hc] at hx
      omega
/-- ways before it cost more -/
theorem lyo_lt {D : Int → Prop} (hd : ∀ n, D n → dpt K X Y D n) (hC : ∀ n, D n → 2 ≤ K n → ro n = 0 → 0 ≤ C n ∧ C n ≤ 268435456) : ∀ (P : Pat) (n t : Int), D n ∨ (¬ isv P ∧ dpt K X Y D n) → xl K X Y ro C P n t < 268435456 → ∀ s v : Int, 0 ≤ s → s < xs K X Y ro C P n → lyo K X Y ro C P n t s = some v → xl K X Y ro C P n t < v
  | .var i, n, t, h, hx, s, v, s0, s1, _ => by simp [xs] at s1; omega
  | .num _, n, t, _, hx, _, _, _, _, _ => by simp [xl] at hx
  | .sub _ _, n, t, _, hx, _, _, _, _, _ => by simp [xl] at hx
  | .mulL _ _, n, t, _, hx, _, _, _, _, _ => by simp [xl] at hx
  | .mulR _ _, n, t, _, hx, _, _, _, _, _ => by simp [xl] at hx
  | .neg p, n, t, h, hx, s, v, s0, s1, hv => by
    have hn : dpt K X Y D n := h.elim (hd n) (fun q => q.2)
    by_cases hc : K n = 3 ∧ (t ≠ 0 ∨ ro n = 0)
    · simp only [xl, if_pos hc] at hx ⊢
      simp only [lyo, if_pos hc] at hv
      simp only [xs] at s1
      exact lyo_lt hd hC p _ 0 (Or.inl (hn.2 hc.1)) hx s v s0 s1 hv
    · simp only [xl, if_neg hc] at hx
      omega
  | .add p q, n, t, h, hx, s, v, s0, s1, hv => by
    have hn : dpt K X Y D n := h.elim (hd n) (fun q => q.2)
    by_cases hc : K n = 2 ∧ (t ≠ 0 ∨ ro n = 0)
    · have d := hn.1 hc.1
      have c1 := xl_b hd hC p (X n) 0 (Or.inl d.1)
      have c2 := xl_b hd hC q (Y n) 0 (Or.inl d.2)
      have c3 := xl_b hd hC p (Y n) 0 (Or.inl d.2)
      have c4 := xl_b hd hC q (X n) 0 (Or.inl d.1)
      have hq : (0 : Int) < 2 ^ nn q := Int.pow_pos (by decide)
      have hp : (0 : Int) < 2 ^ nn p := Int.pow_pos (by decide)
      have hpq : (2 : Int) ^ (nn p + nn q) = 2 ^ nn p * 2 ^ nn q := Int.pow_add ..
      -- s in parts
      have es : s / 2 ^ nn q * 2 ^ nn q + s % 2 ^ nn q = s := by rw [Int.mul_comm]; exact Int.mul_ediv_add_emod s (2 ^ nn q)
      have m0 := Int.emod_nonneg s (show (2 : Int) ^ nn q ≠ 0 by omega)
      have m1 := Int.emod_lt_of_pos s hq
      have d0 : 0 ≤ s / 2 ^ nn q := Int.ediv_nonneg s0 (by omega)
      have lq : ∀ u, lyo K X Y ro C q u 0 s = lyo K X Y ro C q u 0 (s % 2 ^ nn q) := fun u => by
        have := lyo_add (K := K) (X := X) (Y := Y) (ro := ro) (C := C) q u 0 (s % 2 ^ nn q) (s / 2 ^ nn q) (nn q) (Nat.le_refl _)
        rw [Int.add_comm, es] at this
        exact this
      rw [xl_add, if_pos hc] at hx ⊢
      simp only [lyo, if_pos hc] at hv
      have both : ∀ u w b, s / 2 ^ (nn p + nn q) % 2 = b → (if b = 1 then Y n else X n) = u → (if b = 1 then X n else Y n) = w → ∃ a c, lyo K X Y ro C p u 0 (s / 2 ^ nn q) = some a ∧ lyo K X Y ro C q w 0 (s % 2 ^ nn q) = some c ∧ v = a + c := by
        rintro u w b hb rfl rfl
        rw [hb] at hv
        cases h1 : lyo K X Y ro C p (if b = 1 then Y n else X n) 0 (s / 2 ^ nn q) with
        | none => rw [h1] at hv; simp at hv
        | some a =>
          cases h2 : lyo K X Y ro C q (if b = 1 then X n else Y n) 0 s with
          | none => rw [h1, h2] at hv; simp at hv
          | some c =>
            rw [h1, h2] at hv
            simp only [Option.some.injEq] at hv
            exact ⟨a, c, rfl, by rw [← lq, h2], hv.symm⟩
      simp only [xs] at s1
      split at hx
      · rename_i hw
        rw [if_pos hw] at s1 ⊢
        have e : xsw K X Y ro C p q n = xl K X Y ro C p (Y n) 0 + xl K X Y ro C q (X n) 0 := by
          simp only [xsw] at hx ⊢
          split at hx
          · rename_i hh
            rw [if_pos hh]
          · omega
        have gs : xst K X Y ro C p q n ≤ xl K X Y ro C p (X n) 0 + xl K X Y ro C q (Y n) 0 := by
          simp only [xst]
          split <;> omega
        have b1 := xs_b (K := K) (X := X) (Y := Y) (ro := ro) (C := C) p (Y n)
        have b2 := xs_b (K := K) (X := X) (Y := Y) (ro := ro) (C := C) q (X n)
        by_cases hb : s / 2 ^ (nn p + nn q) % 2 = 1
        · obtain ⟨a, c, h1, h2, h3⟩ := both (Y n) (X n) 1 hb rfl rfl
          have i1 := lyo_le _ _ _ _ _ h1
          have i2 := lyo_le _ _ _ _ _ h2
          -- s / 2^nn q = 2^nn p + s1
          have hs2 : s < 2 * 2 ^ (nn p + nn q) := by
            have := (xs_b (K := K) (X := X) (Y := Y) (ro := ro) (C := C) (.add p q) n).2
            simp only [xs, if_pos hw, nn, Int.pow_succ] at this
            omega
          have hge : 2 ^ (nn p + nn q) ≤ s := Classical.byContradiction fun hcon => by
            rw [Int.ediv_eq_zero_of_lt s0 (by omega)] at hb
            simp at hb
          have hd2 : 2 ^ nn p ≤ s / 2 ^ nn q := by
            rw [Int.le_ediv_iff_mul_le hq, ← hpq]
            exact hge
          have hr : (s / 2 ^ nn q - 2 ^ nn p) * 2 ^ nn q + s % 2 ^ nn q < xs K X Y ro C p (Y n) * 2 ^ nn q + xs K X Y ro C q (X n) := by
            rw [Int.sub_mul, ← hpq]
            omega
          have h1' : lyo K X Y ro C p (Y n) 0 (s / 2 ^ nn q - 2 ^ nn p) = some a := by
            have := lyo_add (K := K) (X := X) (Y := Y) (ro := ro) (C := C) p (Y n) 0 (s / 2 ^ nn q - 2 ^ nn p) 1 (nn p) (Nat.le_refl _)
            rw [Int.one_mul, Int.sub_add_cancel] at this
            rw [← this, h1]
          by_cases hlt : s / 2 ^ nn q - 2 ^ nn p < xs K X Y ro C p (Y n)
          · have := lyo_lt hd hC p (Y n) 0 (Or.inl d.2) (by omega) _ _ (by omega) hlt h1'
            omega
          · have heq : s / 2 ^ nn q - 2 ^ nn p = xs K X Y ro C p (Y n) := Classical.byContradiction fun hcon => by
              have h5 : (xs K X Y ro C p (Y n) + 1) * 2 ^ nn q ≤ (s / 2 ^ nn q - 2 ^ nn p) * 2 ^ nn q := Int.mul_le_mul_of_nonneg_right (by omega) (by omega)
              rw [Int.add_mul, Int.one_mul] at h5
              omega
            rw [heq] at hr
            have := lyo_lt hd hC q (X n) 0 (Or.inl d.1) (by omega) _ _ m0 (by omega) h2
            omega
        · obtain ⟨a, c, h1, h2, h3⟩ := both (X n) (Y n) _ rfl (if_neg hb) (if_neg hb)
          have i1 := lyo_le _ _ _ _ _ h1
          have i2 := lyo_le _ _ _ _ _ h2
          omega
      · rename_i hw
        rw [if_neg hw] at s1 ⊢
        have e : xst K X Y ro C p q n = xl K X Y ro C p (X n) 0 + xl K X Y ro C q (Y n) 0 := by
          simp only [xst] at hx ⊢
          split at hx
          · rename_i hh
            rw [if_pos hh]
          · omega
        have b1 := xs_b (K := K) (X := X) (Y := Y) (ro := ro) (C := C) p (X n)
        have b2 := xs_b (K := K) (X := X) (Y := Y) (ro := ro) (C := C) q (Y n)
        have hsm : s < 2 ^ (nn p + nn q) := by
          have h2 : (xs K X Y ro C p (X n) + 1) * 2 ^ nn q ≤ 2 ^ nn p * 2 ^ nn q := Int.mul_le_mul_of_nonneg_right (by omega) (by omega)
          rw [Int.add_mul, Int.one_mul] at h2
          omega
        have hb : s / 2 ^ (nn p + nn q) % 2 = 0 := by rw [Int.ediv_eq_zero_of_lt s0 hsm]; rfl
        obtain ⟨a, c, h1, h2, h3⟩ := both (X n) (Y n) 0 hb rfl rfl
        have i1 := lyo_le _ _ _ _ _ h1
        have i2 := lyo_le _ _ _ _ _ h2
        by_cases hlt : s / 2 ^ nn q < xs K X Y ro C p (X n)
        · have := lyo_lt hd hC p (X n) 0 (Or.inl d.1) (by omega) _ _ d0 hlt h1
          omega
        · have heq : s / 2 ^ nn q = xs K X Y ro C p (X n) := Classical.byContradiction fun hcon => by
            have h5 : (xs K X Y ro C p (X n) + 1) * 2 ^ nn q ≤ (s / 2 ^ nn q) * 2 ^ nn q := Int.mul_le_mul_of_nonneg_right (by omega) (by omega)
            rw [Int.add_mul, Int.one_mul] at h5
            omega
          rw [heq] at es
          have := lyo_lt hd hC q (Y n) 0 (Or.inl d.2) (by omega) _ _ m0 (by omega) h2
          omega
    · rw [xl_add, if_neg hc] at hx
      omega
/-- the pins of the best way -/
theorem xp_len : ∀ (P : Pat) (n : Int), pok P → (xp K X Y ro C P n).length = ppins P
  | .var i, n, _ => rfl
  | .num _, n, h => h.elim
  | .sub _ _, n, h => h.elim
  | .mulL _ _, n, h => h.elim
  | .mulR _ _, n, h => h.elim
  | .neg p, n, h => by
    simp only [xp, ppins]
    exact xp_len p _ h
  | .add p q, n, h => by
    simp only [xp, ppins]
    split
    · rw [List.length_append, xp_len p _ h.1, xp_len q _ h.2]
    · rw [List.length_append, xp_len p _ h.1, xp_len q _ h.2]
theorem xp_D {D : Int → Prop} (hd : ∀ n, D n → dpt K X Y D n) (hC : ∀ n, D n → 2 ≤ K n → ro n = 0 → 0 ≤ C n ∧ C n ≤ 268435456) : ∀ (P : Pat) (n t : Int), D n ∨ (¬ isv P ∧ dpt K X Y D n) → xl K X Y ro C P n t < 268435456 → ∀ i ∈ xp K X Y ro C P n, D i
  | .var i, n, t, h, hx, j, hj => by
    simp only [xp, List.mem_singleton] at hj
    rw [hj]
    exact h.elim id (fun q => absurd trivial q.1)
  | .num _, n, t, _, hx, _, _ => by simp [xl] at hx
  | .sub _ _, n, t, _, hx, _, _ => by simp [xl] at hx
  | .mulL _ _, n, t, _, hx, _, _ => by simp [xl] at hx
  | .mulR _ _, n, t, _, hx, _, _ => by simp [xl] at hx
  | .neg p, n, t, h, hx, j, hj => by
    have hn : dpt K X Y D n := h.elim (hd n) (fun q => q.2)
    by_cases hc : K n = 3 ∧ (t ≠ 0 ∨ ro n = 0)
    · simp only [xl, if_pos hc] at hx
      simp only [xp] at hj
      exact xp_D hd hC p _ 0 (Or.inl (hn.2 hc.1)) hx j hj
    · simp only [xl, if_neg hc] at hx
      omega
  | .add p q, n, t, h, hx, j, hj => by
    have hn : dpt K X Y D n := h.elim (hd n) (fun q => q.2)
    by_cases hc : K n = 2 ∧ (t ≠ 0 ∨ ro n = 0)
    · have d := hn.1 hc.1
      have c1 := xl_b hd hC p (X n) 0 (Or.inl d.1)
      have c2 := xl_b hd hC q (Y n) 0 (Or.inl d.2)
      have c3 := xl_b hd hC p (Y n) 0 (Or.inl d.2)
      have c4 := xl_b hd hC q (X n) 0 (Or.inl d.1)
      rw [xl_add, if_pos hc] at hx
      simp only [xp] at hj
      split at hx
      · rename_i hw
        rw [if_pos hw] at hj
        have e : xl K X Y ro C p (Y n) 0 + xl K X Y ro C q (X n) 0 < 268435456 := by
          simp only [xsw] at hx
          split at hx <;> omega
        rcases List.mem_append.mp hj with g | g
        · exact xp_D hd hC p _ 0 (Or.inl d.2) (by omega) j g
        · exact xp_D hd hC q _ 0 (Or.inl d.1) (by omega) j g
      · rename_i hw
        rw [if_neg hw] at hj
        have e : xl K X Y ro C p (X n) 0 + xl K X Y ro C q (Y n) 0 < 268435456 := by
          simp only [xst] at hx
          split at hx <;> omega
        rcases List.mem_append.mp hj with g | g
        · exact xp_D hd hC p _ 0 (Or.inl d.1) (by omega) j g
        · exact xp_D hd hC q _ 0 (Or.inl d.2) (by omega) j g
    · rw [xl_add, if_neg hc] at hx
      omega
end
