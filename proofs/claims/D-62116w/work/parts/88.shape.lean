/-! patterns and their digits: shaped, isPattern -/
def fdig : List Pat → List Int
  | [] => []
  | p :: l => pdig p ++ fdig l
def pall : List Pat → Prop
  | [] => True
  | p :: l => pok p ∧ pall l
/-- what is left is the digits of so many patterns -/
def gsh (due rest n : Int) : Prop := ∃ Ps : List Pat, (Ps.length : Int) = due ∧ pall Ps ∧ dval (fdig Ps) = rest ∧ n + (fdig Ps).length ≤ 7
theorem pdig_d : ∀ (P : Pat), pok P → ∃ d l, pdig P = d :: l ∧ 1 ≤ d ∧ d ≤ 3
  | .var _, _ => ⟨1, [], rfl, by decide, by decide⟩
  | .neg p, _ => ⟨2, pdig p, rfl, by decide, by decide⟩
  | .add p q, _ => ⟨3, _, rfl, by decide, by decide⟩
  | .num _, h => h.elim
  | .sub _ _, h => h.elim
  | .mulL _ _, h => h.elim
  | .mulR _ _, h => h.elim
theorem pdig_13 : ∀ (P : Pat), pok P → ∀ d ∈ pdig P, 1 ≤ d ∧ d ≤ 3
  | .var _, _, d, hd => by
    simp [pdig] at hd
    omega
  | .neg p, h, d, hd => by
    simp only [pdig, List.mem_cons] at hd
    rcases hd with hd | hd
    · omega
    · exact pdig_13 p h d hd
  | .add p q, h, d, hd => by
    simp only [pdig, List.mem_cons, List.mem_append] at hd
    rcases hd with hd | hd | hd
    · omega
    · exact pdig_13 p h.1 d hd
    · exact pdig_13 q h.2 d hd
  | .num _, h, _, _ => h.elim
  | .sub _ _, h, _, _ => h.elim
  | .mulL _ _, h, _, _ => h.elim
  | .mulR _ _, h, _, _ => h.elim
theorem dval_ge : ∀ (l : List Int), (∀ d ∈ l, 1 ≤ d ∧ d ≤ 3) → 0 ≤ dval l ∧ (l ≠ [] → 1 ≤ dval l)
  | [], _ => ⟨by simp [dval], fun q => absurd rfl q⟩
  | d :: l, h => by
    have h1 := h d (List.mem_cons_self ..)
    have h2 := dval_ge l (fun x hx => h x (List.mem_cons_of_mem _ hx))
    simp only [dval]
    exact ⟨by omega, fun _ => by omega⟩
theorem fdig_13 : ∀ (Ps : List Pat), pall Ps → ∀ d ∈ fdig Ps, 1 ≤ d ∧ d ≤ 3
  | [], _, d, hd => by simp [fdig] at hd
  | p :: l, h, d, hd => by
    simp only [fdig, List.mem_append] at hd
    rcases hd with hd | hd
    · exact pdig_13 p h.1 d hd
    · exact fdig_13 l h.2 d hd
theorem gsh_ge {due rest n : Int} (h : gsh due rest n) : 0 ≤ rest ∧ 0 ≤ due ∧ n ≤ 7 := by
  obtain ⟨Ps, h1, h2, h3, h4⟩ := h
  have := dval_ge _ (fdig_13 Ps h2)
  omega
theorem gsh_0 {rest n : Int} : gsh 0 rest n ↔ rest = 0 ∧ n ≤ 7 := by
  constructor
  · rintro ⟨Ps, h1, h2, h3, h4⟩
    have : Ps = [] := by
      cases Ps with
      | nil => rfl
      | cons a l => simp at h1; omega
    subst this
    simp [fdig, dval] at h3 h4
    omega
  · rintro ⟨rfl, h⟩
    exact ⟨[], rfl, trivial, rfl, by simpa [fdig] using h⟩
/-- the first digit says what the first pattern is -/
theorem gsh_hd {due rest n : Int} (h0 : 0 < due) (h : gsh due rest n) : 1 ≤ rest % 4 ∧ n < 7 := by
  obtain ⟨Ps, h1, h2, h3, h4⟩ := h
  cases Ps with
  | nil => simp at h1; omega
  | cons P l =>
    obtain ⟨d, l', e, d1, d2⟩ := pdig_d P h2.1
    simp only [fdig, e, List.cons_append, dval, List.length_cons] at h3 h4
    omega
theorem gsh_step {due rest n : Int} (h0 : 0 < due) (hr : 1 ≤ rest % 4) : gsh due rest n ↔ gsh (due + rest % 4 - 2) (rest / 4) (n + 1) := by
  constructor
  · rintro ⟨Ps, h1, h2, h3, h4⟩
    cases Ps with
    | nil => simp at h1; omega
    | cons P l =>
      obtain ⟨p1, p2⟩ := h2
      cases P with
      | var i =>
        simp only [fdig, pdig, List.cons_append, List.nil_append, dval, List.length_cons] at h1 h3 h4
        exact ⟨l, by omega, p2, by omega, by omega⟩
      | neg p =>
        simp only [fdig, pdig, List.cons_append, dval, List.length_cons] at h1 h3 h4
        exact ⟨p :: l, by simp only [List.length_cons]; omega, ⟨p1, p2⟩, by simp only [fdig]; omega, by simp only [fdig]; omega⟩
      | add p q =>
        simp only [fdig, pdig, List.cons_append, dval, List.length_cons, List.append_assoc] at h1 h3 h4
        exact ⟨p :: q :: l, by simp only [List.length_cons]; omega, ⟨p1.1, p1.2, p2⟩, by simp only [fdig]; omega, by simp only [fdig]; omega⟩
      | num _ => exact p1.elim
      | sub _ _ => exact p1.elim
      | mulL _ _ => exact p1.elim
      | mulR _ _ => exact p1.elim
  · rintro ⟨Ps, h1, h2, h3, h4⟩
    have hd : rest % 4 = 1 ∨ rest % 4 = 2 ∨ rest % 4 = 3 := by omega
    rcases hd with e | e | e
    · refine ⟨.var 0 :: Ps, by simp only [List.length_cons]; omega, ⟨rfl, h2⟩, ?_, ?_⟩
      · simp only [fdig, pdig, List.cons_append, List.nil_append, dval]
        omega
      · simp only [fdig, pdig, List.cons_append, List.nil_append, List.length_cons]
        omega
    · cases Ps with
      | nil => simp at h1; omega
      | cons P l =>
        refine ⟨.neg P :: l, by simp only [List.length_cons] at h1 ⊢; omega, ⟨h2.1, h2.2⟩, ?_, ?_⟩
        · simp only [fdig, pdig, List.cons_append, dval] at h3 ⊢
          omega
        · simp only [fdig, pdig, List.cons_append, List.length_cons] at h4 ⊢
          omega
    · cases Ps with
      | nil => simp at h1; omega
      | cons P l =>
        cases l with
        | nil => simp at h1; omega
        | cons P2 l =>
          refine ⟨.add P P2 :: l, by simp only [List.length_cons] at h1 ⊢; omega, ⟨⟨h2.1, h2.2.1⟩, h2.2.2⟩, ?_, ?_⟩
          · simp only [fdig, pdig, List.cons_append, List.append_assoc, dval] at h3 ⊢
            omega
          · simp only [fdig, pdig, List.cons_append, List.append_assoc, List.length_cons] at h4 ⊢
            omega
/-- a pattern that is no pin -/
def gpat (code : Int) : Prop := gsh 1 code 0 ∧ code ≠ 1
theorem gpat_of {code : Int} (h : gpat code) : ∃ P, pok P ∧ P ≠ .var 0 ∧ (pdig P).length ≤ 7 ∧ code = dval (pdig P) := by
  obtain ⟨⟨Ps, h1, h2, h3, h4⟩, hne⟩ := h
  cases Ps with
  | nil => simp at h1
  | cons P l =>
    cases l with
    | cons a b => simp at h1; omega
    | nil =>
      simp only [fdig, List.append_nil] at h3 h4
      refine ⟨P, h2.1, ?_, by omega, h3.symm⟩
      rintro rfl
      exact hne h3.symm
theorem dval_lt : ∀ (l : List Int), (∀ d ∈ l, 1 ≤ d ∧ d ≤ 3) → dval l < 4 ^ l.length
  | [], _ => by simp [dval]
  | d :: l, h => by
    have h1 := h d (List.mem_cons_self ..)
    have h2 := dval_lt l (fun x hx => h x (List.mem_cons_of_mem _ hx))
    simp only [dval, List.length_cons, Int.pow_succ]
    omega
theorem gsh_lt {due rest n : Int} (hn : 0 ≤ n) (h : gsh due rest n) : rest < 16384 := by
  obtain ⟨Ps, h1, h2, h3, h4⟩ := h
  have := dval_lt _ (fdig_13 Ps h2)
  have hl : (fdig Ps).length ≤ 7 := by omega
  have h5 : (4 : Int) ^ (fdig Ps).length ≤ 4 ^ 7 := by
    have := Nat.pow_le_pow_right (n := 4) (by decide) hl
    exact_mod_cast this
  have h6 : (4 : Int) ^ 7 = 16384 := by decide
  omega
theorem zushr_neg {x : Int} (h : zc x) (hx : x < 0) : 536870912 ≤ zushr x 2 := by
  have e1 : ((zi x).toUInt32).toNat = (x + 4294967296).toNat := by
    show (zi x).toBitVec.toNat = _
    have : (zi x).toBitVec = BitVec.ofInt 32 x := rfl
    rw [this, BitVec.toNat_ofInt]
    show (x % 4294967296).toNat = _
    omega
  have e2 : ((zi x).toUInt32 >>> ((zi 2).toUInt32 &&& Int32.toUInt32 31)).toNat = (x + 4294967296).toNat / 4 := by
    have : ((zi 2).toUInt32 &&& Int32.toUInt32 31) = 2 := by decide
    rw [this, UInt32.toNat_shiftRight, e1]
    show _ >>> (2 % 32) = _
    rw [Nat.shiftRight_eq_div_pow]
  unfold zushr
  have e3 : (((zi x).toUInt32 >>> ((zi 2).toUInt32 &&& Int32.toUInt32 31)).toInt32).toInt = (((zi x).toUInt32 >>> ((zi 2).toUInt32 &&& Int32.toUInt32 31)).toNat : Int) := by
    show ((zi x).toUInt32 >>> ((zi 2).toUInt32 &&& Int32.toUInt32 31)).toBitVec.toInt = _
    rw [BitVec.toInt_eq_toNat_cond]
    have e4 : ((zi x).toUInt32 >>> ((zi 2).toUInt32 &&& Int32.toUInt32 31)).toBitVec.toNat = (x + 4294967296).toNat / 4 := e2
    rw [e4, e2, if_pos (by omega)]
  rw [e3, e2]
  omega
theorem sx_shaped {σ : zS} {Q : Int → zS → Prop} {code : Int} (hc : zc code) (h1 : gpat code → Q 1 σ) (h0 : ¬ gpat code → Q 0 σ) : wp_CX_shaped Q code σ := by
  have loop : ∀ (m : Nat) (due rest n : Int), 0 ≤ due → due ≤ n + 1 → zc rest → 0 ≤ n → n ≤ 7 → 7 - n < m → (gpat code ↔ gsh due rest n ∧ code ≠ 1) → (0 ≤ rest ∨ (code < 0 ∧ n = 0 ∧ due = 1)) → lp_CX_shaped_6 Q m code due rest n σ := by
    intro m
    induction m with
    | zero => intro due rest n a b c d e f; omega
    | succ m ih =>
      intro due rest n d0 dn hr n0 n7 hm hg hneg
      have big : code < 0 → ¬ gpat code := fun q r => by
        have := (gsh_ge r.1).1
        omega
      unfold lp_CX_shaped_6
      refine ⟨by omega, fun q => ⟨hr, fun q2 => ⟨hc, fun q3 => h0 (fun r => r.2 q3), fun q3 => h1 (hg.mpr ⟨?_, q3⟩)⟩, fun q2 => h0 (fun r => ?_)⟩, fun q => ?_⟩
      · have : due = 0 := by omega
        subst this
        exact gsh_0.mpr ⟨q2, n7⟩
      · have : due = 0 := by omega
        subst this
        exact q2 (gsh_0.mp (hg.mp r).1).1
      · rintro y rfl
        rw [z_m3 hr]
        refine ⟨by omega, fun q2 => h0 (fun r => ?_), fun q2 => ⟨fun q3 => h0 (fun r => ?_), fun q3 => ?_⟩⟩
        · have := gsh_hd (by omega) (hg.mp r).1
          omega
        · have := gsh_hd (by omega) (hg.mp r).1
          omega
        · have hst := gsh_step (due := due) (rest := rest) (n := n) (by omega) (by omega)
          have next : ∀ z, z = rest % 4 - 2 → bk_CX_shaped_50 Q (lp_CX_shaped_6 Q m) code rest n z due σ := by
            rintro z rfl y6 rfl y7 rfl
            by_cases hp : 0 ≤ rest
            · rw [show zushr rest 2 = rest / 4 from b_ushr (k := 2) hr hp (by decide)]
              refine ih _ _ _ (by omega) (by omega) (by omega) (by omega) (by omega) (by omega) ?_ (Or.inl (by omega))
              rw [hg, hst, show due + (rest % 4 - 2) = due + rest % 4 - 2 by omega]
            · have hcn : code < 0 := by omega
              have hz := zushr_neg hr (by omega)
              refine ih _ _ _ (by omega) (by omega) (zc_ushr _ _) (by omega) (by omega) (by omega) ⟨fun r => absurd r (big hcn), fun r => ?_⟩ (Or.inl (by omega))
              have := gsh_lt (by omega) r.1
              omega
          refine ⟨fun q4 => next _ (by omega), fun q4 => ⟨fun q5 => next _ (by omega), fun q5 => next _ (by omega)⟩⟩
  exact ⟨9, loop 9 1 code 0 (by omega) (by omega) hc (by omega) (by omega) (by omega) Iff.rfl (by omega)⟩
theorem sm_isPattern {σ : zS} {Q : Int → zS → Prop} {code : Int} (hc : zc code) (h1 : gpat code → Q 1 σ) (h0 : ¬ gpat code → Q 0 σ) : wp_MM_isPattern Q code σ := by
  have loop : ∀ (F m : Nat) (due n rest : Int), m < F → 0 ≤ due → due ≤ n + 1 → 0 ≤ n → n ≤ 31 → 0 ≤ rest → zc rest → rest < 2 ^ m → 2 * n + m ≤ 32 → (gpat code ↔ gsh due rest n) → lp_MM_isPattern_19 Q F due n rest σ := by
    intro F
    induction F with
    | zero => intro m due n rest hF; omega
    | succ F ih =>
      intro m due n rest hF d0 dn n0 n7 r0 hr hm hmn hg
      unfold lp_MM_isPattern_19
      refine ⟨hr, fun q => ⟨by omega, fun q2 => ⟨by omega, fun q3 => h0 (fun r => ?_), fun q3 => h1 (hg.mpr ?_)⟩, fun q2 => h0 (fun r => ?_)⟩, fun q => ?_⟩
      · have := (gsh_ge (hg.mp r)).2.2
        omega
      · subst q2
        exact gsh_0.mpr ⟨q, by omega⟩
      · have := gsh_hd (by omega) (hg.mp r)
        omega
      · rw [z_m3 hr]
        refine ⟨fun q2 => h0 (fun r => ?_), fun q2 => ⟨by omega, fun q3 => h0 (fun r => ?_), fun q3 => ?_⟩⟩
        · by_cases hd : due = 0
          · subst hd
            exact q (gsh_0.mp (hg.mp r)).1
          · have := gsh_hd (by omega) (hg.mp r)
            omega
        · subst q3
          exact q (gsh_0.mp (hg.mp r)).1
        · rintro y6 rfl y7 rfl
          rw [show zshr rest 2 = rest / 4 from b_shr (k := 2) hr (by decide)]
          have hm1 : 1 ≤ m := by
            rcases Nat.eq_zero_or_pos m with e | e
            · subst e
              simp at hm
              omega
            · exact e
          by_cases hm2 : m = 1
          · subst hm2
            have e4 : rest / 4 = 0 := by omega
            exact ih 0 _ _ _ (by omega) (by omega) (by omega) (by omega) (by omega) (by omega) (by omega) (by rw [e4]; decide) (by omega) (by rw [hg, gsh_step (by omega) (by omega)])
          · obtain ⟨m', rfl⟩ : ∃ m', m = m' + 2 := ⟨m - 2, by omega⟩
            refine ih m' _ _ _ (by omega) (by omega) (by omega) (by omega) (by omega) (by omega) (by omega) ?_ (by omega) ?_
            · rw [Int.pow_succ, Int.pow_succ] at hm
              omega
            · rw [hg, gsh_step (by omega) (by omega)]
  refine ⟨hc, fun q => h0 (fun r => ?_), fun q => ?_⟩
  · have := (gsh_ge r.1).1
    by_cases e : code = 0
    · have := gsh_hd (by decide) r.1
      omega
    · omega
  · rw [z_m3 hc]
    refine ⟨fun q2 => h0 (fun r => r.2 ?_), fun q2 => ⟨32, loop 32 31 1 0 code (by omega) (by omega) (by omega) (by omega) (by omega) (by omega) hc (by omega) (by omega) ⟨fun r => r.1, fun r => ⟨r, ?_⟩⟩⟩⟩
    · have := (gsh_step (by decide) (by omega)).mp r.1
      rw [q2] at this
      have := (gsh_0.mp this).1
      omega
    · rintro rfl
      exact q2 rfl
