/-! x's bind and trace -/
noncomputable abbrev xpS (σ : zS) (L : Gr) (C : Int → Int) : Pat → Int → List Int := xp (σ 1) (σ 2) (σ 3) (ro σ L) C
/-- the ends are noted from place a on -/
def bwr : zS → Int → List Int → zS
  | τ, _, [] => τ
  | τ, a, x :: l => bwr (zup τ 50 a x) (a + 1) l
theorem bwr_app : ∀ (l m : List Int) (τ : zS) (a : Int), bwr τ a (l ++ m) = bwr (bwr τ a l) (a + l.length) m
  | [], m, τ, a => by simp [bwr]
  | x :: l, m, τ, a => by
    simp only [List.cons_append, bwr, List.length_cons]
    rw [bwr_app l m, show a + 1 + (l.length : Int) = a + ((l.length + 1 : Nat) : Int) by omega]
theorem bwr_sm : ∀ (l : List Int) (τ : zS) (a : Int), zsm [50] τ (bwr τ a l)
  | [], τ, a => zsm.rf
  | x :: l, τ, a => (zsm_up (by decide)).trans (bwr_sm l _ _)
theorem bwr_at : ∀ (l : List Int) (τ : zS) (a k : Int), bwr τ a l 50 k = if a ≤ k ∧ k < a + l.length then l.getD (k - a).toNat 0 else τ 50 k
  | [], τ, a, k => by
    rw [if_neg (by simp only [List.length_nil]; omega)]
    rfl
  | x :: l, τ, a, k => by
    simp only [bwr]
    rw [bwr_at l, zup_or]
    simp only [List.length_cons]
    by_cases h1 : a + 1 ≤ k ∧ k < a + 1 + l.length
    · rw [if_pos h1, if_pos (by omega), show (k - a).toNat = (k - (a + 1)).toNat + 1 by omega, List.getD_cons_succ]
    · rw [if_neg h1]
      by_cases h2 : k = a
      · rw [if_pos h2, if_pos (by omega), h2, show (a - a).toNat = 0 by omega, List.getD_cons_zero]
      · rw [if_neg h2, if_neg (by omega)]
section
variable {σ : zS} {L : Gr} {pt : Int → Pat} {D : Int → Prop} {C : Int → Int}
theorem sx_bind (h : BW σ L pt) (hD : ∀ n, D n → 0 ≤ n ∧ n < L.length) (hd : ∀ n, D n → dpt (σ 1) (σ 2) (σ 3) D n) (hC : ∀ n, D n → 2 ≤ σ 1 n → ro σ L n = 0 → 0 ≤ C n ∧ C n ≤ 268435456) : ∀ (P : Pat) (d : Nat) (j b n t base : Int) (τ : zS) (Q : zS → Prop), xr σ τ L → (τ 13 = C) → pok P → (pdig P).length ≤ d → prep σ P j b → 0 ≤ n → n < L.length → D n ∨ (¬ isv P ∧ dpt (σ 1) (σ 2) (σ 3) D n) → xlS σ L C P n t < 268435456 → 0 ≤ base → 0 ≤ b → base + b + ppins P ≤ 196 → Q (bwr τ (base + b) (xpS σ L C P n)) → wp_bind d Q j n base τ
  | .var _, 0, _, _, _, _, _, _, _, _, _, _, hd, _, _, _, _, _, _, _, _, _ => by simp [pdig] at hd
  | .neg _, 0, _, _, _, _, _, _, _, _, _, _, hd, _, _, _, _, _, _, _, _, _ => by simp [pdig] at hd
  | .add _ _, 0, _, _, _, _, _, _, _, _, _, _, hd, _, _, _, _, _, _, _, _, _ => by simp [pdig] at hd
  | .var _, d + 1, j, b, n, t, base, τ, Q, hr, h13, _, _, ⟨a1, a2, a3, a4⟩, n0, n1, hn, hx, b0, b1, b2, hQ => by
    have k72 := hr.1 72 (by decide)
    have k30 := hr.1 30 (by decide)
    have k31 := hr.1 31 (by decide)
    have k70 := hr.1 70 (by decide)
    have e70 := h.e70
    simp only [ppins] at b2
    refine ⟨a1, by rw [k72]; exact a2, Or.inl ⟨by rw [k30]; exact a3, ?_⟩⟩
    unfold wp_PI_bind
    rw [k72, k30, k31, a4]
    refine ⟨a1, a2, a3, by omega, fun q => absurd q (by omega), fun _ => ⟨by omega, by omega, Or.inr ⟨n0, by rw [k70]; omega⟩, ?_⟩⟩
    rintro _ rfl
    exact hQ
  | .neg p, d + 1, j, b, n, t, base, τ, Q, hr, h13, hp, hlen, ⟨a1, a2, a3, a4⟩, n0, n1, hn, hx, b0, b1, b2, hQ => by
    have k72 := hr.1 72 (by decide)
    have k30 := hr.1 30 (by decide)
    have k31 := hr.1 31 (by decide)
    have k70 := hr.1 70 (by decide)
    have k1 := hr.1 1 (by decide)
    have k2 := hr.1 2 (by decide)
    have e70 := h.e70
    have nd := h.nd n0 n1
    have hn' : dpt (σ 1) (σ 2) (σ 3) D n := hn.elim (hd n) (fun q => q.2)
    by_cases hc : σ 1 n = 3 ∧ (t ≠ 0 ∨ ro σ L n = 0)
    · simp only [xlS, xl] at hx
      rw [if_pos hc] at hx
      have dx := hn'.2 hc.1
      refine ⟨a1, by rw [k72]; exact a2, Or.inr (Or.inl ⟨by rw [k30]; exact a3, ?_⟩)⟩
      unfold wp_IN_bind
      rw [k72, k70, k1, k30, k31, k2]
      exact ⟨a1, a2, n0, by omega, by omega, by omega, fun _ => ⟨a3, sx_bind h hD hd hC p d _ b _ 0 base τ _ hr h13 hp (by simp [pdig] at hlen; omega) a4 (hD _ dx).1 (hD _ dx).2 (Or.inl dx) hx b0 b1 b2 hQ⟩, fun q => absurd hc.1 q⟩
    · simp only [xlS, xl] at hx
      rw [if_neg hc] at hx
      omega
  | .add p q, d + 1, j, b, n, t, base, τ, Q, hr, h13, hp, hlen, ⟨a1, a2, a3, a4, a5⟩, n0, n1, hn, hx, b0, b1, b2, hQ => by
    have k72 := hr.1 72 (by decide)
    have k30 := hr.1 30 (by decide)
    have k31 := hr.1 31 (by decide)
    have k32 := hr.1 32 (by decide)
    have k70 := hr.1 70 (by decide)
    have k1 := hr.1 1 (by decide)
    have k2 := hr.1 2 (by decide)
    have k3 := hr.1 3 (by decide)
    have e70 := h.e70
    have nd := h.nd n0 n1
    have hn' : dpt (σ 1) (σ 2) (σ 3) D n := hn.elim (hd n) (fun q => q.2)
    have hl1 : (pdig p).length ≤ d := by simp [pdig] at hlen; omega
    have hl2 : (pdig q).length ≤ d := by simp [pdig] at hlen; omega
    have pp1 := ppins_1 p hp.1
    have pp2 := ppins_1 q hp.2
    simp only [ppins] at b2
    by_cases hc : σ 1 n = 2 ∧ (t ≠ 0 ∨ ro σ L n = 0)
    · obtain ⟨dx, dy⟩ := hn'.1 hc.1
      have hCt : ∀ n, D n → 2 ≤ σ 1 n → ro σ L n = 0 → 0 ≤ τ 13 n ∧ τ 13 n ≤ 268435456 := by rw [h13]; exact hC
      have g1 := xl_b hd hC p (σ 2 n) 0 (Or.inl dx)
      have g2 := xl_b hd hC q (σ 3 n) 0 (Or.inl dy)
      have g3 := xl_b hd hC p (σ 3 n) 0 (Or.inl dy)
      have g4 := xl_b hd hC q (σ 2 n) 0 (Or.inl dx)
      have f1 := xlS_b hd hCt p (σ 2 n) 0 (Or.inl dx)
      have f2 := xlS_b hd hCt q (σ 3 n) 0 (Or.inl dy)
      have f3 := xlS_b hd hCt p (σ 3 n) 0 (Or.inl dy)
      have f4 := xlS_b hd hCt q (σ 2 n) 0 (Or.inl dx)
      rw [xlS, xl_add, if_pos hc] at hx
      -- one bind after the other
      have two : ∀ u w, D u → D w → xlS σ L C p u 0 < 268435456 → xlS σ L C q w 0 < 268435456 → Q (bwr τ (base + b) (xpS σ L C p u ++ xpS σ L C q w)) → ∀ (R : zS → Prop), (∀ υ, xr σ υ L → wp_bind d Q (σ 32 j) w base υ → R υ) → wp_bind d R (σ 31 j) u base τ := by
        intro u w du dw x1 x2 hq R hR
        refine sx_bind h hD hd hC p d _ b u 0 base τ R hr h13 hp.1 hl1 a4 (hD _ du).1 (hD _ du).2 (Or.inl du) x1 b0 b1 (by omega) ?_
        have sm := bwr_sm (xpS σ L C p u) τ (base + b)
        have ur : xr σ (bwr τ (base + b) (xpS σ L C p u)) L := ⟨hr.1.trans (sm.mono (by decide)), fun i i0 i1 => by rw [sm 9 (by decide), sm 10 (by decide), sm 12 (by decide)]; exact hr.2 i i0 i1⟩
        refine hR _ ur (sx_bind h hD hd hC q d _ _ w 0 base _ Q ur (by rw [sm 13 (by decide)]; exact h13) hp.2 hl2 a5 (hD _ dw).1 (hD _ dw).2 (Or.inl dw) x2 b0 (by omega) (by omega) ?_)
        rw [bwr_app, xp_len p u hp.1] at hq
        rw [show base + (b + (ppins p : Int)) = base + b + ppins p by omega]
        exact hq
      refine ⟨a1, by rw [k72]; exact a2, Or.inr (Or.inr ⟨by rw [k30]; exact a3, ?_⟩)⟩
      unfold wp_NA_bind
      rw [k72, k70, k1, k30]
      refine ⟨a1, a2, n0, by omega, by omega, by omega, fun _ => ⟨a3, ?_⟩, fun q => absurd hc.1 q⟩
      unfold wp_NA_straight
      rw [k72, k30, k70, k31, k2]
      refine ⟨a1, a2, a3, n0, by omega, sx_lay h hr hD hd hCt p d _ b _ 0 _ hp.1 hl1 a4 (hD _ dx).1 (hD _ dx).2 (Or.inl dx) (by decide) ?_⟩
      rw [k72, k30, k70, k32, k3]
      refine ⟨a1, a2, a3, n0, by omega, sx_lay h hr hD hd hCt q d _ _ _ 0 _ hp.2 hl2 a5 (hD _ dy).1 (hD _ dy).2 (Or.inl dy) (by decide) ⟨by omega, ?_⟩⟩
      refine ⟨a1, by rw [k72]; exact a2, by rw [k30]; exact a3, ?_⟩
      unfold wp_NA_swapped
      rw [k72, k30, k70, k31, k3]
      refine ⟨a1, a2, a3, n0, by omega, sx_lay h hr hD hd hCt p d _ b _ 0 _ hp.1 hl1 a4 (hD _ dy).1 (hD _ dy).2 (Or.inl dy) (by decide) ?_⟩
      rw [k72, k30, k70, k32, k2]
      refine ⟨a1, a2, a3, n0, by omega, sx_lay h hr hD hd hCt q d _ _ _ 0 _ hp.2 hl2 a5 (hD _ dx).1 (hD _ dx).2 (Or.inl dx) (by decide) ⟨by omega, ?_⟩⟩
      rw [h13]
      show zc (xst (σ 1) (σ 2) (σ 3) (ro σ L) C p q n) ∧ zc (xsw (σ 1) (σ 2) (σ 3) (ro σ L) C p q n) ∧ ((xsw (σ 1) (σ 2) (σ 3) (ro σ L) C p q n < xst (σ 1) (σ 2) (σ 3) (ro σ L) C p q n → _) ∧ (¬ xsw (σ 1) (σ 2) (σ 3) (ro σ L) C p q n < xst (σ 1) (σ 2) (σ 3) (ro σ L) C p q n → _))
      have s1 : zc (xst (σ 1) (σ 2) (σ 3) (ro σ L) C p q n) := by
        simp only [xst]
        split <;> omega
      have s2 : zc (xsw (σ 1) (σ 2) (σ 3) (ro σ L) C p q n) := by
        simp only [xsw]
        split <;> omega
      refine ⟨s1, s2, fun hw => ?_, fun hw => ?_⟩
      · rw [if_pos hw] at hx
        have e : xl (σ 1) (σ 2) (σ 3) (ro σ L) C p (σ 3 n) 0 + xl (σ 1) (σ 2) (σ 3) (ro σ L) C q (σ 2 n) 0 < 268435456 := by
          simp only [xsw] at hx
          split at hx <;> omega
        simp only [xpS, xp] at hQ
        rw [if_pos hw] at hQ
        unfold bk_NA_bind_29
        rw [k72, k30, k70, k31, k3]
        refine ⟨a1, a2, a3, by decide, fun _ => ⟨n0, by omega, ?_⟩, fun q => absurd rfl q⟩
        refine two (σ 3 n) (σ 2 n) dy dx (by show xl _ _ _ _ _ _ _ _ < _; omega) (by show xl _ _ _ _ _ _ _ _ < _; omega) hQ _ (fun υ ur hb => ?_)
        rw [ur.1 72 (by decide), ur.1 30 (by decide), ur.1 70 (by decide), ur.1 2 (by decide), ur.1 32 (by decide)]
        exact ⟨a1, a2, a3, by decide, fun _ => ⟨n0, by omega, hb⟩, fun q => absurd rfl q⟩
      · rw [if_neg hw] at hx
        have e : xl (σ 1) (σ 2) (σ 3) (ro σ L) C p (σ 2 n) 0 + xl (σ 1) (σ 2) (σ 3) (ro σ L) C q (σ 3 n) 0 < 268435456 := by
          simp only [xst] at hx
          split at hx <;> omega
        simp only [xpS, xp] at hQ
        rw [if_neg hw] at hQ
        unfold bk_NA_bind_29
        rw [k72, k30, k70, k31, k2]
        refine ⟨a1, a2, a3, by decide, fun q => absurd q (by decide), fun _ => ⟨n0, by omega, ?_⟩⟩
        refine two (σ 2 n) (σ 3 n) dx dy (by show xl _ _ _ _ _ _ _ _ < _; omega) (by show xl _ _ _ _ _ _ _ _ < _; omega) hQ _ (fun υ ur hb => ?_)
        rw [ur.1 72 (by decide), ur.1 30 (by decide), ur.1 70 (by decide), ur.1 3 (by decide), ur.1 32 (by decide)]
        exact ⟨a1, a2, a3, by decide, fun q => absurd q (by decide), fun _ => ⟨n0, by omega, hb⟩⟩
    · rw [xlS, xl_add, if_neg hc] at hx
      omega
  | .num _, _, _, _, _, _, _, _, _, _, _, hp, _, _, _, _, _, _, _, _, _, _ => hp.elim
  | .sub _ _, _, _, _, _, _, _, _, _, _, _, hp, _, _, _, _, _, _, _, _, _, _ => hp.elim
  | .mulL _ _, _, _, _, _, _, _, _, _, _, _, hp, _, _, _, _, _, _, _, _, _, _ => hp.elim
  | .mulR _ _, _, _, _, _, _, _, _, _, _, _, hp, _, _, _, _, _, _, _, _, _, _ => hp.elim
end
/-- back through latches: the node, how many, their initial values -/
def tno (σ : zS) : Nat → Int → Int
  | 0, i => i
  | k + 1, i => if σ 1 i = 1 then tno σ k (σ 5 i) else i
def twe (σ : zS) : Nat → Int → Int
  | 0, _ => 0
  | k + 1, i => if σ 1 i = 1 then 1 + twe σ k (σ 5 i) else 0
def tbi (σ : zS) : Nat → Int → Int → Int
  | 0, a, _ => a
  | k + 1, a, i => if σ 1 i = 1 then tbi σ k (2 * a + σ 4 i) (σ 5 i) else a
def rng (σ : zS) (L : Gr) : Prop := ∃ i : Int, 0 ≤ i ∧ i < L.length ∧ σ 1 i = 1 ∧ σ 1 (tno σ 7 i) = 1
theorem drv_b {σ : zS} {L : Gr} {pt : Int → Pat} (h : BW σ L pt) (hu : ¬ und σ L) {i : Int} (i0 : 0 ≤ i) (i1 : i < L.length) (hk : σ 1 i = 1) : 0 ≤ σ 5 i ∧ σ 5 i < L.length := pinP_b h hu (Or.inr ⟨i, i0, i1, hk, rfl⟩)
theorem tno_b {σ : zS} {L : Gr} {pt : Int → Pat} (h : BW σ L pt) (hu : ¬ und σ L) : ∀ (k : Nat) (i : Int), 0 ≤ i → i < L.length → 0 ≤ tno σ k i ∧ tno σ k i < L.length
  | 0, i, i0, i1 => ⟨i0, i1⟩
  | k + 1, i, i0, i1 => by
    simp only [tno]
    split
    · rename_i hk
      have := drv_b h hu i0 i1 hk
      exact tno_b h hu k _ this.1 this.2
    · exact ⟨i0, i1⟩
theorem twe_b (σ : zS) : ∀ (k : Nat) (i : Int), 0 ≤ twe σ k i ∧ twe σ k i ≤ k
  | 0, i => by simp [twe]
  | k + 1, i => by
    have := twe_b σ k (σ 5 i)
    simp only [twe]
    split <;> omega
theorem tbi_b {σ : zS} {L : Gr} {pt : Int → Pat} (h : BW σ L pt) (hu : ¬ und σ L) : ∀ (k : Nat) (a i : Int) (w : Nat), 0 ≤ i → i < L.length → 0 ≤ a → a < 2 ^ w → 0 ≤ tbi σ k a i ∧ tbi σ k a i < 2 ^ (w + (twe σ k i).toNat)
  | 0, a, i, w, _, _, a0, a1 => by simpa [tbi, twe] using ⟨a0, a1⟩
  | k + 1, a, i, w, i0, i1, a0, a1 => by
    simp only [tbi, twe]
    split
    · rename_i hk
      have hd := drv_b h hu i0 i1 hk
      have h4 := (h.lan i i0 i1 hk).2.2.2.1
      have ht := twe_b σ k (σ 5 i)
      have e : (2 : Int) ^ (w + 1) = 2 ^ w * 2 := Int.pow_succ ..
      have := tbi_b h hu k (2 * a + σ 4 i) (σ 5 i) (w + 1) hd.1 hd.2 (by omega) (by omega)
      rw [show w + (1 + twe σ k (σ 5 i)).toNat = w + 1 + (twe σ k (σ 5 i)).toNat by omega]
      exact this
    · simpa using ⟨a0, a1⟩
theorem sx_trace {σ τ : zS} {L : Gr} {pt : Int → Pat} {Q : zS → Prop} {k e : Int} (h : BW σ L pt) (hu : ¬ und σ L) (ht : zsm mk σ τ) (k0 : 0 ≤ k) (k1 : k < 196) (he : τ 50 k = e) (e0 : 0 ≤ e) (e1 : e < L.length) (h52 : τ 52 k = 0) (h53 : τ 53 k = 0) (hQ : ∀ υ, zsm [51, 52, 53] τ υ → (∀ i : Int, i ≠ k → υ 51 i = τ 51 i ∧ υ 52 i = τ 52 i ∧ υ 53 i = τ 53 i) → υ 51 k = tno σ 7 e → υ 52 k = twe σ 7 e → υ 53 k = tbi σ 7 0 e → Q υ) : wp_CX_trace Q k τ := by
  have e70 := h.e70
  refine ⟨k0, k1, ?_⟩
  intro y hy
  rw [hy, he]
  generalize hR1 : tno σ 7 e = R1 at hQ
  generalize hR2 : twe σ 7 e = R2 at hQ
  generalize hR3 : tbi σ 7 0 e = R3 at hQ
  have loop : ∀ (j : Nat) (n w a : Int) (υ : zS), j + w = 7 → 0 ≤ w → 0 ≤ n → n < L.length → zsm [51, 52, 53] τ υ → (∀ i : Int, i ≠ k → υ 51 i = τ 51 i ∧ υ 52 i = τ 52 i ∧ υ 53 i = τ 53 i) → υ 52 k = w → υ 53 k = a → 0 ≤ a → a < 2 ^ w.toNat → tno σ j n = R1 → w + twe σ j n = R2 → tbi σ j a n = R3 → lp_CX_trace_7 Q (j + 1) k n υ := by
    intro j
    induction j with
    | zero =>
      intro n w a υ hj w0 n0 n1 us ui u52 u53 a0 a1 r1 r2 r3
      have U : ∀ f, f ∉ mk → υ f = σ f := fun f hf => (us f (fun q => hf (by revert q; simp [mk]; omega))).trans (ht f hf)
      have fin : bk_CX_trace_70 Q k n υ := by
        refine ⟨k0, k1, Or.inr ⟨n0, by rw [U 70 (by decide)]; omega⟩, ?_⟩
        rintro _ rfl
        refine hQ _ (us.up (by decide)) (fun i hi => ?_) (by rw [zup_at, ← r1]; rfl) (by rw [zup_ne _ _ _ _ (by decide), u52, ← r2]; simp [twe]) (by rw [zup_ne _ _ _ _ (by decide), u53, ← r3]; rfl)
        rw [zup_ni _ _ _ hi, zup_ne _ _ _ _ (by decide), zup_ne _ _ _ _ (by decide)]
        exact ui i hi
      have nd := h.nd n0 n1
      unfold lp_CX_trace_7
      rw [U 70 (by decide), U 1 (by decide), u52]
      exact ⟨fun q => absurd q (by omega), fun _ => ⟨n0, by omega, by omega, by omega, fun q => ⟨k0, k1, by omega, fun _ => fin, fun q2 => absurd q2 (by omega)⟩, fun _ => fin⟩⟩
    | succ j ih =>
      intro n w a υ hj w0 n0 n1 us ui u52 u53 a0 a1 r1 r2 r3
      have U : ∀ f, f ∉ mk → υ f = σ f := fun f hf => (us f (fun q => hf (by revert q; simp [mk]; omega))).trans (ht f hf)
      have nd := h.nd n0 n1
      unfold lp_CX_trace_7
      rw [U 70 (by decide), U 1 (by decide), u52]
      refine ⟨fun q => absurd q (by omega), fun _ => ⟨n0, by omega, by omega, by omega, fun q => ⟨k0, k1, by omega, fun q2 => absurd q2 (by omega), fun _ => ⟨?_, ?_⟩⟩, fun q => ?_⟩⟩
      · rw [U 4 (by decide)]
        have := (h.lan n n0 n1 q).2.2.2.1
        omega
      · have h4 := (h.lan n n0 n1 q).2.2.2.1
        have hd := drv_b h hu n0 n1 q
        have hp : (2 : Int) ^ w.toNat ≤ 2 ^ 7 := by
          have := Nat.pow_le_pow_right (n := 2) (by decide) (show w.toNat ≤ 7 by omega)
          exact_mod_cast this
        have h7 : (2 : Int) ^ 7 = 128 := by decide
        have h61 : (2 : Int) ^ 61 = 2305843009213693952 := by decide
        rw [U 4 (by decide), u53, z_lin a0 (by omega) h4]
        rintro _ rfl _ rfl
        rw [zup_ne _ _ _ k (by decide), u52]
        intro y5 hy5
        rw [zup_ne _ _ _ _ (by decide), zup_ne _ _ _ _ (by decide), U 5 (by decide)] at hy5
        rw [hy5]
        refine ih _ (w + 1) (2 * a + σ 4 n) _ (by omega) (by omega) hd.1 hd.2 ((us.up (by decide)).up (by decide)) (fun i hi => ?_) (zup_at _ _ _ _) (by rw [zup_ne _ _ _ _ (by decide), zup_at]) (by omega) ?_ ?_ ?_ ?_
        · rw [zup_ne _ _ _ _ (by decide), zup_ne _ _ _ _ (by decide), zup_ni _ _ _ hi, zup_ne _ _ _ _ (by decide), zup_ne _ _ _ _ (by decide), zup_ni _ _ _ hi]
          exact ui i hi
        · rw [show (w + 1).toNat = w.toNat + 1 by omega, Int.pow_succ]
          omega
        · rw [← r1]
          simp only [tno]
          rw [if_pos q]
        · rw [← r2]
          simp only [twe]
          rw [if_pos q]
          omega
        · rw [← r3]
          simp only [tbi]
          rw [if_pos q]
      · refine ⟨k0, k1, Or.inr ⟨n0, by rw [U 70 (by decide)]; omega⟩, ?_⟩
        rintro _ rfl
        simp only [tno, twe, tbi] at r1 r2 r3
        rw [if_neg q] at r1 r2 r3
        refine hQ _ (us.up (by decide)) (fun i hi => ?_) (by rw [zup_at, ← r1]) (by rw [zup_ne _ _ _ _ (by decide), u52, ← r2]; simp) (by rw [zup_ne _ _ _ _ (by decide), u53, ← r3])
        rw [zup_ni _ _ _ hi, zup_ne _ _ _ _ (by decide), zup_ne _ _ _ _ (by decide)]
        exact ui i hi
  exact ⟨8, loop 7 e 0 0 τ (by decide) (by decide) e0 e1 zsm.rf (fun i _ => ⟨rfl, rfl, rfl⟩) h52 h53 (by decide) (by decide) hR1 (by omega) hR3⟩
