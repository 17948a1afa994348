/-! clock: both sides -/
/-- the values of the nodes, as a valuation -/
def nval (τ : zS) (n : Int) (i : Int) : Int := if 0 ≤ i ∧ i < n then τ 6 i else 0
theorem nval_in {τ : zS} {n i : Int} (h0 : 0 ≤ i) (h1 : i < n) : nval τ n i = τ 6 i := by unfold nval; rw [if_pos ⟨h0, h1⟩]
/-- what x's clock has worked out -/
def xval (σ τ : zS) (L : Gr) (v1 : Int) : Prop := zsm [6] σ τ ∧ gval L (nval τ L.length) ∧ (∀ i : Int, 0 ≤ i → i < L.length → σ 1 i = 0 → τ 6 i = zand (zshr v1 (σ 4 i)) 1) ∧ (∀ i : Int, 0 ≤ i → i < L.length → σ 1 i = 1 → τ 6 i = σ 7 i) ∧ (∀ i : Int, 0 ≤ i → i < L.length → τ 6 i = 0 ∨ τ 6 i = 1)
theorem sx_values {σ τ0 : zS} {L : Gr} {pt : Int → Pat} {Q : Int → zS → Prop} {v1 : Int} (h : BW σ L pt) (f1 : zsm [6] σ τ0) (f2 : ∀ i : Int, 0 ≤ i → i < L.length → σ 1 i = 0 → τ0 6 i = zand (zshr v1 (σ 4 i)) 1) (hQ : ∀ τ, xval σ τ L v1 → ∃ u, lp_CX_clock_137 Q u 0 0 τ) : ∃ u, lp_CX_clock_20 Q u 0 τ0 := by
  have hlen := h.len
  have e40 := h.e40
  have e70 := h.e70
  refine lp_for (lp := fun n v a => lp_CX_clock_20 Q n v a) (fun v τ => zsm [6] σ τ ∧ 0 ≤ v ∧ (∀ i : Int, 0 ≤ i → i < L.length → σ 1 i = 0 → τ 6 i = zand (zshr v1 (σ 4 i)) 1) ∧ (∀ i : Int, 0 ≤ i → i < v → (τ 6 i = 0 ∨ τ 6 i = 1) ∧ (σ 1 i = 1 → τ 6 i = σ 7 i) ∧ (σ 1 i = 2 → τ 6 i = 1 - τ 6 (σ 2 i) * τ 6 (σ 3 i)) ∧ (σ 1 i = 3 → τ 6 i = 1 - τ 6 (σ 2 i)))) L.length (fun n v τ hv hI nx => ?_) 0 τ0 (by omega) ⟨f1, by omega, f2, fun i i0 i1 => absurd i1 (by omega)⟩
  obtain ⟨hs, v0, hin, hI⟩ := hI
  unfold lp_CX_clock_20
  rw [hs 40 (by decide), hs 41 (by decide), hs 70 (by decide), hs 1 (by decide), hs 2 (by decide), hs 3 (by decide), hs 7 (by decide)]
  refine ⟨by omega, by omega, fun q => hQ τ ⟨hs, ⟨fun i => ?_, fun i k x y hi => ?_⟩, hin, fun i i0 i1 => (hI i i0 (by omega)).2.1, fun i i0 i1 => (hI i i0 (by omega)).1⟩, fun q => ?_⟩
  · unfold nval
    split
    · rename_i hh
      exact (hI i hh.1 (by omega)).1
    · exact Or.inl rfl
  · have hil := (List.getElem?_eq_some_iff.mp hi).1
    obtain ⟨b1, b2, b3⟩ := h.xg.2.2.2.2.2 i k x y hi
    have hr := h.xg.2.2.1 i k x y hi
    have hh := hI i (by omega) (by omega)
    rw [nval_in (by omega) (by omega)]
    refine ⟨fun hk => ?_, fun hk => ?_⟩
    · have := hh.2.2.1 (by omega)
      rw [nval_in (by omega) (by omega), nval_in (by omega) (by omega), this, b2, b3]
    · have := hh.2.2.2 (by omega)
      rw [nval_in (by omega) (by omega), this, b2]
  · have hv2 : v < L.length := by omega
    obtain ⟨d1, d2, d3, d4, d5, d6⟩ := h.nd v0 hv2
    refine ⟨v0, by omega, by omega, by omega, ?_⟩
    rintro _ rfl
    rw [d4]
    have upd : ∀ w, (w = 0 ∨ w = 1) → (σ 1 v = 0 → w = τ 6 v) → (σ 1 v = 1 → w = σ 7 v) → (σ 1 v = 2 → w = 1 - τ 6 (σ 2 v) * τ 6 (σ 3 v)) → (σ 1 v = 3 → w = 1 - τ 6 (σ 2 v)) → ∀ τ', zsm [6] σ τ' → (∀ i : Int, τ' 6 i = if i = v then w else τ 6 i) → lp_CX_clock_20 Q n (v + 1) τ' := by
      intro w w01 w0 w1 w2 w3 τ' hs' hw
      refine nx hv2 _ ⟨hs', by omega, fun i i0 i1 hk => ?_, fun i i0 i1 => ?_⟩
      · rw [hw]
        by_cases e : i = v
        · rw [if_pos e, e, w0 (by rw [← e]; exact hk), ← e]
          exact hin i i0 i1 hk
        · rw [if_neg e]
          exact hin i i0 i1 hk
      · by_cases e : i = v
        · subst e
          rw [hw, if_pos rfl]
          refine ⟨w01, w1, fun hk => ?_, fun hk => ?_⟩
          · rw [hw, hw, if_neg (by omega), if_neg (by omega)]
            exact w2 hk
          · rw [hw, if_neg (by omega)]
            exact w3 hk
        · have hi := hI i i0 (by omega)
          obtain ⟨-, -, -, -, -, g6⟩ := h.nd i0 (show i < L.length by omega)
          rw [hw, if_neg e]
          refine ⟨hi.1, hi.2.1, fun hk => ?_, fun hk => ?_⟩
          · rw [hw, hw, if_neg (by omega), if_neg (by omega)]
            exact hi.2.2.1 hk
          · rw [hw, if_neg (by omega)]
            exact hi.2.2.2 hk
    have V : ∀ x : Int, 0 ≤ x → x < v → τ 6 x = 0 ∨ τ 6 x = 1 := fun x x0 x1 => (hI x x0 x1).1
    refine ⟨by omega, by omega, by omega, fun k1 => ?_, fun k1 => ⟨by omega, by omega, by omega, by omega, ?_⟩, fun k1 => ⟨by omega, by omega, ?_⟩, fun k1 => ?_⟩
    · rintro _ rfl
      have := (h.lan v v0 hv2 k1).2.2.2.2.1
      exact upd (σ 7 v) this (fun q => by omega) (fun _ => rfl) (fun q => by omega) (fun q => by omega) _ (hs.up (by decide)) (fun i => zup_or _ _ _ _ _)
    · rintro _ rfl
      have a := V (σ 2 v) (by omega) (by omega)
      have b := V (σ 3 v) (by omega) (by omega)
      rw [z_andb a b]
      exact upd _ (by rcases a with e | e <;> rcases b with e2 | e2 <;> rw [e, e2] <;> decide) (fun q => by omega) (fun q => by omega) (fun _ => rfl) (fun q => by omega) _ (hs.up (by decide)) (fun i => zup_or _ _ _ _ _)
    · rintro _ rfl
      have a := V (σ 2 v) (by omega) (by omega)
      exact upd _ (by omega) (fun q => by omega) (fun q => by omega) (fun q => by omega) (fun _ => rfl) _ (hs.up (by decide)) (fun i => zup_or _ _ _ _ _)
    · refine upd (τ 6 v) ?_ (fun _ => rfl) (fun q => by omega) (fun q => by omega) (fun q => by omega) τ hs (fun i => ?_)
      · rw [hin v v0 hv2 (by omega)]
        exact bt_01 _ _
      · split
        · rename_i e; rw [e]
        · rfl
/-- the outputs as a number -/
def osum (f : Int → Int) : Nat → Int
  | 0 => 0
  | n + 1 => osum f n + f n * 2 ^ n
theorem osum_b {f : Int → Int} : ∀ (n : Nat), (∀ k : Int, 0 ≤ k → k < n → f k = 0 ∨ f k = 1) → 0 ≤ osum f n ∧ osum f n < 2 ^ n
  | 0, _ => by simp [osum]
  | n + 1, h => by
    have h1 := osum_b n (fun k k0 k1 => h k k0 (by omega))
    have h2 := h n (by omega) (by omega)
    simp only [osum, Int.pow_succ]
    rcases h2 with e | e <;> rw [e] <;> omega
theorem osum_step {f : Int → Int} {k : Int} (k0 : 0 ≤ k) (k1 : k < 4) (h : ∀ j : Int, 0 ≤ j → j ≤ k → f j = 0 ∨ f j = 1) : zor (osum f k.toNat) (zshl (f k) k) = osum f (k + 1).toNat := by
  have hb := osum_b (f := f) k.toNat (fun j j0 j1 => h j j0 (by omega))
  have e : ((k.toNat : Nat) : Int) = k := by omega
  have := z_orb (k := k.toNat) hb.1 hb.2 (h k k0 (by omega)) (by omega)
  rw [e] at this
  rw [this, show (k + 1).toNat = k.toNat + 1 by omega]
  simp only [osum]
  rw [e]
def xclk (σ υ : zS) (L : Gr) : Prop := (∀ i : Int, 0 ≤ i → i < L.length → σ 1 i = 1 → υ 7 i = υ 6 (σ 5 i)) ∧ ∀ i : Int, ¬ (0 ≤ i ∧ i < L.length ∧ σ 1 i = 1) → υ 7 i = σ 7 i
theorem sx_clock {σ : zS} {L : Gr} {pt : Int → Pat} {Q : Int → zS → Prop} {v1 : Int} (h : BW σ L pt) (h1 : und σ L → Q (-3) σ) (h0 : ¬ und σ L → ∀ τ υ, xval σ τ L v1 → zsm [7] τ υ → xclk σ υ L → Q (osum (fun k => τ 6 (σ 45 k)) (σ 40 4).toNat) υ) : wp_CX_clock Q v1 σ := by
  refine sx_undriven h (fun hu => ⟨by decide, fun q => absurd q (by decide), fun _ => h1 hu⟩) (fun hu => ⟨by decide, fun _ => ?_, fun q => absurd rfl q⟩)
  refine sx_feed h (fun τ0 f1 f2 f3 => sx_values h f1 f2 (fun τ hx => ?_))
  have hx' := hx
  obtain ⟨hs, hg, hin, hla, hvl⟩ := hx
  have o0 := h.o0
  have o1 := h.o1
  have l0 := h.l0
  have l1 := h.l1
  have e70 := h.e70
  have n1 := h.n1
  refine lp_for (lp := fun n v (a : Int) => lp_CX_clock_137 Q n a v τ) (fun v a => 0 ≤ v ∧ a = osum (fun k => τ 6 (σ 45 k)) v.toNat) (σ 40 4) (fun n v a hv hI nx => ?_) 0 0 o0 ⟨by omega, rfl⟩
  obtain ⟨v0, rfl⟩ := hI
  unfold lp_CX_clock_137
  rw [hs 40 (by decide), hs 45 (by decide), hs 70 (by decide)]
  have out : ∀ k : Int, 0 ≤ k → k < σ 40 4 → 0 ≤ σ 45 k ∧ σ 45 k < L.length := fun k k0 k1 => by
    obtain ⟨a1, a2, a3⟩ := h.out k k0 k1
    rw [a3]
    exact ⟨(h.net _ a1 a2).1, (h.net _ a1 a2).2.1⟩
  refine ⟨by omega, by omega, fun q => ?_, fun q => ⟨v0, by omega, (out v v0 (by omega)).1, by rw [e70]; exact (out v v0 (by omega)).2, ?_⟩⟩
  · have : v = σ 40 4 := by omega
    subst this
    refine lp_for (lp := fun n v a => lp_CX_clock_175 Q n _ v a) (fun v υ => zsm [7] τ υ ∧ 0 ≤ v ∧ (∀ k : Int, 0 ≤ k → k < v → υ 7 (σ 44 k) = τ 6 (σ 5 (σ 44 k))) ∧ (∀ i : Int, ¬ (0 ≤ i ∧ i < L.length ∧ σ 1 i = 1) → υ 7 i = σ 7 i)) (σ 40 3) (fun n v υ hv hI nx => ?_) 0 τ l0 ⟨zsm.rf, by omega, fun k k0 k1 => absurd k1 (by omega), fun i _ => by rw [hs 7 (by decide)]⟩
    obtain ⟨us, v0, hI, hJ⟩ := hI
    have E : ∀ f, f ≠ 7 → f ≠ 6 → υ f = σ f := fun f h1 h2 => (us f (by simp; omega)).trans (hs f (by simp; omega))
    unfold lp_CX_clock_175
    rw [E 40 (by decide) (by decide), E 44 (by decide) (by decide), E 70 (by decide) (by decide), E 5 (by decide) (by decide), us 6 (by decide)]
    refine ⟨by omega, by omega, fun q => h0 hu τ υ hx' us ⟨fun i i0 i1 hk => ?_, hJ⟩, fun q => ?_⟩
    · obtain ⟨k, k0, k1, k2⟩ := (h.lan i i0 i1 hk).1
      have := hI k k0 (by omega)
      rw [k2] at this
      rw [this, us 6 (by decide)]
    · have hl := h.lat v v0 (by omega)
      have hd : 0 ≤ σ 5 (σ 44 v) := Classical.byContradiction fun q2 => hu ⟨_, hl.1, hl.2.1, hl.2.2, by omega⟩
      have hd2 : σ 5 (σ 44 v) < L.length := by
        have := (h.lan _ hl.1 hl.2.1 hl.2.2).2.2.2.2.2.2
        rcases this with ⟨a1, a2⟩ | ⟨a1, a2, a3⟩
        · omega
        · rw [a3]
          exact (h.net _ a1 a2).2.1
      refine ⟨v0, by omega, hl.1, by omega, ?_⟩
      rintro _ rfl
      refine ⟨hd, by omega, ?_⟩
      rintro _ rfl
      refine nx (by omega) _ ⟨us.up (by decide), by omega, fun k k0 k1 => ?_, fun i hi2 => ?_⟩
      · rw [zup_or]
        by_cases e : σ 44 k = σ 44 v
        · rw [if_pos e, e]
        · rw [if_neg e]
          refine hI k k0 ?_
          by_cases e2 : k = v
          · rw [e2] at e; exact absurd rfl e
          · omega
      · rw [zup_or, if_neg (fun e => hi2 (by rw [e]; exact ⟨hl.1, hl.2.1, hl.2.2⟩))]
        exact hJ i hi2
  · rintro _ rfl
    refine nx (by omega) _ ⟨by omega, ?_⟩
    exact osum_step (f := fun k => τ 6 (σ 45 k)) v0 (by omega) (fun j j0 j1 => hvl _ (out j j0 (by omega)).1 (out j j0 (by omega)).2)
theorem tb_bit {t : Int} (h0 : 0 < t) (h1 : t < 255) {k : Int} (k0 : 0 ≤ k) (k1 : k < 8) : zand (zshr t k) 1 = tb t k := by
  have := z_bit (x := t) (k := k.toNat) (by omega) (by omega)
  rw [show ((k.toNat : Nat) : Int) = k by omega] at this
  rw [this]
  rfl
/-- the model's values: those of the nodes -/
theorem sm_clock {σ τ υ : zS} {L : Gr} {pt : Int → Pat} {Q : Int → zS → Prop} {v1 : Int} (h : BW σ L pt) (hu : ¬ und σ L) (hx : xval σ τ L v1) (U : ∀ f, 100 ≤ f → υ f = σ f) (hQ : ∀ ω, zsm [104, 110] υ ω → (∀ j : Int, 0 ≤ j → j < σ 40 1 → σ 101 j = 1 → ω 104 j = τ 6 (σ 42 (σ 105 j))) → Q (osum (fun k => τ 6 (σ 45 k)) (σ 40 4).toNat) ω) : wp_MM_clock Q v1 υ := by
  obtain ⟨hs, hg, hin, hla, hvl⟩ := hx
  have n0 := h.n0
  have n1 := h.n1
  have n2 := h.n2
  have o0 := h.o0
  have o1 := h.o1
  have o2 := h.o2
  have hlen := h.len
  refine sm_undriven h (U 100 (by decide)) (U 101 (by decide)) (U 105 (by decide)) (fun q => absurd q hu) (fun _ => ⟨by decide, fun _ => ?_, fun q => absurd rfl q⟩)
  refine lp_for (lp := fun n v a => lp_MM_clock_14 Q n v1 0 v a) (fun v ω => zsm [110] υ ω ∧ 0 ≤ v ∧ ∀ j : Int, 0 ≤ j → j < v → ω 110 j = τ 6 (σ 42 j)) (σ 40 1) (fun n v ω hv hI nx => ?_) 0 υ n0 ⟨zsm.rf, by omega, fun j j0 j1 => absurd j1 (by omega)⟩
  obtain ⟨ws, v0, hI⟩ := hI
  have W : ∀ f, 100 ≤ f → f ≠ 110 → ω f = σ f := fun f h1 h2 => (ws f (by simp; omega)).trans (U f h1)
  unfold lp_MM_clock_14
  rw [W 100 (by decide) (by decide), W 101 (by decide) (by decide), W 102 (by decide) (by decide), W 104 (by decide) (by decide), W 106 (by decide) (by decide), W 107 (by decide) (by decide)]
  refine ⟨by omega, by omega, fun q => ?_, fun q => ?_⟩
  · -- the outputs, then the latches
    refine lp_for (lp := fun n v (a : Int) => lp_MM_clock_178 Q n a v ω) (fun v a => 0 ≤ v ∧ a = osum (fun k => τ 6 (σ 45 k)) v.toNat) (σ 40 4) (fun n v a hv hI2 nx => ?_) 0 0 o0 ⟨by omega, rfl⟩
    obtain ⟨v0, rfl⟩ := hI2
    unfold lp_MM_clock_178
    rw [W 118 (by decide) (by decide), W 119 (by decide) (by decide)]
    refine ⟨by omega, by omega, fun q2 => ?_, fun q2 => ?_⟩
    · have : v = σ 40 4 := by omega
      subst this
      refine lp_for (lp := fun n v a => lp_MM_clock_210 Q n _ v a) (fun v ξ => zsm [104] ω ξ ∧ 0 ≤ v ∧ ∀ j : Int, 0 ≤ j → j < v → σ 101 j = 1 → ξ 104 j = τ 6 (σ 42 (σ 105 j))) (σ 40 1) (fun n v ξ hv hI3 nx => ?_) 0 ω n0 ⟨zsm.rf, by omega, fun j j0 j1 => absurd j1 (by omega)⟩
      obtain ⟨xs, v0, hI3⟩ := hI3
      have X : ∀ f, 100 ≤ f → f ≠ 110 → f ≠ 104 → ξ f = σ f := fun f h1 h2 h3 => (xs f (by simp; omega)).trans (W f h1 h2)
      unfold lp_MM_clock_210
      rw [X 100 (by decide) (by decide) (by decide), X 101 (by decide) (by decide) (by decide), X 105 (by decide) (by decide) (by decide), xs 110 (by decide)]
      refine ⟨by omega, by omega, fun q3 => hQ ξ ((ws.mono (by decide)).trans (xs.mono (by decide))) (fun j j0 j1 => hI3 j j0 (by omega)), fun q3 => ?_⟩
      have hn := h.net v v0 (by omega)
      refine ⟨v0, by omega, by omega, fun q4 => ?_, fun q4 => ⟨v0, by omega, ?_⟩⟩
      · have hl := h.leaf v v0 (by omega) (by omega)
        have ha := (h.lan (σ 42 v) hn.1 hn.2.1 (by omega)).2.2.2.2.2.2
        rw [hl.1] at ha
        have hd : 0 ≤ σ 105 v ∧ σ 105 v < σ 40 1 := by
          rcases ha with ⟨a1, a2⟩ | ⟨a1, a2, a3⟩
          · exact absurd ⟨_, hn.1, hn.2.1, by omega, by omega⟩ hu
          · exact ⟨a1, a2⟩
        refine ⟨hd.1, by omega, v0, by omega, ?_⟩
        rintro _ rfl
        refine nx (by omega) _ ⟨xs.up (by decide), by omega, fun j j0 j1 hj => ?_⟩
        rw [zup_or]
        by_cases e : j = v
        · rw [if_pos e, hI _ hd.1 (by omega), e]
        · rw [if_neg e]
          exact hI3 j j0 (by omega) hj
      · rintro _ rfl
        refine nx (by omega) _ ⟨xs.up (by decide), by omega, fun j j0 j1 hj => ?_⟩
        rw [zup_or]
        by_cases e : j = v
        · rw [e] at hj; exact absurd hj q4
        · rw [if_neg e]
          exact hI3 j j0 (by omega) hj
    · have ho := h.out v v0 (by omega)
      refine ⟨v0, by omega, ho.1, by omega, ?_⟩
      rintro _ rfl
      refine nx (by omega) _ ⟨by omega, ?_⟩
      have : ω 110 (σ 119 v) = τ 6 (σ 45 v) := by rw [hI _ ho.1 (by omega), ho.2.2]
      rw [this]
      refine osum_step (f := fun k => τ 6 (σ 45 k)) v0 (by omega) (fun j j0 j1 => ?_)
      obtain ⟨a1, a2, a3⟩ := h.out j j0 (by omega)
      rw [a3]
      exact hvl _ (h.net _ a1 a2).1 (h.net _ a1 a2).2.1
  · have hn := h.net v v0 (by omega)
    have upd : ∀ ω' w, zsm [110] υ ω' → (∀ j : Int, ω' 110 j = if j = v then w else ω 110 j) → w = τ 6 (σ 42 v) → lp_MM_clock_14 Q n v1 0 (v + 1) ω' := fun ω' w hs' hw he => nx (by omega) ω' ⟨hs', by omega, fun j j0 j1 => by
      rw [hw]
      by_cases e : j = v
      · rw [if_pos e, e]; exact he
      · rw [if_neg e]; exact hI j j0 (by omega)⟩
    refine ⟨v0, by omega, by omega, fun q2 => ?_, fun q2 => ⟨fun q3 => ?_, fun q3 => ?_⟩⟩
    · have hl := h.leaf v v0 (by omega) (by omega)
      rw [hn.2.2.1]
      refine sm_entering h hn.1 hn.2.1 (by omega) (W 117 (by decide) (by decide)) (W 101 (by decide) (by decide)) ?_
      rintro _ rfl
      exact upd _ _ (ws.up (by decide)) (fun j => zup_or _ _ _ _ _) (hin _ hn.1 hn.2.1 (by omega)).symm
    · rintro _ rfl
      have hl := h.leaf v v0 (by omega) (by omega)
      have ha := h.lan (σ 42 v) hn.1 hn.2.1 (by omega)
      refine upd _ _ (ws.up (by decide)) (fun j => zup_or _ _ _ _ _) ?_
      have h7 := ha.2.2.2.2.2.1
      rw [hl.1] at h7
      rw [h7]
      exact (hla _ hn.1 hn.2.1 (by omega)).symm
    · obtain ⟨a1, a2, a3, a4, a5, a6, a7⟩ := h.fnc v v0 (by omega) (by omega)
      have a7 := a7 _ hg
      have hA := h.net (σ 106 v) a1 (by omega)
      have vA := hvl _ hA.1 hA.2.1
      have eA : ω 110 (σ 106 v) = τ 6 (σ 42 (σ 106 v)) := hI _ a1 (by omega)
      refine ⟨a1, by omega, ?_⟩
      rintro _ rfl
      rw [eA]
      unfold fidx at a7
      rw [nval_in hn.1 hn.2.1, nval_in hA.1 hA.2.1] at a7
      have fin : ∀ k, k = τ 6 (σ 42 (σ 106 v)) + (if 0 ≤ σ 107 v then 2 * nval τ L.length (σ 42 (σ 107 v)) else 0) + (if 0 ≤ σ 108 v then 4 * nval τ L.length (σ 42 (σ 108 v)) else 0) → 0 ≤ k → k < 8 → bk_MM_clock_151 Q (lp_MM_clock_14 Q n) v1 0 v k ω := by
        intro k hk k0 k8
        refine ⟨v0, by omega, ?_⟩
        rintro _ rfl
        rw [W 109 (by decide) (by decide)]
        refine upd _ _ (ws.up (by decide)) (fun j => zup_or _ _ _ _ _) ?_
        rw [tb_bit a5 a6 k0 k8, a7, hk]
      have c119 : ∀ k, k = τ 6 (σ 42 (σ 106 v)) + (if 0 ≤ σ 107 v then 2 * nval τ L.length (σ 42 (σ 107 v)) else 0) → 0 ≤ k → k < 4 → bk_MM_clock_119 Q (lp_MM_clock_14 Q n) v1 0 v k ω := by
        intro k hk k0 k4
        unfold bk_MM_clock_119
        rw [W 108 (by decide) (by decide)]
        refine ⟨v0, by omega, by omega, fun q4 => fin k ?_ k0 (by omega), fun q4 => ⟨by omega, by omega, ?_⟩⟩
        · rw [if_neg (show ¬ 0 ≤ σ 108 v by omega), Int.add_zero]
          exact hk
        · have hC := h.net (σ 108 v) (by omega) (by omega)
          have vC := hvl _ hC.1 hC.2.1
          rw [hI _ (by omega) (show σ 108 v < v by omega)]
          refine fin _ ?_ (by omega) (by omega)
          rw [if_pos (show 0 ≤ σ 108 v by omega), nval_in hC.1 hC.2.1, ← hk]
      refine ⟨by omega, fun q4 => c119 _ ?_ (by omega) (by omega), fun q4 => ⟨by omega, by omega, ?_⟩⟩
      · rw [if_neg (show ¬ 0 ≤ σ 107 v by omega), Int.add_zero]
      · have hB := h.net (σ 107 v) (by omega) (by omega)
        have vB := hvl _ hB.1 hB.2.1
        rw [hI _ (by omega) (show σ 107 v < v by omega)]
        refine c119 _ ?_ (by omega) (by omega)
        rw [if_pos (show 0 ≤ σ 107 v by omega), nval_in hB.1 hB.2.1]
