/-! changed, at, isNet, a net more -/
def xchg (σ τ : zS) : Prop := zsm [7, 56] σ τ ∧ τ 56 0 = 0 ∧ (∀ i : Int, (∃ k : Int, 0 ≤ k ∧ k < σ 40 3 ∧ σ 44 k = i) → τ 7 i = σ 4 i) ∧ ∀ i : Int, (¬ ∃ k : Int, 0 ≤ k ∧ k < σ 40 3 ∧ σ 44 k = i) → τ 7 i = σ 7 i
theorem sx_changed {σ : zS} {Q : zS → Prop} (h0 : 0 ≤ σ 40 3) (h1 : σ 40 3 ≤ 1000) (hl : ∀ k : Int, 0 ≤ k → k < σ 40 3 → 0 ≤ σ 44 k ∧ σ 44 k < σ 70 0) (h : ∀ τ, xchg σ τ → Q τ) : wp_CX_changed Q σ := by
  unfold wp_CX_changed
  rintro _ rfl
  have loop : ∀ (n : Nat) (v : Int) (τ : zS), 0 ≤ v → v ≤ σ 40 3 → σ 40 3 - v < n → zsm [7, 56] σ τ → τ 56 0 = 0 → (∀ i : Int, (∃ k : Int, 0 ≤ k ∧ k < v ∧ σ 44 k = i) → τ 7 i = σ 4 i) → (∀ i : Int, (¬ ∃ k : Int, 0 ≤ k ∧ k < v ∧ σ 44 k = i) → τ 7 i = σ 7 i) → lp_CX_changed_7 Q n v τ := by
    intro n
    induction n with
    | zero => intro v τ a b c; omega
    | succ n ih =>
      intro v τ v0 v1 hn hs h56 ha hb
      have e40 : τ 40 = σ 40 := hs 40 (by decide)
      have e44 : τ 44 = σ 44 := hs 44 (by decide)
      have e70 : τ 70 = σ 70 := hs 70 (by decide)
      have e4 : τ 4 = σ 4 := hs 4 (by decide)
      unfold lp_CX_changed_7
      rw [e40, e44, e70]
      refine ⟨by omega, by omega, fun q => ?_, fun q => ⟨v0, by omega, (hl v v0 (by omega)).1, (hl v v0 (by omega)).2, ?_⟩⟩
      · have : v = σ 40 3 := by omega
        subst this
        exact h τ ⟨hs, h56, ha, hb⟩
      · rintro _ rfl _ rfl
        refine ih (v + 1) _ (by omega) (by omega) (by omega) (hs.up (by decide)) (by rw [zup_ne τ _ _ _ (by decide)]; exact h56) ?_ ?_
        · rintro i ⟨k, k0, k1, rfl⟩
          rw [zup_or, e4]
          by_cases e : σ 44 k = σ 44 v
          · rw [if_pos e, e]
          · rw [if_neg e]
            refine ha _ ⟨k, k0, ?_, rfl⟩
            by_cases e2 : k = v
            · rw [e2] at e; exact absurd rfl e
            · omega
        · intro i hi
          rw [zup_or, if_neg (fun q => hi ⟨v, v0, by omega, q.symm⟩)]
          exact hb i (fun ⟨k, k0, k1, k2⟩ => hi ⟨k, k0, by omega, k2⟩)
  exact ⟨(σ 40 3).toNat + 1, loop _ 0 _ (by omega) h0 (by omega) (zsm_up (by decide)) (zup_at _ _ _ _) (fun i ⟨k, k0, k1, _⟩ => absurd k1 (by omega)) (fun i _ => by rw [zup_ne σ _ _ _ (by decide)])⟩
def mchg (σ τ : zS) : Prop := zsm [104, 124] σ τ ∧ τ 124 0 = 0 ∧ ∀ j : Int, 0 ≤ j → j < σ 100 0 → τ 104 j = σ 103 j
theorem sm_changed {σ : zS} {Q : zS → Prop} (h0 : 0 ≤ σ 100 0) (h1 : σ 100 0 ≤ 40) (h : ∀ τ, mchg σ τ → Q τ) : wp_MM_changed Q σ := by
  unfold wp_MM_changed
  rintro _ rfl
  have loop : ∀ (n : Nat) (v : Int) (τ : zS), 0 ≤ v → v ≤ σ 100 0 → σ 100 0 - v < n → zsm [104, 124] σ τ → τ 124 0 = 0 → (∀ j : Int, 0 ≤ j → j < v → τ 104 j = σ 103 j) → lp_MM_changed_7 Q n v τ := by
    intro n
    induction n with
    | zero => intro v τ a b c; omega
    | succ n ih =>
      intro v τ v0 v1 hn hs h56 ha
      have e100 : τ 100 = σ 100 := hs 100 (by decide)
      have e103 : τ 103 = σ 103 := hs 103 (by decide)
      unfold lp_MM_changed_7
      rw [e100]
      refine ⟨by omega, by omega, fun q => ?_, fun q => ⟨v0, by omega, ?_⟩⟩
      · have : v = σ 100 0 := by omega
        subst this
        exact h τ ⟨hs, h56, ha⟩
      · rintro _ rfl
        refine ih (v + 1) _ (by omega) (by omega) (by omega) (hs.up (by decide)) (by rw [zup_ne τ _ _ _ (by decide)]; exact h56) ?_
        intro j j0 j1
        rw [zup_or, e103]
        by_cases e : j = v
        · rw [if_pos e, e]
        · rw [if_neg e]
          exact ha j j0 (by omega)
  exact ⟨(σ 100 0).toNat + 1, loop _ 0 _ (by omega) h0 (by omega) (zsm_up (by decide)) (zup_at _ _ _ _) (fun j j0 j1 => absurd j1 (by omega))⟩
/-- the node of a net, or -1 -/
def atN (σ : zS) (a : Int) : Int := if a < 0 then -1 else if a < σ 40 1 then σ 42 a else -1
theorem sx_at {σ : zS} {Q : Int → zS → Prop} {a : Int} (hc : zc a) (h1 : zc (σ 40 1)) (hn : ∀ j : Int, 0 ≤ j → j < σ 40 1 → 0 ≤ σ 42 j ∧ σ 42 j < σ 70 0) (h : Q (atN σ a) σ) : wp_CX_at Q a σ := by
  unfold atN at h
  refine ⟨hc, fun q => ?_, fun q => ⟨h1, fun q2 => ?_, fun q2 => ?_⟩⟩
  · rwa [if_pos q] at h
  · rw [if_neg q, if_pos q2] at h
    exact ⟨by omega, q2, (hn a (by omega) q2).1, (hn a (by omega) q2).2, h⟩
  · rwa [if_neg q, if_neg q2] at h
theorem sm_isNet {σ : zS} {Q : Int → zS → Prop} {a : Int} (hc : zc a) (h1 : zc (σ 100 0)) (h : (0 ≤ a ∧ a < σ 100 0 → Q 1 σ) ∧ (¬ (0 ≤ a ∧ a < σ 100 0) → Q 0 σ)) : wp_MM_isNet Q a σ :=
  ⟨hc, fun q => h.2 (by omega), fun q => ⟨h1, fun q2 => h.2 (by omega), fun q2 => h.1 (by omega)⟩⟩
/-- a net more, CellMapper's side -/
theorem sx_net {σ : zS} {Q : Int → zS → Prop} {e : Int} (hw : zWf σ) (e0 : 0 ≤ e) (e1 : e < σ 70 0) (n0 : 0 ≤ σ 40 1) (n1 : σ 40 1 < 60) (h0 : 0 ≤ σ 40 3) (h1 : σ 40 3 ≤ 1000) (hl : ∀ k : Int, 0 ≤ k → k < σ 40 3 → 0 ≤ σ 44 k ∧ σ 44 k < σ 70 0) (h : ∀ c m τ, zWf (zadd σ 1 e c m) → xchg (zadd σ 1 e c m) τ → Q (σ 40 1) τ) : wp_CX_net Q e σ := by
  have hz : zel σ 1 e := ⟨e0, by rw [if_neg (by decide)]; exact e1⟩
  refine ⟨hw, hz, n1, fun c m => ?_⟩
  have o : ∀ (f : Nat) (i : Int), f ≠ 40 → f ≠ 42 → f ≠ 47 → f ≠ 48 → zadd σ 1 e c m f i = σ f i := fun f i a b c' d => by rw [zadd_ap, if_neg (by omega), if_neg (by omega), if_neg (by omega), if_neg (by omega)]
  have o40 : zadd σ 1 e c m 40 3 = σ 40 3 := by rw [zadd_ap, if_neg (by omega), if_neg (by omega), if_neg (by omega), if_neg (by omega)]
  refine sx_changed (by rw [o40]; exact h0) (by rw [o40]; exact h1) (fun k k0 k1 => ?_) (fun τ ht => ?_)
  · rw [o40] at k1
    rw [o 44 k (by decide) (by decide) (by decide) (by decide), o 70 0 (by decide) (by decide) (by decide) (by decide)]
    exact hl k k0 k1
  · have e40 : τ 40 1 = σ 40 1 + 1 := by
      rw [ht.1 40 (by decide), zadd_ap]
      rfl
    refine ⟨⟨?_, ?_, ?_⟩, ?_⟩
    · rw [ht.1 70 (by decide)]; exact Int.le_refl _
    · rw [ht.1 71 (by decide)]; exact Int.le_refl _
    · rw [ht.1 72 (by decide)]; exact Int.le_refl _
    · rw [e40, show σ 40 1 + 1 - 1 = σ 40 1 by omega]
      exact h c m τ (zadd_wf hw (by decide) hz) ht
/-- a net more, the model's side -/
def mnet (σ : zS) (s n f : Int) : zS := zup (zup (zup (zup (zup σ 101 (σ 100 0) s) 102 (σ 100 0) n) 103 (σ 100 0) f) 105 (σ 100 0) (-1)) 100 0 (σ 100 0 + 1)
theorem sm_newNet {σ : zS} {Q : Int → zS → Prop} {s n f : Int} (h0 : 0 ≤ σ 100 0) (h1 : σ 100 0 < 40) (h : ∀ τ, mchg (mnet σ s n f) τ → Q (σ 100 0) τ) : wp_MM_newNet Q s n f σ := by
  unfold wp_MM_newNet
  refine ⟨h0, h1, ?_⟩
  rintro _ rfl
  rw [zup_ne σ _ _ 0 (by decide)]
  refine ⟨h0, h1, ?_⟩
  rintro _ rfl
  rw [zup_ne _ _ _ 0 (by decide), zup_ne _ _ _ 0 (by decide)]
  refine ⟨h0, h1, ?_⟩
  rintro _ rfl
  rw [zup_ne _ _ _ 0 (by decide), zup_ne _ _ _ 0 (by decide), zup_ne _ _ _ 0 (by decide)]
  refine ⟨h0, h1, ?_⟩
  rintro _ rfl
  rw [zup_ne _ _ _ 0 (by decide), zup_ne _ _ _ 0 (by decide), zup_ne _ _ _ 0 (by decide), zup_ne _ _ _ 0 (by decide)]
  rintro _ rfl
  refine sm_changed (by rw [zup_at]; omega) (by rw [zup_at]; omega) (fun τ ht => ?_)
  rw [ht.1 100 (by decide), zup_at, show σ 100 0 + 1 - 1 = σ 100 0 by omega]
  exact h τ ht
