/-! an input or a latch more, CellMapper's side -/
def xleafk (l : Nat) : List Nat := [0, 1, 2, 3, 4, 5, 6, 7, 8, 9, 10, 11, 12, 13, 14, 15, 16, 17, 40, 41, 42, 41 + l, 47, 48, 56, 70]
/-- what the state is then: kind k, data d, list l -/
def xleaf (σ τ : zS) (L : Gr) (k d : Int) (l : Nat) : Prop := zsm (xleafk l) σ τ ∧ xG τ (L ++ [(k, -1, -1)]) ∧ (∀ f, f < 18 → f ≠ 7 → ∀ i : Int, i ≠ L.length → τ f i = σ f i) ∧ τ 4 L.length = d ∧ τ 5 L.length = -1 ∧ τ 6 L.length = 0 ∧ (k = 1 → τ 8 L.length = σ 40 1) ∧ (∀ j : Int, τ 40 j = if j = 0 ∨ j = 1 ∨ j = l then σ 40 j + 1 else σ 40 j) ∧ (∀ j : Int, τ 42 j = if j = σ 40 1 then (L.length : Int) else σ 42 j) ∧ (∀ j : Int, τ (41 + l) j = if j = σ 40 l then (L.length : Int) else σ (41 + l) j) ∧ τ 56 0 = 0 ∧ (∀ i : Int, 0 ≤ i → i ≤ L.length → (∃ q : Int, 0 ≤ q ∧ q < τ 40 3 ∧ τ 44 q = i) → τ 7 i = τ 4 i)
theorem gleaf_ok {L : Gr} {k : Int} (h : gok L) (hk : k = 0 ∨ k = 1) : gok (L ++ [(k, -1, -1)]) := by
  intro i k' x' y' hi
  by_cases hl : i < L.length
  · rw [List.getElem?_append_left hl] at hi
    exact h i k' x' y' hi
  · have hl2 := (List.getElem?_eq_some_iff.mp hi).1
    simp at hl2
    have : i = L.length := by omega
    subst this
    simp at hi
    obtain ⟨rfl, rfl, rfl⟩ := hi
    exact Or.inl ⟨hk, rfl, rfl⟩
/-- the state before changed -/
theorem xleaf_of {σ s1 τ : zS} {L : Gr} {k d : Int} {l : Nat} {c2 m2 c3 m3 : Int} (h : xG σ L) (hk : k = 0 ∨ k = 1) (hl : l = 2 ∨ l = 3) (hn0 : 0 ≤ σ 40 1)
    (hs1 : ∀ (f : Nat) (i : Int), s1 f i = if f = 8 ∧ i = L.length ∧ k = 1 then σ 40 1 else if f = 70 ∧ i = 0 then (L.length : Int) + 1 else if f = 40 ∧ i = 0 then (L.length : Int) + 1 else if f = 41 ∧ i = L.length then (L.length : Int) else if (f = 47 ∨ f = 48) ∧ i = 0 then s1 f i else if f < 18 ∧ i = L.length then (if f = 0 then (L.length : Int) else if f = 1 then k else if f = 2 then -1 else if f = 3 then -1 else if f = 4 then d else if f = 7 then (if k = 1 then d else 0) else if f = 5 ∨ f = 14 then -1 else 0) else σ f i)
    (hw : zWf (zadd (zadd s1 l L.length c2 m2) 1 L.length c3 m3)) (ht : xchg (zadd (zadd s1 l L.length c2 m2) 1 L.length c3 m3) τ) : xleaf σ τ L k d l := by
  obtain ⟨g1, g2, g3, g4, g5, g6⟩ := h
  obtain ⟨t1, t2, t3, t4⟩ := ht
  have a1 : s1 40 1 = σ 40 1 := by rw [hs1]; simp
  have al : s1 40 l = σ 40 l := by
    rw [hs1, if_neg (by omega), if_neg (by omega), if_neg (by omega), if_neg (by omega), if_neg (by omega), if_neg (by omega)]
  have b1 : zadd s1 l L.length c2 m2 40 (1 : Nat) = σ 40 1 := by
    rw [zadd_ap, if_neg (by omega), if_neg (by omega), if_neg (by omega), if_neg (by omega)]
    exact a1
  -- the state ahead of changed, by places
  have S : ∀ (f : Nat) (i : Int), f ≠ 47 → f ≠ 48 → zadd (zadd s1 l L.length c2 m2) 1 L.length c3 m3 f i = if f = 40 ∧ (i = 1 ∨ i = l) then σ 40 i + 1 else if f = 42 ∧ i = σ 40 1 then (L.length : Int) else if f = 41 + l ∧ i = σ 40 l then (L.length : Int) else s1 f i := fun f i hf1 hf2 => by
    rw [zadd_ap, b1, zadd_ap, al]
    by_cases x1 : f = 40 ∧ i = 1
    · rw [if_pos (by simpa using x1), if_pos (by omega), x1.2]
    · rw [if_neg (by simpa using x1)]
      by_cases x2 : f = 42 ∧ i = σ 40 1
      · rw [if_pos (by omega), if_neg (by omega), if_pos x2]
      · rw [if_neg (by omega), if_neg (by omega), if_neg (by omega)]
        by_cases x3 : f = 40 ∧ i = l
        · rw [if_pos x3, if_pos (by omega), x3.2]
        · rw [if_neg x3]
          by_cases x4 : f = 41 + l ∧ i = σ 40 l
          · rw [if_pos x4, if_neg (by omega), if_neg x2, if_pos x4]
          · rw [if_neg x4, if_neg (by omega), if_neg (by omega), if_neg (by omega), if_neg x2, if_neg x4]
  have T : ∀ (f : Nat) (i : Int), f ≠ 7 → f ≠ 56 → f ≠ 47 → f ≠ 48 → τ f i = if f = 40 ∧ (i = 1 ∨ i = l) then σ 40 i + 1 else if f = 42 ∧ i = σ 40 1 then (L.length : Int) else if f = 41 + l ∧ i = σ 40 l then (L.length : Int) else s1 f i := fun f i q1 q2 q3 q4 => by
    rw [t1 f (by simp [q1, q2]), S f i q3 q4]
  have N : ∀ (f : Nat) (i : Int), f < 18 → f ≠ 7 → i ≠ L.length → τ f i = σ f i := fun f i q1 q2 q3 => by
    rw [T f i q2 (by omega) (by omega) (by omega), if_neg (by omega), if_neg (by omega), if_neg (by omega), hs1, if_neg (by omega), if_neg (by omega), if_neg (by omega), if_neg (by omega), if_neg (by omega), if_neg (by omega)]
  have N1 : ∀ (f : Nat), f < 18 → f ≠ 7 → f ≠ 8 → τ f L.length = (if f = 0 then (L.length : Int) else if f = 1 then k else if f = 2 then -1 else if f = 3 then -1 else if f = 4 then d else if f = 7 then (if k = 1 then d else 0) else if f = 5 ∨ f = 14 then -1 else 0) := fun f q1 q2 q3 => by
    rw [T f _ q2 (by omega) (by omega) (by omega), if_neg (by omega), if_neg (by omega), if_neg (by omega), hs1, if_neg (by omega), if_neg (by omega), if_neg (by omega), if_neg (by omega), if_neg (by omega), if_pos ⟨q1, rfl⟩]
  have T40 : ∀ j : Int, τ 40 j = if j = 0 ∨ j = 1 ∨ j = l then σ 40 j + 1 else σ 40 j := fun j => by
    rw [T 40 j (by decide) (by decide) (by decide) (by decide)]
    by_cases x : j = 1 ∨ j = l
    · rw [if_pos ⟨rfl, x⟩, if_pos (Or.inr x)]
    · rw [if_neg (fun q => x q.2), if_neg (by omega), if_neg (by omega), hs1, if_neg (by omega), if_neg (by omega)]
      by_cases x0 : j = 0
      · rw [if_pos ⟨rfl, x0⟩, if_pos (Or.inl x0), x0, g1]
      · rw [if_neg (by omega), if_neg (by omega), if_neg (by omega), if_neg (by omega), if_neg (by omega)]
  have T41 : ∀ i : Int, τ 41 i = if i = L.length then (L.length : Int) else σ 41 i := fun i => by
    rw [T 41 i (by decide) (by decide) (by decide) (by decide), if_neg (by omega), if_neg (by omega), if_neg (by omega), hs1, if_neg (by omega), if_neg (by omega), if_neg (by omega)]
    by_cases x : i = L.length
    · rw [if_pos ⟨rfl, x⟩, if_pos x]
    · rw [if_neg (fun q => x q.2), if_neg (by omega), if_neg (by omega), if_neg x]
  have T70 : τ 70 0 = L.length + 1 := by
    rw [T 70 0 (by decide) (by decide) (by decide) (by decide), if_neg (by omega), if_neg (by omega), if_neg (by omega), hs1, if_neg (by omega), if_pos ⟨rfl, rfl⟩]
  refine ⟨fun f hf => funext fun i => ?_, ⟨?_, ?_, gleaf_ok g3 hk, ?_, fun i hi => ?_, fun i k' x' y' hi => ?_⟩, fun f q1 q2 i q3 => N f i q1 q2 q3, ?_, ?_, ?_, fun hk1 => ?_, T40, fun j => ?_, fun j => ?_, t2, fun i i0 i1 hq => ?_⟩
  · simp only [xleafk, List.mem_cons, List.not_mem_nil, or_false, not_or] at hf
    rw [T f i (by omega) (by omega) (by omega) (by omega), if_neg (by omega), if_neg (by omega), if_neg (by omega), hs1, if_neg (by omega), if_neg (by omega), if_neg (by omega), if_neg (by omega), if_neg (by omega), if_neg (by omega)]
  · rw [T40, if_pos (Or.inl rfl), g1]; simp
  · rw [T70]; simp
  · refine hw.sm (fun f hf => ?_)
    simp only [List.mem_cons, List.not_mem_nil, or_false] at hf
    exact t1 f (by simp; omega)
  · simp at hi
    rw [T41]
    by_cases e : i = L.length
    · subst e
      rw [if_pos rfl, N1 0 (by decide) (by decide) (by decide)]
      exact ⟨rfl, rfl⟩
    · have := g5 i (by omega)
      rw [if_neg (by omega), N 0 i (by decide) (by decide) (by omega)]
      exact this
  · by_cases hl2 : i < L.length
    · rw [List.getElem?_append_left hl2] at hi
      obtain ⟨a, b, c⟩ := g6 i k' x' y' hi
      rw [N 1 i (by decide) (by decide) (by omega), N 2 i (by decide) (by decide) (by omega), N 3 i (by decide) (by decide) (by omega)]
      exact ⟨a, b, c⟩
    · have hl3 := (List.getElem?_eq_some_iff.mp hi).1
      simp at hl3
      have : i = L.length := by omega
      subst this
      simp at hi
      obtain ⟨rfl, rfl, rfl⟩ := hi
      rw [N1 1 (by decide) (by decide) (by decide), N1 2 (by decide) (by decide) (by decide), N1 3 (by decide) (by decide) (by decide)]
      exact ⟨rfl, rfl, rfl⟩
  · rw [N1 4 (by decide) (by decide) (by decide)]; rfl
  · rw [N1 5 (by decide) (by decide) (by decide)]; rfl
  · rw [N1 6 (by decide) (by decide) (by decide)]; rfl
  · rw [T 8 _ (by decide) (by decide) (by decide) (by decide), if_neg (by omega), if_neg (by omega), if_neg (by omega), hs1, if_pos ⟨rfl, rfl, hk1⟩]
  · rw [T 42 j (by decide) (by decide) (by decide) (by decide), if_neg (by omega)]
    by_cases x : j = σ 40 1
    · rw [if_pos ⟨rfl, x⟩, if_pos x]
    · rw [if_neg (fun q => x q.2), if_neg (by omega), hs1, if_neg (by omega), if_neg (by omega), if_neg (by omega), if_neg (by omega), if_neg (by omega), if_neg (by omega), if_neg x]
  · rw [T (41 + l) j (by omega) (by omega) (by omega) (by omega), if_neg (by omega), if_neg (by omega)]
    by_cases x : j = σ 40 l
    · rw [if_pos ⟨rfl, x⟩, if_pos x]
    · rw [if_neg (fun q => x q.2), hs1, if_neg (by omega), if_neg (by omega), if_neg (by omega), if_neg (by omega), if_neg (by omega), if_neg (by omega), if_neg x]
  · obtain ⟨q, q0, q1, q2⟩ := hq
    rw [t1 40 (by decide)] at q1
    rw [t1 44 (by decide)] at q2
    rw [t3 i ⟨q, q0, q1, q2⟩, t1 4 (by decide)]
theorem sx_input {σ : zS} {L : Gr} {Q : Int → zS → Prop} (h : xG σ L) (hlen : L.length ≤ 48) (n0 : 0 ≤ σ 40 1) (n1 : σ 40 1 ≤ 40) (i0 : 0 ≤ σ 40 2) (i1 : σ 40 2 ≤ 6) (l0 : 0 ≤ σ 40 3) (l1 : σ 40 3 ≤ 6) (hl : ∀ k : Int, 0 ≤ k → k < σ 40 3 → 0 ≤ σ 44 k ∧ σ 44 k < σ 70 0) (hF : 40 ≤ σ 40 1 ∨ 6 ≤ σ 40 2 ∨ 48 ≤ (L.length : Int) → Q (-2) σ) (hQ : σ 40 1 < 40 → σ 40 2 < 6 → (L.length : Int) < 48 → ∀ τ, xleaf σ τ L 0 (σ 40 2) 2 → Q (σ 40 1) τ) : wp_CX_input Q σ := by
  have g1 := h.1
  have g2 := h.2.1
  refine ⟨by omega, fun q => hF (Or.inl q), fun q => ⟨by omega, fun q2 => hF (Or.inr (Or.inl q2)), fun q2 => ⟨by omega, fun q3 => ?_, fun q3 => hF (Or.inr (Or.inr (by omega)))⟩⟩⟩
  refine sx_GR_add h (by omega) ⟨by decide, by decide⟩ (Or.inl rfl) (Or.inl rfl) (fun c m hw => ?_)
  have A : ∀ (f : Nat) (i : Int), f ≠ 47 → f ≠ 48 → f ≠ 70 → 18 ≤ f → (f ≠ 40 ∨ i ≠ 0) → f ≠ 41 → xadd σ 0 (-1) (-1) (σ 40 2) c m f i = σ f i := fun f i a b c' d e g => by
    rw [xadd_ap, if_neg (by omega), if_neg (by omega), if_neg (by omega), if_neg (by omega), if_neg (by omega), if_neg (by omega)]
  have a70 : xadd σ 0 (-1) (-1) (σ 40 2) c m 70 0 = L.length + 1 := by rw [xadd_ap, if_pos ⟨rfl, rfl⟩, g2]
  have a402 : xadd σ 0 (-1) (-1) (σ 40 2) c m 40 (2 : Nat) = σ 40 2 := A 40 _ (by decide) (by decide) (by decide) (by decide) (by decide) (by decide)
  refine ⟨Or.inr ⟨by omega, by rw [a70]; omega⟩, hw, ⟨by omega, by rw [if_neg (by decide), a70]; omega⟩, by rw [a402]; omega, fun c2 m2 => ?_⟩
  have hz : zel (xadd σ 0 (-1) (-1) (σ 40 2) c m) 2 L.length := ⟨by omega, by rw [if_neg (by decide), a70]; omega⟩
  have hw2 := zadd_wf (c := c2) (m := m2) hw (by decide) hz
  have B : ∀ (f : Nat) (i : Int), f ≠ 47 → f ≠ 48 → (f ≠ 40 ∨ i ≠ 2) → f ≠ 43 → zadd (xadd σ 0 (-1) (-1) (σ 40 2) c m) 2 L.length c2 m2 f i = xadd σ 0 (-1) (-1) (σ 40 2) c m f i := fun f i a b c' d => by
    rw [zadd_ap, if_neg (by omega), if_neg (by omega), if_neg (by omega), if_neg (by omega)]
  have b70 : zadd (xadd σ 0 (-1) (-1) (σ 40 2) c m) 2 L.length c2 m2 70 0 = L.length + 1 := by rw [B 70 0 (by decide) (by decide) (by decide) (by decide), a70]
  have b1 : zadd (xadd σ 0 (-1) (-1) (σ 40 2) c m) 2 L.length c2 m2 40 1 = σ 40 1 := by rw [B 40 1 (by decide) (by decide) (by decide) (by decide), A 40 1 (by decide) (by decide) (by decide) (by decide) (by decide) (by decide)]
  have b3 : zadd (xadd σ 0 (-1) (-1) (σ 40 2) c m) 2 L.length c2 m2 40 3 = σ 40 3 := by rw [B 40 3 (by decide) (by decide) (by decide) (by decide), A 40 3 (by decide) (by decide) (by decide) (by decide) (by decide) (by decide)]
  refine sx_net hw2 (by omega) (by rw [b70]; omega) (by rw [b1]; omega) (by rw [b1]; omega) (by rw [b3]; omega) (by rw [b3]; omega) (fun k k0 k1 => ?_) (fun c3 m3 τ hw3 ht => ?_)
  · rw [b3] at k1
    rw [B 44 k (by decide) (by decide) (Or.inl (by decide)) (by decide), A 44 k (by decide) (by decide) (by decide) (by decide) (Or.inl (by decide)) (by decide), b70]
    have := hl k k0 k1
    omega
  · rw [b1]
    refine hQ (by omega) (by omega) (by omega) τ (xleaf_of (s1 := xadd σ 0 (-1) (-1) (σ 40 2) c m) h (Or.inl rfl) (Or.inl rfl) n0 (fun f i => ?_) hw3 ht)
    rw [if_neg (by omega), xadd_ap, g1, g2]
    by_cases x1 : f = 70 ∧ i = 0
    · rw [if_pos x1, if_pos x1]
    · rw [if_neg x1, if_neg x1]
      by_cases x2 : f = 40 ∧ i = 0
      · rw [if_pos x2, if_pos x2]
      · rw [if_neg x2, if_neg x2]
        by_cases x3 : f = 41 ∧ i = L.length
        · rw [if_pos x3, if_pos x3]
        · rw [if_neg x3, if_neg x3]
          by_cases x4 : f = 47 ∧ i = 0
          · rw [if_pos x4, if_pos ⟨Or.inl x4.1, x4.2⟩]
          · rw [if_neg x4]
            by_cases x5 : f = 48 ∧ i = 0
            · rw [if_pos x5, if_pos ⟨Or.inr x5.1, x5.2⟩]
            · have x6 : ¬ ((f = 47 ∨ f = 48) ∧ i = 0) := by omega
              rw [if_neg x5, if_neg x6]
theorem sx_latch {σ : zS} {L : Gr} {Q : Int → zS → Prop} {v : Int} (h : xG σ L) (hv : zc v) (hlen : L.length ≤ 48) (n0 : 0 ≤ σ 40 1) (n1 : σ 40 1 ≤ 40) (l0 : 0 ≤ σ 40 3) (l1 : σ 40 3 ≤ 6) (hl : ∀ k : Int, 0 ≤ k → k < σ 40 3 → 0 ≤ σ 44 k ∧ σ 44 k < σ 70 0) (hB : ¬ (v = 0 ∨ v = 1) → Q (-1) σ) (hF : (v = 0 ∨ v = 1) → 40 ≤ σ 40 1 ∨ 6 ≤ σ 40 3 ∨ 48 ≤ (L.length : Int) → Q (-2) σ) (hQ : (v = 0 ∨ v = 1) → σ 40 1 < 40 → σ 40 3 < 6 → (L.length : Int) < 48 → ∀ τ, xleaf σ τ L 1 v 3 → Q (σ 40 1) τ) : wp_CX_latch Q v σ := by
  have g1 := h.1
  have g2 := h.2.1
  refine ⟨hv, fun q => hB (by omega), fun qa => ⟨fun qb => ⟨by omega, fun q => hF (by omega) (Or.inl q), fun q => ⟨by omega, fun q2 => hF (by omega) (Or.inr (Or.inl q2)), fun q2 => ⟨by omega, fun q3 => ?_, fun q3 => hF (by omega) (Or.inr (Or.inr (by omega)))⟩⟩⟩, fun q => hB (by omega)⟩⟩
  refine sx_GR_add h (by omega) ⟨by decide, by decide⟩ (Or.inl rfl) (Or.inl rfl) (fun c m hw => ?_)
  have A : ∀ (f : Nat) (i : Int), f ≠ 47 → f ≠ 48 → f ≠ 70 → 18 ≤ f → (f ≠ 40 ∨ i ≠ 0) → f ≠ 41 → xadd σ 1 (-1) (-1) v c m f i = σ f i := fun f i a b c' d e g => by
    rw [xadd_ap, if_neg (by omega), if_neg (by omega), if_neg (by omega), if_neg (by omega), if_neg (by omega), if_neg (by omega)]
  have a70 : xadd σ 1 (-1) (-1) v c m 70 0 = L.length + 1 := by rw [xadd_ap, if_pos ⟨rfl, rfl⟩, g2]
  have a401 : xadd σ 1 (-1) (-1) v c m 40 1 = σ 40 1 := A 40 _ (by decide) (by decide) (by decide) (by decide) (by decide) (by decide)
  refine ⟨by omega, by rw [a70]; omega, ?_⟩
  rw [a401]
  rintro _ rfl
  have U : ∀ (f : Nat) (i : Int), f ≠ 8 → zup (xadd σ 1 (-1) (-1) v c m) 8 L.length (σ 40 1) f i = xadd σ 1 (-1) (-1) v c m f i := fun f i hf => zup_ne _ _ _ _ hf
  have hwu : zWf (zup (xadd σ 1 (-1) (-1) v c m) 8 L.length (σ 40 1)) := hw.sm (fun k hk => zup_f _ _ _ (by
    simp only [List.mem_cons, List.not_mem_nil, or_false] at hk
    omega))
  have a403 : zup (xadd σ 1 (-1) (-1) v c m) 8 L.length (σ 40 1) 40 (3 : Nat) = σ 40 3 := by rw [U 40 _ (by decide)]; exact A 40 _ (by decide) (by decide) (by decide) (by decide) (by decide) (by decide)
  have hz : zel (zup (xadd σ 1 (-1) (-1) v c m) 8 L.length (σ 40 1)) 3 L.length := ⟨by omega, by rw [if_neg (by decide), U 70 0 (by decide), a70]; omega⟩
  refine ⟨hwu, hz, by rw [a403]; omega, fun c2 m2 => ?_⟩
  have hw2 := zadd_wf (c := c2) (m := m2) hwu (by decide) hz
  have B : ∀ (f : Nat) (i : Int), f ≠ 47 → f ≠ 48 → (f ≠ 40 ∨ i ≠ 3) → (f ≠ 44 ∨ i ≠ σ 40 3) → f ≠ 8 → zadd (zup (xadd σ 1 (-1) (-1) v c m) 8 L.length (σ 40 1)) 3 L.length c2 m2 f i = xadd σ 1 (-1) (-1) v c m f i := fun f i a b c' d e => by
    rw [zadd_ap, a403, if_neg (by omega), if_neg (by omega), if_neg (by omega), if_neg (by omega), U f i e]
  have b70 : zadd (zup (xadd σ 1 (-1) (-1) v c m) 8 L.length (σ 40 1)) 3 L.length c2 m2 70 0 = L.length + 1 := by rw [B 70 0 (by decide) (by decide) (by decide) (Or.inl (by decide)) (by decide), a70]
  have b1 : zadd (zup (xadd σ 1 (-1) (-1) v c m) 8 L.length (σ 40 1)) 3 L.length c2 m2 40 1 = σ 40 1 := by rw [B 40 1 (by decide) (by decide) (by decide) (Or.inl (by decide)) (by decide), a401]
  have b3 : zadd (zup (xadd σ 1 (-1) (-1) v c m) 8 L.length (σ 40 1)) 3 L.length c2 m2 40 3 = σ 40 3 + 1 := by
    rw [zadd_ap, if_pos ⟨rfl, rfl⟩, a403]
  refine sx_net hw2 (by omega) (by rw [b70]; omega) (by rw [b1]; omega) (by rw [b1]; omega) (by rw [b3]; omega) (by rw [b3]; omega) (fun k k0 k1 => ?_) (fun c3 m3 τ hw3 ht => ?_)
  · rw [b3] at k1
    rw [b70]
    by_cases e : k = σ 40 3
    · rw [zadd_ap, if_neg (by omega), a403, if_pos ⟨rfl, e⟩]
      omega
    · rw [B 44 k (by decide) (by decide) (Or.inl (by decide)) (Or.inr e) (by decide), A 44 k (by decide) (by decide) (by decide) (by decide) (Or.inl (by decide)) (by decide)]
      have := hl k k0 (by omega)
      omega
  · rw [b1]
    refine hQ (by omega) (by omega) (by omega) (by omega) τ (xleaf_of (s1 := zup (xadd σ 1 (-1) (-1) v c m) 8 L.length (σ 40 1)) h (Or.inr rfl) (Or.inr rfl) n0 (fun f i => ?_) hw3 ht)
    by_cases x0 : f = 8 ∧ i = L.length
    · rw [if_pos ⟨x0.1, x0.2, rfl⟩, x0.1, x0.2, zup_at]
    · rw [if_neg (fun q => x0 ⟨q.1, q.2.1⟩)]
      have e0 : zup (xadd σ 1 (-1) (-1) v c m) 8 L.length (σ 40 1) f i = xadd σ 1 (-1) (-1) v c m f i := by
        by_cases e : f = 8
        · subst e
          exact zup_ni _ _ _ (fun q => x0 ⟨rfl, q⟩)
        · exact zup_ne _ _ _ _ e
      rw [e0, xadd_ap, g1, g2]
      by_cases x1 : f = 70 ∧ i = 0
      · rw [if_pos x1, if_pos x1]
      · rw [if_neg x1, if_neg x1]
        by_cases x2 : f = 40 ∧ i = 0
        · rw [if_pos x2, if_pos x2]
        · rw [if_neg x2, if_neg x2]
          by_cases x3 : f = 41 ∧ i = L.length
          · rw [if_pos x3, if_pos x3]
          · rw [if_neg x3, if_neg x3]
            by_cases x4 : f = 47 ∧ i = 0
            · rw [if_pos x4, if_pos ⟨Or.inl x4.1, x4.2⟩]
            · rw [if_neg x4]
              by_cases x5 : f = 48 ∧ i = 0
              · rw [if_pos x5, if_pos ⟨Or.inr x5.1, x5.2⟩]
              · have x6 : ¬ ((f = 47 ∨ f = 48) ∧ i = 0) := by omega
                rw [if_neg x5, if_neg x6]
