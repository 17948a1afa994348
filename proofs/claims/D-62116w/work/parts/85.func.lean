/-! function: a net more over nodes that may be new -/
def xfunk : List Nat := [0, 1, 2, 3, 4, 5, 6, 7, 8, 9, 10, 11, 12, 13, 14, 15, 16, 17, 40, 41, 42, 47, 48, 56, 70]
def xfun (σ τ : zS) (L R : Gr) (r : Int) : Prop := zsm xfunk σ τ ∧ xG τ R ∧ (∀ f, f < 18 → f ≠ 7 → ∀ i : Int, i < L.length → τ f i = σ f i) ∧ (∀ i : Int, (L.length : Int) ≤ i → i < R.length → τ 5 i = -1 ∧ τ 6 i = 0 ∧ 2 ≤ τ 1 i) ∧ (∀ j : Int, τ 40 j = if j = 0 then (R.length : Int) else if j = 1 then σ 40 1 + 1 else σ 40 j) ∧ (∀ j : Int, τ 42 j = if j = σ 40 1 then r else σ 42 j) ∧ τ 56 0 = 0 ∧ ∀ i : Int, i < L.length → (∃ k : Int, 0 ≤ k ∧ k < σ 40 3 ∧ σ 44 k = i) → τ 7 i = σ 4 i
theorem xfun_of {σ σ1 τ : zS} {L R : Gr} {r c m : Int} (hg : xG σ L) (h1 : xG σ1 R) (he : xE σ σ1) (hw : zWf (zadd σ1 1 r c m)) (hc : xchg (zadd σ1 1 r c m) τ) : xfun σ τ L R r := by
  obtain ⟨a1, a2, a3, a4, a5⟩ := he
  obtain ⟨c1, c2, c3, c4⟩ := hc
  have e40 := hg.1
  have r40 := h1.1
  have Z : ∀ f, f ≠ 40 → f ≠ 42 → f ≠ 47 → f ≠ 48 → zadd σ1 1 r c m f = σ1 f := fun f p1 p2 p3 p4 => by
    funext i
    rw [zadd_ap, if_neg (by omega), if_neg (by omega), if_neg (by omega), if_neg (by omega)]
  have T : ∀ f, f ≠ 7 → f ≠ 56 → τ f = zadd σ1 1 r c m f := fun f p1 p2 => c1 f (by simp; omega)
  have s40 : ∀ j : Int, σ1 40 j = if j = 0 then (R.length : Int) else σ 40 j := fun j => by
    by_cases e : j = 0
    · rw [if_pos e, e, r40]
    · rw [if_neg e, a3 j e]
  have z40 : ∀ j : Int, zadd σ1 1 r c m 40 j = if j = 0 then (R.length : Int) else if j = 1 then σ 40 1 + 1 else σ 40 j := fun j => by
    rw [zadd_ap]
    by_cases e1 : j = 1
    · subst e1
      have := s40 1
      rw [if_neg (by decide)] at this
      have t2 : σ1 40 ((1 : Nat) : Int) = σ 40 1 := this
      rw [if_pos ⟨rfl, rfl⟩, if_neg (by decide), if_pos rfl, t2]
    · rw [if_neg (by omega), if_neg (by omega), if_neg (by omega), if_neg (by omega), s40, if_neg e1]
  have z44 : zadd σ1 1 r c m 44 = σ 44 := (Z 44 (by decide) (by decide) (by decide) (by decide)).trans (a1 44 (by decide))
  refine ⟨fun f hf => ?_, ?_, fun f hf h7 i hi => ?_, fun i i0 i1 => ?_, fun j => ?_, fun j => ?_, c2, fun i hi hk => ?_⟩
  · simp only [xfunk, List.mem_cons, List.not_mem_nil, or_false, not_or] at hf
    rw [T f (by omega) (by omega), Z f (by omega) (by omega) (by omega) (by omega)]
    exact a1 f (by simp [xks]; omega)
  · have q : ∀ f, f ≠ 7 → f ≠ 56 → f ≠ 40 → f ≠ 42 → f ≠ 47 → f ≠ 48 → τ f = σ1 f := fun f p1 p2 p3 p4 p5 p6 => (T f p1 p2).trans (Z f p3 p4 p5 p6)
    refine h1.sm ?_ (by rw [q 70 (by decide) (by decide) (by decide) (by decide) (by decide) (by decide)]) (q 41 (by decide) (by decide) (by decide) (by decide) (by decide) (by decide)) (q 0 (by decide) (by decide) (by decide) (by decide) (by decide) (by decide)) (q 1 (by decide) (by decide) (by decide) (by decide) (by decide) (by decide)) (q 2 (by decide) (by decide) (by decide) (by decide) (by decide) (by decide)) (q 3 (by decide) (by decide) (by decide) (by decide) (by decide) (by decide)) (hw.sm (fun f hf => T f ?_ ?_))
    · rw [T 40 (by decide) (by decide), z40, if_pos rfl, r40]
    · rintro rfl; exact absurd hf (by decide)
    · rintro rfl; exact absurd hf (by decide)
  · rw [T f h7 (by omega), Z f (by omega) (by omega) (by omega) (by omega)]
    exact a2 f hf i (by omega)
  · rw [T 5 (by decide) (by decide), T 6 (by decide) (by decide), T 1 (by decide) (by decide), Z 5 (by decide) (by decide) (by decide) (by decide), Z 6 (by decide) (by decide) (by decide) (by decide), Z 1 (by decide) (by decide) (by decide) (by decide)]
    exact a5 i (by omega) (by omega)
  · rw [T 40 (by decide) (by decide)]
    exact z40 j
  · have := s40 1
    rw [if_neg (by decide)] at this
    have t2 : σ1 40 ((1 : Nat) : Int) = σ 40 1 := this
    rw [T 42 (by decide) (by decide), zadd_ap, t2]
    by_cases e : j = σ 40 1
    · rw [if_neg (by omega), if_pos ⟨rfl, e⟩, if_pos e]
    · rw [if_neg (by omega), if_neg (fun q => e q.2), if_neg (by omega), if_neg (by omega), if_neg e, a1 42 (by decide)]
  · rw [c3 i ?_, Z 4 (by decide) (by decide) (by decide) (by decide)]
    · exact a2 4 (by decide) i (by omega)
    · obtain ⟨k, k0, k1, k2⟩ := hk
      exact ⟨k, k0, by rw [z40, if_neg (by decide), if_neg (by decide)]; exact k1, by rw [z44]; exact k2⟩
def mfunk : List Nat := [100, 101, 102, 103, 104, 105, 106, 107, 108, 109, 113, 114, 115, 116, 117, 124]
def mfun (τ υ : zS) (L R : Gr) (N r a b c t : Int) : Prop := zsm mfunk τ υ ∧ mG υ R ∧ (∀ i : Int, i < L.length → υ 117 i = τ 117 i) ∧ υ 100 0 = N + 1 ∧ (∀ j : Int, υ 101 j = if j = N then 2 else τ 101 j) ∧ (∀ j : Int, υ 102 j = if j = N then r else τ 102 j) ∧ (∀ j : Int, υ 103 j = if j = N then 0 else τ 103 j) ∧ (∀ j : Int, υ 105 j = if j = N then -1 else τ 105 j) ∧ (∀ j : Int, υ 106 j = if j = N then a else τ 106 j) ∧ (∀ j : Int, υ 107 j = if j = N then b else τ 107 j) ∧ (∀ j : Int, υ 108 j = if j = N then c else τ 108 j) ∧ (∀ j : Int, υ 109 j = if j = N then t else τ 109 j) ∧ υ 124 0 = 0 ∧ ∀ j : Int, 0 ≤ j → j < N + 1 → υ 104 j = υ 103 j
/-- the four notes of a function -/
def mnote (τ : zS) (N a b c t : Int) : zS := zup (zup (zup (zup τ 106 N a) 107 N b) 108 N c) 109 N t
theorem mnote_o (τ : zS) (N a b c t : Int) (f : Nat) (h : f < 106 ∨ 109 < f) : mnote τ N a b c t f = τ f := by
  unfold mnote
  rw [zup_f _ _ _ (by omega), zup_f _ _ _ (by omega), zup_f _ _ _ (by omega), zup_f _ _ _ (by omega)]
theorem mfun_of {τ τ2 υ : zS} {L R : Gr} {r a b c t : Int} (hg : mG τ L) (h2 : mG τ2 R) (he : mE (mnote τ (τ 100 0) a b c t) τ2) (hc : mchg (mnet τ2 2 r 0) υ) : mfun τ υ L R (τ 100 0) r a b c t := by
  obtain ⟨a1, a2, a3⟩ := he
  obtain ⟨c1, c2, c3⟩ := hc
  have e100 : τ2 100 0 = τ 100 0 := by rw [a1 100 (by decide), mnote_o _ _ _ _ _ _ _ (by decide)]
  have U : ∀ f, f ≠ 104 → f ≠ 124 → υ f = mnet τ2 2 r 0 f := fun f p1 p2 => c1 f (by simp; omega)
  have V : ∀ f, f ≠ 100 → f ≠ 101 → f ≠ 102 → f ≠ 103 → f ≠ 105 → mnet τ2 2 r 0 f = τ2 f := fun f p1 p2 p3 p4 p5 => by
    unfold mnet
    rw [zup_f _ _ _ p1, zup_f _ _ _ p5, zup_f _ _ _ p4, zup_f _ _ _ p3, zup_f _ _ _ p2]
  have W : ∀ f, f ≠ 104 → f ≠ 124 → f ≠ 100 → f ≠ 101 → f ≠ 102 → f ≠ 103 → f ≠ 105 → υ f = τ2 f := fun f q1 q2 p1 p2 p3 p4 p5 => (U f q1 q2).trans (V f p1 p2 p3 p4 p5)
  have n100 : mnet τ2 2 r 0 100 0 = τ 100 0 + 1 := by unfold mnet; rw [zup_at, e100]
  have A : ∀ f, (f = 101 ∨ f = 102 ∨ f = 103 ∨ f = 105) → τ2 f = τ f := fun f hf => by
    rw [a1 f (by simp; omega), mnote_o _ _ _ _ _ _ _ (by omega)]
  have B : ∀ f, (f = 106 ∨ f = 107 ∨ f = 108 ∨ f = 109) → υ f = mnote τ (τ 100 0) a b c t f := fun f hf => by
    rw [W f (by omega) (by omega) (by omega) (by omega) (by omega) (by omega) (by omega), a1 f (by simp; omega)]
  refine ⟨fun f hf => ?_, h2.sm ?_ ?_ ?_ ?_, fun i hi => ?_, ?_, fun j => ?_, fun j => ?_, fun j => ?_, fun j => ?_, fun j => ?_, fun j => ?_, fun j => ?_, fun j => ?_, c2, fun j j0 j1 => ?_⟩
  · simp only [mfunk, List.mem_cons, List.not_mem_nil, or_false, not_or] at hf
    rw [W f (by omega) (by omega) (by omega) (by omega) (by omega) (by omega) (by omega), a1 f (by simp; omega), mnote_o _ _ _ _ _ _ _ (by omega)]
  · rw [W 113 (by omega) (by omega) (by omega) (by omega) (by omega) (by omega) (by omega)]
  · exact W 114 (by omega) (by omega) (by omega) (by omega) (by omega) (by omega) (by omega)
  · exact W 115 (by omega) (by omega) (by omega) (by omega) (by omega) (by omega) (by omega)
  · exact W 116 (by omega) (by omega) (by omega) (by omega) (by omega) (by omega) (by omega)
  · rw [W 117 (by omega) (by omega) (by omega) (by omega) (by omega) (by omega) (by omega), a3 i (by rw [mnote_o _ _ _ _ _ _ _ (by decide), hg.1]; exact hi), mnote_o _ _ _ _ _ _ _ (by decide)]
  · rw [U 100 (by decide) (by decide), n100]
  · rw [U 101 (by decide) (by decide)]
    unfold mnet
    rw [zup_f _ _ _ (by decide), zup_f _ _ _ (by decide), zup_f _ _ _ (by decide), zup_f _ _ _ (by decide), zup_or, e100, A 101 (by decide)]
  · rw [U 102 (by decide) (by decide)]
    unfold mnet
    rw [zup_f _ _ _ (by decide), zup_f _ _ _ (by decide), zup_f _ _ _ (by decide), zup_or, zup_f _ _ _ (by decide), e100, A 102 (by decide)]
  · rw [U 103 (by decide) (by decide)]
    unfold mnet
    rw [zup_f _ _ _ (by decide), zup_f _ _ _ (by decide), zup_or, zup_f _ _ _ (by decide), zup_f _ _ _ (by decide), e100, A 103 (by decide)]
  · rw [U 105 (by decide) (by decide)]
    unfold mnet
    rw [zup_f _ _ _ (by decide), zup_or, zup_f _ _ _ (by decide), zup_f _ _ _ (by decide), zup_f _ _ _ (by decide), e100, A 105 (by decide)]
  · rw [B 106 (by decide)]
    unfold mnote
    rw [zup_f _ _ _ (by decide), zup_f _ _ _ (by decide), zup_f _ _ _ (by decide), zup_or]
  · rw [B 107 (by decide)]
    unfold mnote
    rw [zup_f _ _ _ (by decide), zup_f _ _ _ (by decide), zup_or, zup_f _ _ _ (by decide)]
  · rw [B 108 (by decide)]
    unfold mnote
    rw [zup_f _ _ _ (by decide), zup_or, zup_f _ _ _ (by decide), zup_f _ _ _ (by decide)]
  · rw [B 109 (by decide)]
    unfold mnote
    rw [zup_or, zup_f _ _ _ (by decide), zup_f _ _ _ (by decide), zup_f _ _ _ (by decide)]
  · rw [c3 j j0 (by rw [n100]; exact j1), U 103 (by decide) (by decide)]
