/-! cell: CellMapper's side -/
def xcellk : List Nat := [7, 20, 21, 22, 23, 24, 25, 30, 31, 32, 40, 46, 47, 48, 56, 61, 62, 71, 72]
def xcell (σ υ : zS) (P : Pat) (code area delay : Int) : Prop := zsm xcellk σ υ ∧ zWf υ ∧ σ 72 0 ≤ υ 72 0 ∧ (∀ i : Int, 0 ≤ i → i < σ 72 0 → υ 30 i = σ 30 i ∧ υ 31 i = σ 31 i ∧ υ 32 i = σ 32 i) ∧ υ 71 0 = σ 71 0 + 1 ∧ (∀ j : Int, υ 40 j = if j = 5 then σ 40 5 + 1 else σ 40 j) ∧ (∀ c : Int, υ 46 c = if c = σ 40 5 then σ 71 0 else σ 46 c) ∧ (∀ c : Int, c ≠ σ 71 0 → υ 20 c = σ 20 c ∧ υ 21 c = σ 21 c ∧ υ 22 c = σ 22 c ∧ υ 23 c = σ 23 c ∧ υ 24 c = σ 24 c ∧ υ 25 c = σ 25 c) ∧ (υ 20 (σ 71 0) = σ 40 5 ∧ υ 21 (σ 71 0) = code ∧ υ 22 (σ 71 0) = area ∧ υ 23 (σ 71 0) = delay ∧ υ 24 (σ 71 0) = ppins P ∧ prep υ P (υ 25 (σ 71 0)) 0) ∧ υ 56 0 = 0 ∧ ∀ i : Int, (∃ k : Int, 0 ≤ k ∧ k < σ 40 3 ∧ σ 44 k = i) → υ 7 i = σ 4 i
/-- a cell's fields are set -/
def xce (τ : zS) (code area delay pins r : Int) : zS := zup (zup (zup (zup (zup (zup (znew5 τ) 20 (τ 71 0) (τ 40 5)) 21 (τ 71 0) code) 22 (τ 71 0) area) 23 (τ 71 0) delay) 24 (τ 71 0) pins) 25 (τ 71 0) r
theorem xce_ap (τ : zS) (code area delay pins r : Int) (f : Nat) (i : Int) : xce τ code area delay pins r f i = if 20 ≤ f ∧ f ≤ 25 ∧ i = τ 71 0 then (if f = 20 then τ 40 5 else if f = 21 then code else if f = 22 then area else if f = 23 then delay else if f = 24 then pins else r) else if f = 71 ∧ i = 0 then τ 71 0 + 1 else τ f i := by
  unfold xce
  by_cases hf : 20 ≤ f ∧ f ≤ 25
  · have hc : f = 20 ∨ f = 21 ∨ f = 22 ∨ f = 23 ∨ f = 24 ∨ f = 25 := by omega
    by_cases hi : i = τ 71 0
    · rcases hc with rfl | rfl | rfl | rfl | rfl | rfl <;> simp [zup, hi]
    · rcases hc with rfl | rfl | rfl | rfl | rfl | rfl <;> simp [zup, hi, znew5]
  · have h1 : ¬ (20 ≤ f ∧ f ≤ 25 ∧ i = τ 71 0) := by omega
    rw [if_neg h1]
    have k : f ≠ 20 ∧ f ≠ 21 ∧ f ≠ 22 ∧ f ≠ 23 ∧ f ≠ 24 ∧ f ≠ 25 := by omega
    rw [zup_ne _ _ _ _ k.2.2.2.2.2, zup_ne _ _ _ _ k.2.2.2.2.1, zup_ne _ _ _ _ k.2.2.2.1, zup_ne _ _ _ _ k.2.2.1, zup_ne _ _ _ _ k.2.1, zup_ne _ _ _ _ k.1]
    unfold znew5
    rw [if_neg h1]
theorem xce_wf {τ : zS} {code area delay pins r : Int} (hw : zWf τ) (h0 : 0 ≤ τ 71 0) (hr : 0 ≤ r ∧ r < τ 72 0) : zWf (xce τ code area delay pins r) := by
  have O : ∀ (f : Nat), (f < 20 ∨ 25 < f) → f ≠ 71 → xce τ code area delay pins r f = τ f := fun f h1 h2 => by
    funext i
    rw [xce_ap, if_neg (by omega), if_neg (by omega)]
  have e71 : xce τ code area delay pins r 71 0 = τ 71 0 + 1 := by simp [xce_ap]
  obtain ⟨w1, w2, w3, w4, w5, w6⟩ := hw
  refine ⟨?_, fun l hl => ?_, ?_, ?_, ?_, ?_⟩
  · intro i i0 i1
    have := w1 i i0 (by rw [O 70 (by omega) (by omega)] at i1; exact i1)
    unfold zvn zvc at *
    rw [O 2 (by omega) (by omega), O 3 (by omega) (by omega), O 5 (by omega) (by omega), O 14 (by omega) (by omega), O 70 (by omega) (by omega), e71]
    omega
  · unfold zvn
    rw [O (41 + l) (by omega) (by omega), O 40 (by omega) (by omega), O 70 (by omega) (by omega)]
    exact w2 l hl
  · intro i i0 i1
    have := w3 i i0 (by rw [O 40 (by omega) (by omega)] at i1; exact i1)
    unfold zvc at *
    rw [O 46 (by omega) (by omega), e71]
    omega
  · unfold zvn
    rw [O 50 (by omega) (by omega), O 51 (by omega) (by omega), O 70 (by omega) (by omega)]
    exact w4
  · intro i i0 i1
    rw [e71] at i1
    have := w5 i i0
    unfold zvp at *
    rw [O 72 (by omega) (by omega), xce_ap]
    by_cases e : i = τ 71 0
    · rw [if_pos ⟨by decide, by decide, e⟩, if_neg (by decide), if_neg (by decide), if_neg (by decide), if_neg (by decide), if_neg (by decide)]
      exact Or.inr hr
    · rw [if_neg (fun q => e q.2.2), if_neg (fun q => absurd q.1 (by decide))]
      exact this (by omega)
  · unfold zvp
    rw [O 30 (by omega) (by omega), O 31 (by omega) (by omega), O 32 (by omega) (by omega), O 72 (by omega) (by omega)]
    exact w6
theorem sx_cell {σ : zS} {Q : Int → zS → Prop} {code area delay : Int} (hw : zWf σ) (h72 : 0 ≤ σ 72 0) (h71 : σ 71 0 = σ 40 5) (c0 : 0 ≤ σ 40 5) (c1 : σ 40 5 ≤ 8) (l0 : 0 ≤ σ 40 3) (l1 : σ 40 3 ≤ 6) (hl : ∀ k : Int, 0 ≤ k → k < σ 40 3 → 0 ≤ σ 44 k ∧ σ 44 k < σ 70 0) (hc : zc code) (ha : zc area) (hd : zc delay) (kb : ¬ (gpat code ∧ 1 ≤ area ∧ area ≤ 1000 ∧ 0 ≤ delay ∧ delay ≤ 1000) → Q (-1) σ) (kf : (gpat code ∧ 1 ≤ area ∧ area ≤ 1000 ∧ 0 ≤ delay ∧ delay ≤ 1000) → 8 ≤ σ 40 5 → Q (-2) σ) (k : ∀ P υ, pok P → P ≠ .var 0 → (pdig P).length ≤ 7 → code = dval (pdig P) → gpat code → 1 ≤ area → area ≤ 1000 → 0 ≤ delay → delay ≤ 1000 → σ 40 5 < 8 → xcell σ υ P code area delay → Q (σ 40 5) υ) : wp_CX_cell Q code area delay σ := by
  have zl : zle σ σ := ⟨Int.le_refl _, Int.le_refl _, Int.le_refl _⟩
  refine sx_shaped hc (fun hp => ⟨zl, by decide, fun q => absurd q (by decide), fun _ => ⟨ha, fun q => kb (by omega), fun q => ⟨fun q2 => kb (by omega), fun q2 => ⟨hd, fun q3 => kb (by omega), fun q3 => ⟨fun q4 => ⟨by omega, fun q5 => ?_, fun q5 => kf ⟨hp, by omega, by omega, by omega, by omega⟩ (by omega)⟩, fun q4 => kb (by omega)⟩⟩⟩⟩⟩) (fun hp => ⟨zl, by decide, fun _ => kb (fun r => hp r.1), fun q => absurd rfl q⟩)
  obtain ⟨P, p1, p2, p3, p4⟩ := gpat_of hp
  rintro _ rfl _ rfl
  have S8 : ∀ f i, f ≠ 61 → f ≠ 62 → zup (zup σ 61 0 code) 62 0 0 f i = σ f i := fun f i h1 h2 => by rw [zup_ne _ _ _ _ h2, zup_ne _ _ _ _ h1]
  have s61 : zup (zup σ 61 0 code) 62 0 0 61 0 = code := by rw [zup_ne _ _ _ _ (by decide), zup_at]
  have s62 : zup (zup σ 61 0 code) 62 0 0 62 0 = 0 := zup_at _ _ _ _
  have sw : zWf (zup (zup σ 61 0 code) 62 0 0) := hw.sm (fun f hf => by
    have : f ≠ 61 ∧ f ≠ 62 := by constructor <;> (rintro rfl; exact absurd hf (by decide))
    rw [zup_f _ _ _ this.2, zup_f _ _ _ this.1])
  generalize zup (zup σ 61 0 code) 62 0 0 = σ8 at S8 s61 s62 sw
  refine ⟨⟨by rw [S8 70 0 (by decide) (by decide)]; exact Int.le_refl _, by rw [S8 71 0 (by decide) (by decide)]; exact Int.le_refl _, by rw [S8 72 0 (by decide) (by decide)]; exact Int.le_refl _⟩, ?_⟩
  have e72 := S8 72 0 (by decide) (by decide)
  refine SP_1 P [] σ8 _ p1 (by omega) (fun d hd => by simp at hd) (by simp; omega) sw (by omega) (by rw [s61, List.append_nil]; exact p4) (fun τ r ht => ?_)
  obtain ⟨t1, t2, t3, t4, t5, t6, t7, t8, t9⟩ := ht
  have T : ∀ f i, f ∉ [30, 31, 32, 61, 62, 72] → τ f i = σ f i := fun f i hf => by
    rw [t1 f hf, S8 f i (by rintro rfl; exact hf (by decide)) (by rintro rfl; exact hf (by decide))]
  have t71 : τ 71 0 = σ 40 5 := by rw [T 71 0 (by decide)]; exact h71
  have t40 : τ 40 5 = σ 40 5 := T 40 5 (by decide)
  refine ⟨fun q => absurd q (by omega), fun _ => ⟨t2, by omega, Or.inr ⟨t8, t9⟩, ?_⟩⟩
  rintro _ rfl
  have n71 : znew5 τ 71 0 = τ 71 0 + 1 := by simp [znew5]
  have n40 : znew5 τ 40 5 = τ 40 5 := by simp [znew5]
  have n62 : znew5 τ 62 0 = τ 62 0 := by simp [znew5]
  rw [n40, n62]
  refine ⟨by omega, by omega, ?_⟩
  rintro _ rfl _ rfl _ rfl _ rfl _ rfl _ rfl
  show zle (znew5 τ) (xce τ code area delay (τ 62 0) r) ∧ wp_add 5 _ (τ 71 0) (xce τ code area delay (τ 62 0) r)
  have xw := xce_wf (code := code) (area := area) (delay := delay) (pins := τ 62 0) t2 (by omega) ⟨t8, t9⟩
  have X := xce_ap τ code area delay (τ 62 0) r
  generalize xce τ code area delay (τ 62 0) r = ξ at xw X
  have x71 : ξ 71 0 = τ 71 0 + 1 := by simp [X]
  have x40 : ∀ j, ξ 40 j = σ 40 j := fun j => by rw [X]; simp [T 40 j (by decide)]
  have x4 : ξ 4 = σ 4 := by funext j; rw [X]; simp [T 4 j (by decide)]
  have x44 : ξ 44 = σ 44 := by funext j; rw [X]; simp [T 44 j (by decide)]
  have x70 : ξ 70 0 = σ 70 0 := by rw [X]; simp [T 70 0 (by decide)]
  have x72 : ξ 72 0 = τ 72 0 := by rw [X]; simp
  refine ⟨⟨?_, ?_, ?_⟩, xw, ⟨by omega, by rw [if_pos rfl]; omega⟩, by have := x40 5; show ξ 40 5 < 60; omega, fun cc mm => ?_⟩
  · rw [x70]
    simp [znew5, T 70 0 (by decide)]
  · rw [x71, n71]
    exact Int.le_refl _
  · rw [x72]
    simp [znew5]
  have Z := zadd_ap ξ 5 (τ 71 0) cc mm
  have zw := zadd_wf (c := cc) (m := mm) xw (show 5 < 6 by decide) (e := τ 71 0) ⟨by omega, by rw [if_pos rfl]; omega⟩
  generalize zadd ξ 5 (τ 71 0) cc mm = ζ at Z zw
  have z40 : ∀ j : Int, ζ 40 j = if j = 5 then σ 40 5 + 1 else σ 40 j := fun j => by
    have e5 : ξ 40 ((5 : Nat) : Int) = σ 40 5 := x40 5
    rw [Z, e5, x40]
    by_cases e : j = 5
    · rw [if_pos ⟨rfl, e⟩, if_pos e]
    · rw [if_neg (fun q => e q.2), if_neg (by omega), if_neg (by omega), if_neg (by omega), if_neg e]
  have zo : ∀ f i, f ≠ 40 → f ≠ 46 → f ≠ 47 → f ≠ 48 → ζ f i = ξ f i := fun f i h1 h2 h3 h4 => by
    rw [Z, if_neg (by omega), if_neg (by omega), if_neg (by omega), if_neg (by omega)]
  have z44 : ζ 44 = σ 44 := by funext j; rw [zo 44 j (by decide) (by decide) (by decide) (by decide), x44]
  have z4 : ζ 4 = σ 4 := by funext j; rw [zo 4 j (by decide) (by decide) (by decide) (by decide), x4]
  have z3 : ζ 40 3 = σ 40 3 := by rw [z40, if_neg (by decide)]
  refine sx_changed (by omega) (by omega) (fun k' k0 k1 => ?_) (fun υ hu => ?_)
  · rw [z44, zo 70 0 (by decide) (by decide) (by decide) (by decide), x70]
    exact hl k' k0 (by omega)
  obtain ⟨u1, u2, u3, u4⟩ := hu
  have U : ∀ f i, f ≠ 7 → f ≠ 56 → υ f i = ζ f i := fun f i h1 h2 => by rw [u1 f (by simp; omega)]
  refine ⟨⟨by rw [u1 70 (by decide)]; exact Int.le_refl _, by rw [u1 71 (by decide)]; exact Int.le_refl _, by rw [u1 72 (by decide)]; exact Int.le_refl _⟩, ?_⟩
  have hu5 : υ 40 5 - 1 = σ 40 5 := by rw [U 40 5 (by decide) (by decide), z40, if_pos rfl]; omega
  rw [hu5]
  have V : ∀ f i, f ≠ 7 → f ≠ 56 → f ≠ 40 → f ≠ 46 → f ≠ 47 → f ≠ 48 → υ f i = ξ f i := fun f i h1 h2 h3 h4 h5 h6 => by rw [U f i h1 h2, zo f i h3 h4 h5 h6]
  have pk : ∀ i : Int, υ 30 i = τ 30 i ∧ υ 31 i = τ 31 i ∧ υ 32 i = τ 32 i := fun i => by
    rw [V 30 i (by decide) (by decide) (by decide) (by decide) (by decide) (by decide), V 31 i (by decide) (by decide) (by decide) (by decide) (by decide) (by decide), V 32 i (by decide) (by decide) (by decide) (by decide) (by decide) (by decide), X, X, X]
    exact ⟨by simp, by simp, by simp⟩
  have v72 : υ 72 0 = τ 72 0 := by rw [V 72 0 (by decide) (by decide) (by decide) (by decide) (by decide) (by decide)]; exact x72
  have CF : ∀ f i, 20 ≤ f → f ≤ 25 → υ f i = if i = τ 71 0 then (if f = 20 then τ 40 5 else if f = 21 then code else if f = 22 then area else if f = 23 then delay else if f = 24 then τ 62 0 else r) else σ f i := fun f i h1 h2 => by
    rw [V f i (by omega) (by omega) (by omega) (by omega) (by omega) (by omega), X]
    by_cases e : i = τ 71 0
    · rw [if_pos ⟨h1, h2, e⟩, if_pos e]
    · rw [if_neg (fun q => e q.2.2), if_neg (by omega), if_neg e, T f i (by simp; omega)]
  have s71 : τ 71 0 = σ 71 0 := by omega
  rw [s71] at CF
  refine k P υ p1 p2 p3 p4 hp (by omega) (by omega) (by omega) (by omega) (by omega) ⟨fun f hf => ?_, ?_, ?_, ?_, ?_, ?_, ?_, ?_, ?_, u2, ?_⟩
  · funext i
    simp only [xcellk, List.mem_cons, List.not_mem_nil, or_false, not_or] at hf
    rw [V f i (by omega) (by omega) (by omega) (by omega) (by omega) (by omega), X, if_neg (by omega), if_neg (by omega), T f i (by simp; omega)]
  · exact zw.sm (fun f hf => u1 f (by
      have : f ≠ 7 ∧ f ≠ 56 := by constructor <;> (rintro rfl; exact absurd hf (by decide))
      simp; omega))
  · omega
  · intro i i0 i1
    obtain ⟨a1, a2, a3⟩ := pk i
    obtain ⟨b1, b2, b3⟩ := t4 i i0 (by omega)
    rw [a1, a2, a3, b1, b2, b3, S8 30 i (by decide) (by decide), S8 31 i (by decide) (by decide), S8 32 i (by decide) (by decide)]
    exact ⟨rfl, rfl, rfl⟩
  · rw [V 71 0 (by decide) (by decide) (by decide) (by decide) (by decide) (by decide), x71, s71]
  · intro j
    rw [U 40 j (by decide) (by decide)]
    exact z40 j
  · intro c
    have e5 : ξ 40 ((5 : Nat) : Int) = σ 40 5 := x40 5
    rw [U 46 c (by decide) (by decide), Z, e5, s71]
    by_cases e : c = σ 40 5
    · rw [if_neg (by omega), if_pos ⟨rfl, e⟩, if_pos e]
    · rw [if_neg (by omega), if_neg (fun q => e q.2), if_neg (by omega), if_neg (by omega), if_neg e, X, if_neg (by omega), if_neg (by omega), T 46 c (by decide)]
  · intro c hc'
    rw [CF 20 c (by decide) (by decide), CF 21 c (by decide) (by decide), CF 22 c (by decide) (by decide), CF 23 c (by decide) (by decide), CF 24 c (by decide) (by decide), CF 25 c (by decide) (by decide)]
    simp only [if_neg hc']
    exact ⟨trivial, trivial, trivial, trivial, trivial, trivial⟩
  · rw [CF 20 _ (by decide) (by decide), CF 21 _ (by decide) (by decide), CF 22 _ (by decide) (by decide), CF 23 _ (by decide) (by decide), CF 24 _ (by decide) (by decide), CF 25 _ (by decide) (by decide)]
    simp only [if_true]
    refine ⟨t40, rfl, rfl, rfl, ?_, ?_⟩
    · show τ 62 0 = _
      omega
    · show prep υ P r 0
      rw [s62] at t7
      exact prep_ext (by omega) (fun i _ _ => pk i) _ _ _ t7
  · intro i hi
    rw [u3 i ?_, z4]
    obtain ⟨k', k0, k1, k2⟩ := hi
    exact ⟨k', k0, by omega, by rw [z44]; exact k2⟩
