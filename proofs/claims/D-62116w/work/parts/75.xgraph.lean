/-! CellMapper's nodes as a list -/
def xG (σ : zS) (L : Gr) : Prop := σ 40 0 = L.length ∧ σ 70 0 = L.length ∧ gok L ∧ zWf σ ∧ (∀ i : Nat, i < L.length → σ 41 i = i ∧ σ 0 i = i) ∧ ∀ (i : Nat) (k x y : Int), L[i]? = some (k, x, y) → σ 1 i = k ∧ σ 2 i = x ∧ σ 3 i = y
def xks : List Nat := [0, 1, 2, 3, 4, 5, 6, 7, 8, 9, 10, 11, 12, 13, 14, 15, 16, 17, 40, 41, 47, 48, 70]
/-- nodes come, nothing else changes -/
def xE (σ τ : zS) : Prop := zsm xks σ τ ∧ (∀ k, k < 18 → ∀ i : Int, i < σ 40 0 → τ k i = σ k i) ∧ (∀ l : Int, l ≠ 0 → τ 40 l = σ 40 l) ∧ σ 40 0 ≤ τ 40 0 ∧ ∀ i : Int, σ 40 0 ≤ i → i < τ 40 0 → τ 5 i = -1 ∧ τ 6 i = 0 ∧ 2 ≤ τ 1 i
theorem xE.rf {σ : zS} : xE σ σ := ⟨zsm.rf, fun _ _ _ _ => rfl, fun _ _ => rfl, Int.le_refl _, fun i h0 h1 => absurd h0 (by omega)⟩
theorem xE.trans {σ τ υ : zS} (h : xE σ τ) (h2 : xE τ υ) : xE σ υ := by
  obtain ⟨a1, a2, a3, a4, a5⟩ := h
  obtain ⟨b1, b2, b3, b4, b5⟩ := h2
  refine ⟨a1.trans b1, fun k hk i hi => (b2 k hk i (by omega)).trans (a2 k hk i hi), fun l hl => (b3 l hl).trans (a3 l hl), by omega, fun i h0 h1 => ?_⟩
  by_cases hi : i < τ 40 0
  · rw [b2 5 (by omega) i hi, b2 6 (by omega) i hi, b2 1 (by omega) i hi]
    exact a5 i h0 hi
  · exact b5 i (by omega) h1
def xnode (σ : zS) (k x y d : Int) : zS := zup (zup (zup (zup (zup (zup (znew4 σ) 0 (σ 70 0) (σ 40 0)) 1 (σ 70 0) k) 2 (σ 70 0) x) 3 (σ 70 0) y) 4 (σ 70 0) d) 7 (σ 70 0) (if k = 1 then d else 0)
theorem xnode_ap (σ : zS) (k x y d : Int) (f : Nat) (i : Int) : xnode σ k x y d f i = if f = 70 ∧ i = 0 then σ 70 0 + 1 else if f < 18 ∧ i = σ 70 0 then (if f = 0 then σ 40 0 else if f = 1 then k else if f = 2 then x else if f = 3 then y else if f = 4 then d else if f = 7 then (if k = 1 then d else 0) else if f = 5 ∨ f = 14 then -1 else 0) else σ f i := by
  simp only [xnode, zup, znew4, zdef4]
  grind
theorem xnode_wf {σ : zS} {k x y d : Int} (h : zWf σ) (h0 : 0 ≤ σ 70 0) (hx : zvn σ x) (hy : zvn σ y) : zWf (xnode σ k x y d) := by
  obtain ⟨w1, w2, w3, w4, w5, w6⟩ := h
  have e70 : xnode σ k x y d 70 0 = σ 70 0 + 1 := by simp [xnode_ap]
  have e71 : xnode σ k x y d 71 0 = σ 71 0 := by simp [xnode_ap]
  have e72 : xnode σ k x y d 72 0 = σ 72 0 := by simp [xnode_ap]
  refine ⟨?_, ?_, ?_, ?_, ?_, ?_⟩
  · intro i i0 i1
    have hw := w1 i i0
    clear w1 w2 w3 w4 w5 w6
    rw [e70] at i1
    unfold zvn zvc
    rw [e70, e71]
    by_cases hi : i = σ 70 0
    · simp only [xnode_ap, hi]
      simp
      omega
    · simp only [xnode_ap, hi]
      simp
      omega
  · intro l hl i i0 i1
    have hw := w2 l hl i i0
    clear w1 w2 w3 w4 w5 w6
    have e1 : xnode σ k x y d 40 l = σ 40 l := by simp [xnode_ap]
    have e2 : xnode σ k x y d (41 + l) i = σ (41 + l) i := by rw [xnode_ap, if_neg (by omega), if_neg (by omega)]
    rw [e1] at i1
    unfold zvn
    rw [e2, e70]
    omega
  · intro i i0 i1
    have hw := w3 i i0
    clear w1 w2 w3 w4 w5 w6
    have e1 : xnode σ k x y d 40 5 = σ 40 5 := by simp [xnode_ap]
    have e2 : xnode σ k x y d 46 i = σ 46 i := by rw [xnode_ap, if_neg (by omega), if_neg (by omega)]
    rw [e1] at i1
    unfold zvc
    rw [e2, e71]
    omega
  · intro i i0
    have hw := w4 i i0
    clear w1 w2 w3 w4 w5 w6
    have e1 : xnode σ k x y d 50 i = σ 50 i := by rw [xnode_ap, if_neg (by omega), if_neg (by omega)]
    have e2 : xnode σ k x y d 51 i = σ 51 i := by rw [xnode_ap, if_neg (by omega), if_neg (by omega)]
    unfold zvn
    rw [e1, e2, e70]
    omega
  · intro i i0 i1
    have hw := w5 i i0
    clear w1 w2 w3 w4 w5 w6
    have e1 : xnode σ k x y d 25 i = σ 25 i := by rw [xnode_ap, if_neg (by omega), if_neg (by omega)]
    rw [e71] at i1
    unfold zvp
    rw [e1, e72]
    exact hw i1
  · intro i i0 i1
    have hw := w6 i i0
    clear w1 w2 w3 w4 w5 w6
    have e0 : xnode σ k x y d 30 i = σ 30 i := by rw [xnode_ap, if_neg (by omega), if_neg (by omega)]
    have e1 : xnode σ k x y d 31 i = σ 31 i := by rw [xnode_ap, if_neg (by omega), if_neg (by omega)]
    have e2 : xnode σ k x y d 32 i = σ 32 i := by rw [xnode_ap, if_neg (by omega), if_neg (by omega)]
    rw [e72] at i1
    unfold zvp
    rw [e0, e1, e2, e72]
    exact hw i1
theorem zadd_ap (σ : zS) (l : Nat) (e c m : Int) (f : Nat) (i : Int) : zadd σ l e c m f i = if f = 40 ∧ i = l then σ 40 l + 1 else if f = 41 + l ∧ i = σ 40 l then e else if f = 47 ∧ i = l then c else if f = 48 ∧ i = l then m else σ f i := by
  simp only [zadd, zup]
  by_cases h1 : f = 40
  · by_cases h2 : i = l
    · simp [h1, h2]
    · have : ¬ (40 = 41 + l) := by omega
      simp [h1, h2, this]
  · by_cases h3 : f = 41 + l
    · by_cases h4 : i = σ 40 l
      · have q1 : ¬ (41 + l = 40) := by omega
        simp [h3, h4, q1]
      · have q1 : ¬ (41 + l = 40) := by omega
        simp only [h3, h4, q1, if_false, if_true, false_and, and_false]
        by_cases h5 : 41 + l = 47 <;> by_cases h6 : i = l <;> by_cases h7 : 41 + l = 48 <;> simp [h5, h6, h7] <;> omega
    · simp only [h1, h3, if_false, false_and]
      by_cases h5 : f = 47 <;> by_cases h6 : i = l <;> by_cases h7 : f = 48 <;> simp [h5, h6, h7] <;> omega
theorem zadd_wf {σ : zS} {l : Nat} {e c m : Int} (h : zWf σ) (hl : l < 6) (he : zel σ l e) : zWf (zadd σ l e c m) := by
  obtain ⟨w1, w2, w3, w4, w5, w6⟩ := h
  obtain ⟨e0, e1⟩ := he
  have out : ∀ (f : Nat) (i : Int), f < 40 ∨ 48 < f → zadd σ l e c m f i = σ f i := fun f i hf => by
    rw [zadd_ap, if_neg (by omega), if_neg (by omega), if_neg (by omega), if_neg (by omega)]
  refine ⟨?_, ?_, ?_, ?_, ?_, ?_⟩
  · intro i i0 i1
    unfold zvn zvc at *
    rw [out _ _ (by omega)] at i1
    rw [out 2 _ (by omega), out 3 _ (by omega), out 5 _ (by omega), out 14 _ (by omega), out 70 _ (by omega), out 71 _ (by omega)]
    exact w1 i i0 i1
  · intro l' hl' i i0 i1
    unfold zvn at *
    rw [out 70 _ (by omega)]
    have hw := w2 l' hl' i i0
    clear w1 w2 w3 w4 w5 w6 out
    rw [zadd_ap] at i1
    rw [zadd_ap, if_neg (by omega)]
    by_cases hll : l' = l
    · subst hll
      rw [if_pos (by simp)] at i1
      by_cases hi : i = σ 40 l'
      · rw [if_pos ⟨rfl, hi⟩]
        rw [if_neg (by omega)] at e1
        omega
      · rw [if_neg (by omega), if_neg (by omega), if_neg (by omega)]
        exact hw (by omega)
    · rw [if_neg (by omega), if_neg (by omega), if_neg (by omega), if_neg (by omega)] at i1
      rw [if_neg (by omega), if_neg (by omega), if_neg (by omega)]
      exact hw i1
  · intro i i0 i1
    unfold zvc at *
    rw [out 71 _ (by omega)]
    have hw := w3 i i0
    clear w1 w2 w3 w4 w5 w6 out
    rw [zadd_ap] at i1
    rw [zadd_ap, if_neg (by omega)]
    by_cases hll : l = 5
    · subst hll
      rw [if_pos (by simp)] at i1
      by_cases hi : i = σ 40 5
      · rw [if_pos ⟨rfl, hi⟩]
        rw [if_pos rfl] at e1
        omega
      · have hi2 : ¬ i = σ 40 (5 : Nat) := hi
        rw [if_neg (by omega), if_neg (by omega), if_neg (by omega)]
        exact hw (by have : σ 40 (5 : Nat) = σ 40 5 := rfl
                     omega)
    · rw [if_neg (by omega), if_neg (by omega), if_neg (by omega), if_neg (by omega)] at i1
      rw [if_neg (by omega), if_neg (by omega), if_neg (by omega)]
      exact hw i1
  · intro i i0
    unfold zvn at *
    rw [out 50 _ (by omega), out 51 _ (by omega), out 70 _ (by omega)]
    exact w4 i i0
  · intro i i0 i1
    unfold zvp at *
    rw [out _ _ (by omega)] at i1
    rw [out 25 _ (by omega), out 72 _ (by omega)]
    exact w5 i i0 i1
  · intro i i0 i1
    unfold zvp at *
    rw [out _ _ (by omega)] at i1
    rw [out 30 _ (by omega), out 31 _ (by omega), out 32 _ (by omega), out 72 _ (by omega)]
    exact w6 i i0 i1
/-- a node more in the graph's list -/
def xadd (σ : zS) (k x y d c m : Int) : zS := zadd (xnode σ k x y d) 0 (σ 70 0) c m
theorem xadd_ap (σ : zS) (k x y d c m : Int) (f : Nat) (i : Int) : xadd σ k x y d c m f i = if f = 70 ∧ i = 0 then σ 70 0 + 1 else if f = 40 ∧ i = 0 then σ 40 0 + 1 else if f = 41 ∧ i = σ 40 0 then σ 70 0 else if f = 47 ∧ i = 0 then c else if f = 48 ∧ i = 0 then m else if f < 18 ∧ i = σ 70 0 then (if f = 0 then σ 40 0 else if f = 1 then k else if f = 2 then x else if f = 3 then y else if f = 4 then d else if f = 7 then (if k = 1 then d else 0) else if f = 5 ∨ f = 14 then -1 else 0) else σ f i := by
  unfold xadd
  rw [zadd_ap]
  have e : xnode σ k x y d 40 (0 : Nat) = σ 40 0 := by rw [xnode_ap, if_neg (by omega), if_neg (by omega)]; rfl
  rw [e, xnode_ap]
  have e2 : ((0 : Nat) : Int) = 0 := rfl
  rw [e2]
  by_cases h1 : f = 70 ∧ i = 0
  · rw [if_neg (by omega), if_neg (by omega), if_neg (by omega), if_neg (by omega), if_pos h1, if_pos h1]
  · rw [if_neg h1, if_neg h1]
theorem sx_GR_add {σ : zS} {L : Gr} {Q : Int → zS → Prop} {k x y d : Int} (hg : xG σ L) (hl : L.length < 60) (hk : 0 ≤ k ∧ k < 4) (hx : zvn σ x) (hy : zvn σ y) (h : ∀ c m, zWf (xadd σ k x y d c m) → Q L.length (xadd σ k x y d c m)) : wp_GR_add Q k x y d σ := by
  obtain ⟨g1, g2, g3, g4, g5, g6⟩ := hg
  unfold wp_GR_add
  refine ⟨g4, by omega, hx, hy, ?_⟩
  rintro _ rfl
  have e40 : znew4 σ 40 0 = σ 40 0 := by simp [znew4]
  have e70 : znew4 σ 70 0 = σ 70 0 + 1 := by simp [znew4]
  unfold wp_ND_init
  rw [e40]
  refine ⟨by omega, by omega, ?_⟩
  rintro _ rfl _ rfl _ rfl _ rfl _ rfl
  have fin : ∀ τ, τ = xnode σ k x y d → zle (znew4 σ) τ ∧ ∀ y9, y9 = σ 70 0 → wp_add 0 (fun σ10 => Q y9 σ10) y9 τ := by
    rintro τ rfl
    refine ⟨⟨by simp [xnode_ap, e70], by simp [xnode_ap, znew4], by simp [xnode_ap, znew4]⟩, ?_⟩
    rintro _ rfl
    have hz : zel (xnode σ k x y d) 0 (σ 70 0) := ⟨by omega, by simp [xnode_ap]; omega⟩
    refine ⟨xnode_wf g4 (by omega) hx hy, hz, by simp [xnode_ap]; omega, fun c m => ?_⟩
    have := h c m (zadd_wf (xnode_wf g4 (by omega) hx hy) (by decide) hz)
    rw [g2]
    rw [← g2]
    rw [← g2] at this
    exact this
  refine ⟨hk.1, hk.2, fun e => ?_, fun e => ?_⟩
  · rintro _ rfl
    exact fin _ (by simp [xnode, e])
  · rintro _ rfl
    exact fin _ (by simp [xnode, e])
theorem xadd_G {σ : zS} {L : Gr} {k x y d c m : Int} (hg : xG σ L) (ho : gok (L ++ [(k, x, y)])) (hw : zWf (xadd σ k x y d c m)) : xG (xadd σ k x y d c m) (L ++ [(k, x, y)]) := by
  obtain ⟨g1, g2, g3, g4, g5, g6⟩ := hg
  refine ⟨by simp [xadd_ap, g1], by simp [xadd_ap, g2], ho, hw, fun i hi => ?_, fun i k' x' y' hi => ?_⟩
  · simp at hi
    by_cases e : i = L.length
    · subst e
      simp [xadd_ap, g1, g2]
    · have := g5 i (by omega)
      have q : ¬ (i : Int) = L.length := by omega
      simp [xadd_ap, g1, g2, q, this]
  · by_cases hl : i < L.length
    · rw [List.getElem?_append_left hl] at hi
      obtain ⟨a, b, c⟩ := g6 i k' x' y' hi
      have q : ¬ (i : Int) = L.length := by omega
      simp [xadd_ap, g2, q, a, b, c]
    · have hl2 := (List.getElem?_eq_some_iff.mp hi).1
      simp at hl2
      have : i = L.length := by omega
      subst this
      simp at hi
      obtain ⟨rfl, rfl, rfl⟩ := hi
      simp [xadd_ap, g2]
theorem xadd_E {σ : zS} {L : Gr} {k x y d c m : Int} (hg : xG σ L) (hk : 2 ≤ k) : xE σ (xadd σ k x y d c m) := by
  obtain ⟨g1, g2, g3, g4, g5, g6⟩ := hg
  refine ⟨fun f hf => ?_, fun f hf i hi => ?_, fun l hl => ?_, by simp [xadd_ap]; omega, fun i h0 h1 => ?_⟩
  · funext i
    simp only [xks, List.mem_cons, List.not_mem_nil, or_false] at hf
    rw [xadd_ap, if_neg (by omega), if_neg (by omega), if_neg (by omega), if_neg (by omega), if_neg (by omega), if_neg (by omega)]
  · rw [xadd_ap, if_neg (by omega), if_neg (by omega), if_neg (by omega), if_neg (by omega), if_neg (by omega), if_neg (by omega)]
  · rw [xadd_ap, if_neg (by omega), if_neg (by omega), if_neg (by omega), if_neg (by omega), if_neg (by omega), if_neg (by omega)]
  · have e : xadd σ k x y d c m 40 0 = σ 40 0 + 1 := by simp [xadd_ap]
    rw [e] at h1
    have : i = σ 70 0 := by omega
    subst this
    simp [xadd_ap, hk]
theorem xG.at {σ : zS} {L : Gr} (hg : xG σ L) {x : Int} (h0 : 0 ≤ x) (h1 : x < L.length) : σ 1 x = gK L x ∧ σ 2 x = gX L x ∧ σ 0 x = x ∧ 0 ≤ gK L x ∧ gK L x < 4 := by
  obtain ⟨g1, g2, g3, g4, g5, g6⟩ := hg
  obtain ⟨k, y, z, hq, e1, e2⟩ := gr_at h0 h1
  have := g6 _ _ _ _ hq
  have h5 := g5 x.toNat (by omega)
  have e : ((x.toNat : Nat) : Int) = x := by omega
  rw [e] at this h5
  have hr := g3.rng hq
  rw [e1, e2]
  exact ⟨this.1, this.2.1, h5.2, hr.1, hr.2.1⟩
theorem sx_shared {σ : zS} {L : Gr} {Q : Int → zS → Prop} {k x y : Int} (hg : xG σ L) (hl : L.length < 60) (hn : gnew L k x y) (h : ∀ τ, xG τ (gfind L k x y).1 → xE σ τ → Q (gfind L k x y).2 τ) : wp_GR_shared Q k x y σ := by
  have hg' := hg
  obtain ⟨g1, g2, g3, g4, g5, g6⟩ := hg
  have hx : zvn σ x ∧ zvn σ y ∧ 0 ≤ k ∧ k < 4 := by unfold gnew at hn; unfold zvn; omega
  obtain ⟨hx, hy, hk0, hk1⟩ := hx
  have loop : ∀ (n v : Nat), v + n = L.length → (∀ j : Nat, j < v → L[j]? ≠ some (k, x, y)) → lp_GR_shared_3 Q (n + 1) k x y v σ := by
    intro n
    induction n with
    | zero =>
      intro v hv hno
      have hi : gidx (k, x, y) L = none := gidx_none _ _ (fun j hj => by
        have := (List.getElem?_eq_some_iff.mp hj).1
        exact hno j (by omega) hj)
      have e : gfind L k x y = (L ++ [(k, x, y)], (L.length : Int)) := by unfold gfind; rw [hi]
      rw [e] at h
      unfold lp_GR_shared_3
      refine ⟨by omega, by omega, fun _ => sx_GR_add hg' hl ⟨hk0, hk1⟩ hx hy (fun c m hw => h _ (xadd_G hg' (hn.ok g3) hw) (xadd_E hg' (by unfold gnew at hn; omega))), fun q => absurd q (by omega)⟩
    | succ n ih =>
      intro v hv hno
      have hlt : v < L.length := by omega
      obtain ⟨⟨k', x', y'⟩, hb⟩ : ∃ b, L[v]? = some b := ⟨_, List.getElem?_eq_getElem hlt⟩
      obtain ⟨a, b, c⟩ := g6 v k' x' y' hb
      have hrr := g3.rng hb
      have next : (k', x', y') ≠ (k, x, y) → lp_GR_shared_3 Q (n + 1) k x y ((v : Int) + 1) σ := fun hne => by
        have := ih (v + 1) (by omega) (fun j hj => by
          by_cases e : j = v
          · subst e
            rw [hb]
            exact fun q => hne (Option.some.inj q)
          · exact hno j (by omega))
        exact this
      have h41 := (g5 v hlt).1
      unfold lp_GR_shared_3
      refine ⟨by omega, by omega, fun q => absurd q (by omega), fun _ => ⟨by omega, by omega, by omega, by omega, ?_⟩⟩
      rintro _ rfl
      rw [h41, a, b, c]
      refine ⟨by omega, by omega, hk0, hk1, fun e1 => ⟨by unfold zvn; omega, hx, fun e2 => ⟨by unfold zvn; omega, hy, fun e3 => ?_, fun e3 => next (fun q => e3 ?_)⟩, fun e2 => next (fun q => e2 ?_)⟩, fun e1 => next (fun q => e1 ?_)⟩
      · subst e1 e2 e3
        have hi := gidx_some _ L v hno hb
        have e : gfind L k' x' y' = (L, (v : Int)) := by unfold gfind; rw [hi]
        rw [e] at h
        exact h σ hg' xE.rf
      · cases q; rfl
      · cases q; rfl
      · cases q; rfl
  exact ⟨L.length + 1, loop L.length 0 (by omega) (fun j hj => absurd hj (by omega))⟩
theorem sx_inv {σ : zS} {L : Gr} {Q : Int → zS → Prop} {x : Int} (hg : xG σ L) (hl : L.length < 60) (h0 : 0 ≤ x) (h1 : x < L.length) (h : ∀ τ, xG τ (ginv L x).1 → xE σ τ → Q (ginv L x).2 τ) : wp_GR_inv Q x σ := by
  unfold wp_GR_inv
  obtain ⟨e1, e2, e0, e3, e4⟩ := hg.at h0 h1
  have g2 := hg.2.1
  rw [e1, e2]
  refine ⟨h0, by omega, by omega, by omega, fun hk => ?_, fun hk => ?_⟩
  · have e : ginv L x = (L, gX L x) := by unfold ginv; rw [if_pos hk]
    rw [e] at h
    exact h σ hg xE.rf
  · have e : ginv L x = gfind L 3 x (-1) := by unfold ginv; rw [if_neg hk]
    rw [e] at h
    exact sx_shared hg hl (Or.inr ⟨rfl, h0, h1, rfl⟩) h
theorem sx_nand {σ : zS} {L : Gr} {Q : Int → zS → Prop} {x y : Int} (hg : xG σ L) (hl : L.length < 60) (h0 : 0 ≤ x) (h1 : x < L.length) (y0 : 0 ≤ y) (y1 : y < L.length) (h : ∀ τ, xG τ (gnand L x y).1 → xE σ τ → Q (gnand L x y).2 τ) : wp_GR_nand Q x y σ := by
  unfold wp_GR_nand
  have g2 := hg.2.1
  obtain ⟨-, -, ex, -⟩ := hg.at h0 h1
  obtain ⟨-, -, ey, -⟩ := hg.at y0 y1
  rw [ex, ey]
  refine ⟨by unfold zvn; omega, by unfold zvn; omega, fun e => ?_, fun e => ⟨by omega, by omega, by omega, by omega, by omega, by omega, fun e2 => ?_, fun e2 => ?_⟩⟩
  · have q : gnand L x y = ginv L x := by unfold gnand; rw [if_pos e]
    rw [q] at h
    exact sx_inv hg hl h0 h1 h
  · have q : gnand L x y = gfind L 2 y x := by unfold gnand; rw [if_neg e, if_pos e2]
    rw [q] at h
    exact sx_shared hg hl (Or.inl ⟨rfl, y0, by omega, h1⟩) h
  · have q : gnand L x y = gfind L 2 x y := by unfold gnand; rw [if_neg e, if_neg e2]
    rw [q] at h
    exact sx_shared hg hl (Or.inl ⟨rfl, h0, by omega, y1⟩) h
theorem xG.vn {σ : zS} {L : Gr} (hg : xG σ L) {x : Int} (h : x = -1 ∨ (0 ≤ x ∧ x < L.length)) : zvn σ x := by
  have := hg.2.1
  unfold zvn
  omega
theorem sx_gated {σ : zS} {L : Gr} {Q : Int → zS → Prop} {x y one : Int} (hg : xG σ L) (hl : L.length + 1 < 60) (h0 : 0 ≤ x) (h1 : x < L.length) (y0 : 0 ≤ y) (y1 : y < L.length) (ho : zc one) (h : ∀ τ, xG τ (ggate L x y one).1 → xE σ τ → Q (ggate L x y one).2 τ) : wp_GR_gated Q x y one σ := by
  unfold wp_GR_gated
  refine ⟨ho, fun e => ?_, fun e => ?_⟩
  · have q : ggate L x y one = ginv (gnand L x y).1 (gnand L x y).2 := by unfold ggate; rw [if_pos e]
    rw [q] at h
    obtain ⟨p1, p2, p3, p4, p5, p6⟩ := gnand_op hg.2.2.1 h0 h1 y0 y1
    exact sx_nand hg (by omega) h0 h1 y0 y1 (fun τ ht he => sx_inv ht (by omega) p4 p5 (fun υ hu he2 => h υ hu (he.trans he2)))
  · have q : ggate L x y one = gnand (ginv L y).1 x (ginv L y).2 := by unfold ggate; rw [if_neg e]
    rw [q] at h
    obtain ⟨p1, p2, p3, p4, p5, p6⟩ := ginv_op hg.2.2.1 y0 y1
    have pl := p2.length_le
    exact ⟨hg.vn (Or.inr ⟨h0, h1⟩), sx_inv hg (by omega) y0 y1 (fun τ ht he => sx_nand ht (by omega) h0 (by omega) p4 p5 (fun υ hu he2 => h υ hu (he.trans he2)))⟩
