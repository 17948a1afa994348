/-! the model's nodes as a list -/
def mG (σ : zS) (L : Gr) : Prop := σ 113 0 = L.length ∧ gok L ∧ ∀ (i : Nat) (k x y : Int), L[i]? = some (k, x, y) → σ 114 i = k ∧ σ 115 i = x ∧ σ 116 i = y
/-- nodes come, nothing else changes -/
def mE (σ τ : zS) : Prop := zsm [113, 114, 115, 116, 117] σ τ ∧ σ 113 0 ≤ τ 113 0 ∧ ∀ i : Int, i < σ 113 0 → τ 117 i = σ 117 i
theorem mE.rf {σ : zS} : mE σ σ := ⟨zsm.rf, Int.le_refl _, fun _ _ => rfl⟩
theorem mE.trans {σ τ υ : zS} (h : mE σ τ) (h2 : mE τ υ) : mE σ υ := ⟨h.1.trans h2.1, Int.le_trans h.2.1 h2.2.1, fun i hi => (h2.2.2 i (by have := h.2.1; omega)).trans (h.2.2 i hi)⟩
/-- one node more -/
def mnode (σ : zS) (k x y net : Int) : zS := zup (zup (zup (zup (zup σ 114 (σ 113 0) k) 115 (σ 113 0) x) 116 (σ 113 0) y) 117 (σ 113 0) net) 113 0 (σ 113 0 + 1)
theorem sm_newNode {σ : zS} {Q : Int → zS → Prop} {k x y net : Int} (h0 : 0 ≤ σ 113 0) (h1 : σ 113 0 < 48) (h : Q (σ 113 0) (mnode σ k x y net)) : wp_MM_newNode Q k x y net σ := by
  unfold wp_MM_newNode
  refine ⟨h0, h1, ?_⟩
  rintro _ rfl
  rw [zup_ne σ _ _ 0 (by decide)]
  refine ⟨h0, h1, ?_⟩
  rintro _ rfl
  rw [zup_ne _ _ _ 0 (by decide), zup_ne _ _ _ 0 (by decide)]
  refine ⟨h0, h1, ?_⟩
  rintro _ rfl
  rw [zup_ne _ _ _ 0 (by decide), zup_ne _ _ _ 0 (by decide), zup_ne _ _ _ 0 (by decide)]
  refine ⟨h0, h1, ?_⟩
  rintro _ rfl
  rw [zup_ne _ _ _ 0 (by decide), zup_ne _ _ _ 0 (by decide), zup_ne _ _ _ 0 (by decide), zup_ne _ _ _ 0 (by decide)]
  rintro _ rfl
  rw [zup_at, show σ 113 0 + 1 - 1 = σ 113 0 by omega]
  exact h
theorem mnode_G {σ : zS} {L : Gr} {k x y net : Int} (hg : mG σ L) (ho : gok (L ++ [(k, x, y)])) : mG (mnode σ k x y net) (L ++ [(k, x, y)]) := by
  obtain ⟨h0, h1, h2⟩ := hg
  refine ⟨by simp [mnode, zup, h0], ho, fun i k' x' y' hi => ?_⟩
  by_cases hl : i < L.length
  · rw [List.getElem?_append_left hl] at hi
    obtain ⟨a, b, c⟩ := h2 i k' x' y' hi
    have : (i : Int) ≠ σ 113 0 := by omega
    simp [mnode, zup, this, a, b, c]
  · have hl2 := (List.getElem?_eq_some_iff.mp hi).1
    simp at hl2
    have : i = L.length := by omega
    subst this
    simp at hi
    obtain ⟨rfl, rfl, rfl⟩ := hi
    simp [mnode, zup, h0]
theorem mnode_E {σ : zS} {k x y net : Int} : mE σ (mnode σ k x y net) := by
  refine ⟨?_, by simp [mnode, zup]; omega, fun i hi => ?_⟩
  · unfold mnode
    exact ((((zsm_up (by decide)).up (by decide)).up (by decide)).up (by decide)).up (by decide)
  · have : i ≠ σ 113 0 := by omega
    simp [mnode, zup, this]
def gnew (L : Gr) (k x y : Int) : Prop := (k = 2 ∧ 0 ≤ x ∧ x < y ∧ y < L.length) ∨ (k = 3 ∧ 0 ≤ x ∧ x < L.length ∧ y = -1)
theorem gnew.ok {L : Gr} {k x y : Int} (h : gok L) (hn : gnew L k x y) : gok (L ++ [(k, x, y)]) := by
  intro i k' x' y' hi
  by_cases hl : i < L.length
  · rw [List.getElem?_append_left hl] at hi
    exact h i k' x' y' hi
  · have hl2 := (List.getElem?_eq_some_iff.mp hi).1
    simp at hl2
    have : i = L.length := by omega
    subst this
    simp at hi
    obtain ⟨rfl, rfl, rfl⟩ := hi
    rcases hn with hn | hn
    · exact Or.inr (Or.inl hn)
    · exact Or.inr (Or.inr hn)
theorem gok.rng {L : Gr} (h : gok L) {i : Nat} {k x y : Int} (hi : L[i]? = some (k, x, y)) : 0 ≤ k ∧ k < 4 ∧ -1 ≤ x ∧ x < i ∧ -1 ≤ y ∧ y < i := by
  have hl := (List.getElem?_eq_some_iff.mp hi).1
  have := h i k x y hi
  omega
theorem sm_find {σ : zS} {L : Gr} {Q : Int → zS → Prop} {k x y : Int} (hg : mG σ L) (hl : L.length < 48) (hn : gnew L k x y) (h : ∀ τ, mG τ (gfind L k x y).1 → mE σ τ → Q (gfind L k x y).2 τ) : wp_MM_find Q k x y σ := by
  obtain ⟨h0, h1, h2⟩ := hg
  have hr : 0 ≤ k ∧ k < 4 ∧ -1 ≤ x ∧ x < 48 ∧ -1 ≤ y ∧ y < 48 := by unfold gnew at hn; omega
  have loop : ∀ (n v : Nat), v + n = L.length → (∀ j : Nat, j < v → L[j]? ≠ some (k, x, y)) → lp_MM_find_3 Q (n + 1) k x y v σ := by
    intro n
    induction n with
    | zero =>
      intro v hv hno
      have hi : gidx (k, x, y) L = none := gidx_none _ _ (fun j hj => by
        have := (List.getElem?_eq_some_iff.mp hj).1
        exact hno j (by omega) hj)
      have e : gfind L k x y = (L ++ [(k, x, y)], (L.length : Int)) := by unfold gfind; rw [hi]
      rw [e] at h
      unfold lp_MM_find_3
      refine ⟨by omega, by omega, fun _ => sm_newNode (by omega) (by omega) ?_, fun q => absurd q (by omega)⟩
      rw [h0]
      exact h _ (mnode_G ⟨h0, h1, h2⟩ (hn.ok h1)) mnode_E
    | succ n ih =>
      intro v hv hno
      have hlt : v < L.length := by omega
      obtain ⟨⟨k', x', y'⟩, hb⟩ : ∃ b, L[v]? = some b := ⟨_, List.getElem?_eq_getElem hlt⟩
      obtain ⟨a, b, c⟩ := h2 v k' x' y' hb
      have hrr := h1.rng hb
      have next : (k', x', y') ≠ (k, x, y) → lp_MM_find_3 Q (n + 1) k x y ((v : Int) + 1) σ := fun hne => by
        have := ih (v + 1) (by omega) (fun j hj => by
          by_cases e : j = v
          · subst e
            rw [hb]
            exact fun q => hne (Option.some.inj q)
          · exact hno j (by omega))
        exact this
      unfold lp_MM_find_3
      rw [a, b, c]
      refine ⟨by omega, by omega, fun q => absurd q (by omega), fun _ => ⟨by omega, by omega, by omega, by omega, fun e1 => ⟨by omega, by omega, fun e2 => ⟨by omega, by omega, fun e3 => ?_, fun e3 => next (fun q => e3 ?_)⟩, fun e2 => next (fun q => e2 ?_)⟩, fun e1 => next (fun q => e1 ?_)⟩⟩
      · subst e1 e2 e3
        have hi := gidx_some _ L v hno hb
        have e : gfind L k' x' y' = (L, (v : Int)) := by unfold gfind; rw [hi]
        rw [e] at h
        exact h σ ⟨h0, h1, h2⟩ mE.rf
      · cases q; rfl
      · cases q; rfl
      · cases q; rfl
  exact ⟨L.length + 1, loop L.length 0 (by omega) (fun j hj => absurd hj (by omega))⟩
theorem mG.at {σ : zS} {L : Gr} (hg : mG σ L) {x : Int} (h0 : 0 ≤ x) (h1 : x < L.length) : σ 114 x = gK L x ∧ σ 115 x = gX L x ∧ 0 ≤ gK L x ∧ gK L x < 4 := by
  obtain ⟨k, y, z, hq, e1, e2⟩ := gr_at h0 h1
  have := hg.2.2 _ _ _ _ hq
  have e : ((x.toNat : Nat) : Int) = x := by omega
  rw [e] at this
  have hr := hg.2.1.rng hq
  rw [e1, e2]
  exact ⟨this.1, this.2.1, hr.1, hr.2.1⟩
theorem sm_inv {σ : zS} {L : Gr} {Q : Int → zS → Prop} {x : Int} (hg : mG σ L) (hl : L.length < 48) (h0 : 0 ≤ x) (h1 : x < L.length) (h : ∀ τ, mG τ (ginv L x).1 → mE σ τ → Q (ginv L x).2 τ) : wp_MM_inv Q x σ := by
  unfold wp_MM_inv
  obtain ⟨e1, e2, e3, e4⟩ := hg.at h0 h1
  rw [e1, e2]
  refine ⟨h0, by omega, by omega, fun hk => ?_, fun hk => ?_⟩
  · have e : ginv L x = (L, gX L x) := by unfold ginv; rw [if_pos hk]
    rw [e] at h
    exact h σ hg mE.rf
  · have e : ginv L x = gfind L 3 x (-1) := by unfold ginv; rw [if_neg hk]
    rw [e] at h
    exact sm_find hg hl (Or.inr ⟨rfl, h0, h1, rfl⟩) h
theorem sm_nand {σ : zS} {L : Gr} {Q : Int → zS → Prop} {x y : Int} (hg : mG σ L) (hl : L.length < 48) (h0 : 0 ≤ x) (h1 : x < L.length) (y0 : 0 ≤ y) (y1 : y < L.length) (h : ∀ τ, mG τ (gnand L x y).1 → mE σ τ → Q (gnand L x y).2 τ) : wp_MM_nand Q x y σ := by
  unfold wp_MM_nand
  refine ⟨by omega, by omega, fun e => ?_, fun e => ⟨fun e2 => ?_, fun e2 => ?_⟩⟩
  · have q : gnand L x y = ginv L x := by unfold gnand; rw [if_pos e]
    rw [q] at h
    exact sm_inv hg hl h0 h1 h
  · have q : gnand L x y = gfind L 2 y x := by unfold gnand; rw [if_neg e, if_pos e2]
    rw [q] at h
    exact sm_find hg hl (Or.inl ⟨rfl, y0, by omega, h1⟩) h
  · have q : gnand L x y = gfind L 2 x y := by unfold gnand; rw [if_neg e, if_neg e2]
    rw [q] at h
    exact sm_find hg hl (Or.inl ⟨rfl, h0, by omega, y1⟩) h
theorem sm_gate {σ : zS} {L : Gr} {Q B : Int → zS → Prop} {x h1 one : Int} (hg : mG σ L) (hl : L.length + 2 ≤ 48) (x0 : 0 ≤ x) (x1 : x < L.length) (y0 : 0 ≤ h1) (y1 : h1 < L.length) (h : ∀ τ, mG τ (ggate L x h1 one).1 → mE σ τ → Q (ggate L x h1 one).2 τ) (hB0 : one = 0 → ∀ r σ', wp_MM_inv Q r σ' → B r σ') (hB1 : ¬ one = 0 → ∀ r σ', wp_MM_nand Q x r σ' → B r σ') : (one = 0 → wp_MM_nand B x h1 σ) ∧ (¬ one = 0 → wp_MM_inv B h1 σ) := by
  refine ⟨fun e => ?_, fun e => ?_⟩
  · have q : ggate L x h1 one = ginv (gnand L x h1).1 (gnand L x h1).2 := by unfold ggate; rw [if_pos e]
    rw [q] at h
    obtain ⟨p1, p2, p3, p4, p5, p6⟩ := gnand_op hg.2.1 x0 x1 y0 y1
    exact sm_nand hg (by omega) x0 x1 y0 y1 (fun τ ht he => hB0 e _ _ (sm_inv ht (by omega) p4 p5 (fun υ hu he2 => h υ hu (he.trans he2))))
  · have q : ggate L x h1 one = gnand (ginv L h1).1 x (ginv L h1).2 := by unfold ggate; rw [if_neg e]
    rw [q] at h
    obtain ⟨p1, p2, p3, p4, p5, p6⟩ := ginv_op hg.2.1 y0 y1
    have pl := p2.length_le
    exact sm_inv hg (by omega) y0 y1 (fun τ ht he => hB1 e _ _ (sm_nand ht (by omega) x0 (by omega) p4 p5 (fun υ hu he2 => h υ hu (he.trans he2))))
theorem sm_join {σ : zS} {L : Gr} {Q : Int → zS → Prop} {z low l high hi : Int} (hg : mG σ L) (hlen : L.length + 4 ≤ 48) (h0 : 0 ≤ z) (h1 : z < L.length) (hl : low = 0 ∨ low = 1 ∨ (low = 2 ∧ 0 ≤ l ∧ l < L.length)) (hh : high = 0 ∨ high = 1 ∨ (high = 2 ∧ 0 ≤ hi ∧ hi < L.length)) (h : ∀ τ, mG τ (gjoin L z low l high hi).1 → mE σ τ → Q (gjoin L z low l high hi).2 τ) : wp_MM_join Q z low l high hi σ := by
  have A : ¬ (low < 2 ∧ high < 2) → bk_MM_join_25 Q z low l high hi σ := fun hn => by
    unfold bk_MM_join_25
    refine ⟨by omega, fun h2 => ?_, fun h2 => ?_⟩
    · have hl2 : low = 2 ∧ 0 ≤ l ∧ l < L.length := by omega
      refine ⟨by omega, fun h3 => ?_, fun h3 => ?_⟩
      · have hh2 : high = 2 ∧ 0 ≤ hi ∧ hi < L.length := by omega
        have e : gjoin L z low l high hi = gnand (gnand (ginv (gnand L z hi).1 z).1 (ginv (gnand L z hi).1 z).2 l).1 (gnand L z hi).2 (gnand (ginv (gnand L z hi).1 z).1 (ginv (gnand L z hi).1 z).2 l).2 := by
          unfold gjoin
          rw [if_neg hn, if_neg (by omega), if_pos h3]
        rw [e] at h
        obtain ⟨p1, p2, p3, p4, p5, p6⟩ := gnand_op hg.2.1 h0 h1 hh2.2.1 hh2.2.2
        have pl := p2.length_le
        obtain ⟨q1, q2, q3, q4, q5, q6⟩ := ginv_op (x := z) p1 h0 (by omega)
        have ql := q2.length_le
        obtain ⟨r1, r2, r3, r4, r5, r6⟩ := gnand_op (y := l) q1 q4 q5 hl2.2.1 (by omega)
        have rl := r2.length_le
        refine sm_nand hg (by omega) h0 h1 hh2.2.1 hh2.2.2 (fun τ ht he => ?_)
        refine sm_inv ht (by omega) h0 (by omega) (fun τ2 ht2 he2 => ?_)
        refine sm_nand ht2 (by omega) q4 q5 hl2.2.1 (by omega) (fun τ3 ht3 he3 => ?_)
        exact sm_nand ht3 (by omega) p4 (by omega) r4 r5 (fun τ4 ht4 he4 => h τ4 ht4 (he.trans (he2.trans (he3.trans he4))))
      · have e : gjoin L z low l high hi = ggate (ginv L z).1 (ginv L z).2 l high := by
          unfold gjoin
          rw [if_neg hn, if_neg (by omega), if_neg h3]
        rw [e] at h
        obtain ⟨q1, q2, q3, q4, q5, q6⟩ := ginv_op (x := z) hg.2.1 h0 h1
        have ql := q2.length_le
        refine sm_inv hg (by omega) h0 h1 (fun τ ht he => ?_)
        exact sm_gate (Q := Q) (one := high) ht (by omega) q4 q5 hl2.2.1 (by omega) (fun υ hu he2 => h υ hu (he.trans he2)) (fun e r σ' hq => ⟨by omega, fun _ => hq, fun q => absurd e q⟩) (fun e r σ' hq => ⟨by omega, fun q => absurd q e, fun _ => hq⟩)
    · have hh2 : high = 2 ∧ 0 ≤ hi ∧ hi < L.length := by omega
      have e : gjoin L z low l high hi = ggate L z hi low := by
        unfold gjoin
        rw [if_neg hn, if_pos (by omega)]
      rw [e] at h
      exact sm_gate (Q := Q) (one := low) hg (by omega) h0 h1 hh2.2.1 hh2.2.2 h (fun e r σ' hq => ⟨by omega, fun _ => hq, fun q => absurd e q⟩) (fun e r σ' hq => ⟨by omega, fun q => absurd q e, fun _ => hq⟩)
  unfold wp_MM_join
  refine ⟨by omega, fun q => A (by omega), fun q => ⟨by omega, fun q2 => A (by omega), fun q2 => ⟨fun e => ?_, fun e => ?_⟩⟩⟩
  · have e2 : gjoin L z low l high hi = (L, z) := by
      unfold gjoin
      rw [if_pos (by omega), if_pos e]
    rw [e2] at h
    exact h σ hg mE.rf
  · have e2 : gjoin L z low l high hi = ginv L z := by
      unfold gjoin
      rw [if_pos (by omega), if_neg e]
    rw [e2] at h
    exact sm_inv hg (by omega) h0 h1 h
/-- small numbers' bits -/
theorem z_and {d : Int} {k : Nat} {m : Int} (h0 : 0 ≤ d) (h1 : d < 2147483648) (hk : k < 32) (hm : (zi m).toBitVec.toNat = 2 ^ k - 1) : zand d m = d % 2 ^ k := by
  have h := Jvm.Kit.i32_mask (k := k) (zi d) (zi m) hk hm
  have e : (zi d).toInt = d := zi_toInt (by omega)
  rw [e] at h
  exact h
theorem z_and1 {d : Int} (h0 : 0 ≤ d) (h1 : d < 2147483648) : zand d 1 = d % 2 := z_and (k := 1) h0 h1 (by decide) (by decide)
theorem z_and15 {d : Int} (h0 : 0 ≤ d) (h1 : d < 2147483648) : zand d 15 = d % 16 := z_and (k := 4) h0 h1 (by decide) (by decide)
