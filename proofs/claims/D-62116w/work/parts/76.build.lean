/-! CellMapper.build (printed by gen/sbuild.py) -/
theorem gjoin_l {L : Gr} {z low l l' high h h' : Int} (hl : low < 2 ∨ l = l') (hh : high < 2 ∨ h = h') (h2 : low ≤ 2 ∧ high ≤ 2) : gjoin L z low l high h = gjoin L z low l' high h' := by
  unfold gjoin
  by_cases a : low < 2
  · by_cases b : high < 2
    · have n1 : low < 2 ∧ high < 2 := ⟨a, b⟩
      simp only [if_pos n1]
    · have n1 : ¬ (low < 2 ∧ high < 2) := by omega
      have e : h = h' := by omega
      simp only [if_neg n1, if_pos a, e]
  · by_cases b : high < 2
    · have n1 : ¬ (low < 2 ∧ high < 2) := by omega
      have n2 : ¬ high = 2 := by omega
      have e : l = l' := by omega
      simp only [if_neg n1, if_neg a, if_neg n2, e]
    · have e : l = l' := by omega
      have e2 : h = h' := by omega
      rw [e, e2]
theorem sx_j1 {σ : zS} {L : Gr} {Q : Int → zS → Prop} {z lo hi l h fl fh : Int} (hg : xG σ L) (hlen : L.length + 5 < 60) (z0 : 0 ≤ z) (z1 : z < L.length) (c1 : zc lo) (c2 : zc hi) (hl : (l = -1 ∧ ((lo = 0 ∧ fl = 0) ∨ (lo ≠ 0 ∧ fl = 1))) ∨ (fl = 2 ∧ 0 ≤ l ∧ l < L.length)) (hh : (h = -1 ∧ ((hi = 0 ∧ fh = 0) ∨ (hi ≠ 0 ∧ fh = 1))) ∨ (fh = 2 ∧ 0 ≤ h ∧ h < L.length)) (k : ∀ τ, xG τ (gjoin L z fl l fh h).1 → xE σ τ → Q (gjoin L z fl l fh h).2 τ) : bk_CX_build1_147 Q z lo hi l h σ := by
  have go := hg.2.2.1
  have A : ¬ (fl < 2 ∧ fh < 2) → bk_CX_build1_176 Q z lo hi l h σ := fun hn => by
    unfold bk_CX_build1_176
    refine ⟨fun e => ?_, fun e => ⟨fun e2 => ?_, fun e2 => ?_⟩⟩
    · have q : gjoin L z fl l fh h = ggate L z h fl := by unfold gjoin; rw [if_neg hn, if_pos (by omega)]
      rw [q] at k
      refine ⟨c1, fun e3 => ?_, fun e3 => ?_⟩
      · rw [show fl = 0 by omega] at k
        exact sx_gated hg (by omega) z0 z1 (by omega) (by omega) (by omega) k
      · rw [show fl = 1 by omega] at k
        exact sx_gated hg (by omega) z0 z1 (by omega) (by omega) (by omega) k
    · have q : gjoin L z fl l fh h = ggate (ginv L z).1 (ginv L z).2 l fh := by unfold gjoin; rw [if_neg hn, if_neg (by omega), if_neg (by omega)]
      rw [q] at k
      obtain ⟨p1, p2, p3, p4, p5, p6⟩ := ginv_op go z0 z1
      have pl := p2.length_le
      refine ⟨hg.vn (by omega), sx_inv hg (by omega) z0 z1 (fun τ ht he => ⟨c2, fun e3 => ?_, fun e3 => ?_⟩)⟩
      · rw [show fh = 0 by omega] at k
        exact sx_gated ht (by omega) p4 p5 (by omega) (by omega) (by omega) (fun υ hu he2 => k υ hu (he.trans he2))
      · rw [show fh = 1 by omega] at k
        exact sx_gated ht (by omega) p4 p5 (by omega) (by omega) (by omega) (fun υ hu he2 => k υ hu (he.trans he2))
    · have q : gjoin L z fl l fh h = gnand (gnand (ginv (gnand L z h).1 z).1 (ginv (gnand L z h).1 z).2 l).1 (gnand L z h).2 (gnand (ginv (gnand L z h).1 z).1 (ginv (gnand L z h).1 z).2 l).2 := by
        unfold gjoin
        rw [if_neg hn, if_neg (by omega), if_pos (by omega)]
      rw [q] at k
      obtain ⟨p1, p2, p3, p4, p5, p6⟩ := gnand_op (y := h) go z0 z1 (by omega) (by omega)
      have pl := p2.length_le
      obtain ⟨q1, q2, q3, q4, q5, q6⟩ := ginv_op (x := z) p1 z0 (by omega)
      have ql := q2.length_le
      obtain ⟨r1, r2, r3, r4, r5, r6⟩ := gnand_op (y := l) q1 q4 q5 (by omega) (by omega)
      have rl := r2.length_le
      refine ⟨hg.vn (by omega), hg.vn (by omega), sx_nand hg (by omega) z0 z1 (by omega) (by omega) (fun τ ht he => ?_)⟩
      refine ⟨ht.vn (Or.inr ⟨p4, p5⟩), ht.vn (by omega), sx_inv ht (by omega) z0 (by omega) (fun τ2 ht2 he2 => ?_)⟩
      refine ⟨ht2.vn (Or.inr ⟨p4, by omega⟩), sx_nand ht2 (by omega) q4 q5 (by omega) (by omega) (fun τ3 ht3 he3 => ?_)⟩
      exact sx_nand ht3 (by omega) p4 (by omega) r4 r5 (fun τ4 ht4 he4 => k τ4 ht4 (he.trans (he2.trans (he3.trans he4))))
  unfold bk_CX_build1_147
  refine ⟨fun e => ⟨fun e2 => ⟨c1, fun e3 => ?_, fun e3 => ?_⟩, fun e2 => A (by omega)⟩, fun e => A (by omega)⟩
  · have q : gjoin L z fl l fh h = (L, z) := by unfold gjoin; rw [if_pos (by omega), if_pos (by omega)]
    rw [q] at k
    exact k σ hg xE.rf
  · have q : gjoin L z fl l fh h = ginv L z := by unfold gjoin; rw [if_pos (by omega), if_neg (by omega)]
    rw [q] at k
    exact sx_inv hg (by omega) z0 z1 k
theorem sx_b1_1 {σ : zS} {L : Gr} {Q : Int → zS → Prop} {t a b c : Int} (hg : xG σ L) (hlen : L.length + 5 < 60) (a0 : 0 ≤ a) (a1 : a < L.length) (ht : t = 1 ∨ t = 2) (k : ∀ τ, xG τ (gov1 L a t).1 → xE σ τ → Q (gov1 L a t).2 τ) : wp_CX_build1 Q t a b c 1 σ := by
  unfold wp_CX_build1
  refine ⟨by omega, fun _ => ⟨fun q => absurd q (by decide), fun _ => ⟨fun q => absurd q (by decide), fun _ => ?_⟩⟩, fun q => absurd q (by decide)⟩
  unfold bk_CX_build1_30
  have e1 : zshl 1 (1 - 1) = 1 := by decide
  rw [e1]
  rintro _ rfl
  have e2 : zshl 1 1 - 1 = 1 := by decide
  rw [e2]
  rintro _ rfl
  rintro y4 h4 y5 h5
  unfold gov1 at k
  rcases ht with rfl | rfl
  · have e4 : y4 = 1 := by rw [h4]; decide
    have e5 : y5 = 0 := by rw [h5]; decide
    subst e4 e5
    refine ⟨fun q => absurd q (by decide), fun _ => ⟨fun q => absurd q (by decide), fun _ => ⟨by omega, fun _ => ?_, fun q => absurd rfl q⟩⟩⟩
    refine ⟨by omega, fun _ => ?_, fun q => absurd rfl q⟩
    refine sx_j1 (fl := 1) (fh := 0) hg hlen a0 a1 (by omega) (by omega) (by omega) (by omega) ?_
    rw [gjoin_l (l' := 0) (h' := 0) (by omega) (by omega) (by omega)]
    exact k
  · have e4 : y4 = 0 := by rw [h4]; decide
    have e5 : y5 = 1 := by rw [h5]; decide
    subst e4 e5
    refine ⟨fun q => absurd q (by decide), fun _ => ⟨fun _ => ?_, fun q => absurd rfl q⟩⟩
    refine ⟨by omega, fun q => absurd q (by decide), fun _ => ⟨by omega, fun _ => ?_, fun q => absurd rfl q⟩⟩
    refine sx_j1 (fl := 0) (fh := 1) hg hlen a0 a1 (by omega) (by omega) (by omega) (by omega) ?_
    rw [gjoin_l (l' := 0) (h' := 0) (by omega) (by omega) (by omega)]
    exact k
theorem sx_j2 {σ : zS} {L : Gr} {Q : Int → zS → Prop} {z lo hi l h fl fh : Int} (hg : xG σ L) (hlen : L.length + 5 < 60) (z0 : 0 ≤ z) (z1 : z < L.length) (c1 : zc lo) (c2 : zc hi) (hl : (l = -1 ∧ ((lo = 0 ∧ fl = 0) ∨ (lo ≠ 0 ∧ fl = 1))) ∨ (fl = 2 ∧ 0 ≤ l ∧ l < L.length)) (hh : (h = -1 ∧ ((hi = 0 ∧ fh = 0) ∨ (hi ≠ 0 ∧ fh = 1))) ∨ (fh = 2 ∧ 0 ≤ h ∧ h < L.length)) (k : ∀ τ, xG τ (gjoin L z fl l fh h).1 → xE σ τ → Q (gjoin L z fl l fh h).2 τ) : bk_CX_build2_147 Q z lo hi l h σ := by
  have go := hg.2.2.1
  have A : ¬ (fl < 2 ∧ fh < 2) → bk_CX_build2_176 Q z lo hi l h σ := fun hn => by
    unfold bk_CX_build2_176
    refine ⟨fun e => ?_, fun e => ⟨fun e2 => ?_, fun e2 => ?_⟩⟩
    · have q : gjoin L z fl l fh h = ggate L z h fl := by unfold gjoin; rw [if_neg hn, if_pos (by omega)]
      rw [q] at k
      refine ⟨c1, fun e3 => ?_, fun e3 => ?_⟩
      · rw [show fl = 0 by omega] at k
        exact sx_gated hg (by omega) z0 z1 (by omega) (by omega) (by omega) k
      · rw [show fl = 1 by omega] at k
        exact sx_gated hg (by omega) z0 z1 (by omega) (by omega) (by omega) k
    · have q : gjoin L z fl l fh h = ggate (ginv L z).1 (ginv L z).2 l fh := by unfold gjoin; rw [if_neg hn, if_neg (by omega), if_neg (by omega)]
      rw [q] at k
      obtain ⟨p1, p2, p3, p4, p5, p6⟩ := ginv_op go z0 z1
      have pl := p2.length_le
      refine ⟨hg.vn (by omega), sx_inv hg (by omega) z0 z1 (fun τ ht he => ⟨c2, fun e3 => ?_, fun e3 => ?_⟩)⟩
      · rw [show fh = 0 by omega] at k
        exact sx_gated ht (by omega) p4 p5 (by omega) (by omega) (by omega) (fun υ hu he2 => k υ hu (he.trans he2))
      · rw [show fh = 1 by omega] at k
        exact sx_gated ht (by omega) p4 p5 (by omega) (by omega) (by omega) (fun υ hu he2 => k υ hu (he.trans he2))
    · have q : gjoin L z fl l fh h = gnand (gnand (ginv (gnand L z h).1 z).1 (ginv (gnand L z h).1 z).2 l).1 (gnand L z h).2 (gnand (ginv (gnand L z h).1 z).1 (ginv (gnand L z h).1 z).2 l).2 := by
        unfold gjoin
        rw [if_neg hn, if_neg (by omega), if_pos (by omega)]
      rw [q] at k
      obtain ⟨p1, p2, p3, p4, p5, p6⟩ := gnand_op (y := h) go z0 z1 (by omega) (by omega)
      have pl := p2.length_le
      obtain ⟨q1, q2, q3, q4, q5, q6⟩ := ginv_op (x := z) p1 z0 (by omega)
      have ql := q2.length_le
      obtain ⟨r1, r2, r3, r4, r5, r6⟩ := gnand_op (y := l) q1 q4 q5 (by omega) (by omega)
      have rl := r2.length_le
      refine ⟨hg.vn (by omega), hg.vn (by omega), sx_nand hg (by omega) z0 z1 (by omega) (by omega) (fun τ ht he => ?_)⟩
      refine ⟨ht.vn (Or.inr ⟨p4, p5⟩), ht.vn (by omega), sx_inv ht (by omega) z0 (by omega) (fun τ2 ht2 he2 => ?_)⟩
      refine ⟨ht2.vn (Or.inr ⟨p4, by omega⟩), sx_nand ht2 (by omega) q4 q5 (by omega) (by omega) (fun τ3 ht3 he3 => ?_)⟩
      exact sx_nand ht3 (by omega) p4 (by omega) r4 r5 (fun τ4 ht4 he4 => k τ4 ht4 (he.trans (he2.trans (he3.trans he4))))
  unfold bk_CX_build2_147
  refine ⟨fun e => ⟨fun e2 => ⟨c1, fun e3 => ?_, fun e3 => ?_⟩, fun e2 => A (by omega)⟩, fun e => A (by omega)⟩
  · have q : gjoin L z fl l fh h = (L, z) := by unfold gjoin; rw [if_pos (by omega), if_pos (by omega)]
    rw [q] at k
    exact k σ hg xE.rf
  · have q : gjoin L z fl l fh h = ginv L z := by unfold gjoin; rw [if_pos (by omega), if_neg (by omega)]
    rw [q] at k
    exact sx_inv hg (by omega) z0 z1 k
theorem sx_b2_1 {σ : zS} {L : Gr} {Q : Int → zS → Prop} {t a b c : Int} (hg : xG σ L) (hlen : L.length + 5 < 60) (a0 : 0 ≤ a) (a1 : a < L.length) (ht : t = 1 ∨ t = 2) (k : ∀ τ, xG τ (gov1 L a t).1 → xE σ τ → Q (gov1 L a t).2 τ) : wp_CX_build2 Q t a b c 1 σ := by
  unfold wp_CX_build2
  refine ⟨by omega, fun _ => ⟨fun q => absurd q (by decide), fun _ => ⟨fun q => absurd q (by decide), fun _ => ?_⟩⟩, fun q => absurd q (by decide)⟩
  unfold bk_CX_build2_30
  have e1 : zshl 1 (1 - 1) = 1 := by decide
  rw [e1]
  rintro _ rfl
  have e2 : zshl 1 1 - 1 = 1 := by decide
  rw [e2]
  rintro _ rfl
  rintro y4 h4 y5 h5
  unfold gov1 at k
  rcases ht with rfl | rfl
  · have e4 : y4 = 1 := by rw [h4]; decide
    have e5 : y5 = 0 := by rw [h5]; decide
    subst e4 e5
    refine ⟨fun q => absurd q (by decide), fun _ => ⟨fun q => absurd q (by decide), fun _ => ⟨by omega, fun _ => ?_, fun q => absurd rfl q⟩⟩⟩
    refine ⟨by omega, fun _ => ?_, fun q => absurd rfl q⟩
    refine sx_j2 (fl := 1) (fh := 0) hg hlen a0 a1 (by omega) (by omega) (by omega) (by omega) ?_
    rw [gjoin_l (l' := 0) (h' := 0) (by omega) (by omega) (by omega)]
    exact k
  · have e4 : y4 = 0 := by rw [h4]; decide
    have e5 : y5 = 1 := by rw [h5]; decide
    subst e4 e5
    refine ⟨fun q => absurd q (by decide), fun _ => ⟨fun _ => ?_, fun q => absurd rfl q⟩⟩
    refine ⟨by omega, fun q => absurd q (by decide), fun _ => ⟨by omega, fun _ => ?_, fun q => absurd rfl q⟩⟩
    refine sx_j2 (fl := 0) (fh := 1) hg hlen a0 a1 (by omega) (by omega) (by omega) (by omega) ?_
    rw [gjoin_l (l' := 0) (h' := 0) (by omega) (by omega) (by omega)]
    exact k
theorem sx_j3 {σ : zS} {L : Gr} {Q : Int → zS → Prop} {z lo hi l h fl fh : Int} (hg : xG σ L) (hlen : L.length + 5 < 60) (z0 : 0 ≤ z) (z1 : z < L.length) (c1 : zc lo) (c2 : zc hi) (hl : (l = -1 ∧ ((lo = 0 ∧ fl = 0) ∨ (lo ≠ 0 ∧ fl = 1))) ∨ (fl = 2 ∧ 0 ≤ l ∧ l < L.length)) (hh : (h = -1 ∧ ((hi = 0 ∧ fh = 0) ∨ (hi ≠ 0 ∧ fh = 1))) ∨ (fh = 2 ∧ 0 ≤ h ∧ h < L.length)) (k : ∀ τ, xG τ (gjoin L z fl l fh h).1 → xE σ τ → Q (gjoin L z fl l fh h).2 τ) : bk_CX_build3_147 Q z lo hi l h σ := by
  have go := hg.2.2.1
  have A : ¬ (fl < 2 ∧ fh < 2) → bk_CX_build3_176 Q z lo hi l h σ := fun hn => by
    unfold bk_CX_build3_176
    refine ⟨fun e => ?_, fun e => ⟨fun e2 => ?_, fun e2 => ?_⟩⟩
    · have q : gjoin L z fl l fh h = ggate L z h fl := by unfold gjoin; rw [if_neg hn, if_pos (by omega)]
      rw [q] at k
      refine ⟨c1, fun e3 => ?_, fun e3 => ?_⟩
      · rw [show fl = 0 by omega] at k
        exact sx_gated hg (by omega) z0 z1 (by omega) (by omega) (by omega) k
      · rw [show fl = 1 by omega] at k
        exact sx_gated hg (by omega) z0 z1 (by omega) (by omega) (by omega) k
    · have q : gjoin L z fl l fh h = ggate (ginv L z).1 (ginv L z).2 l fh := by unfold gjoin; rw [if_neg hn, if_neg (by omega), if_neg (by omega)]
      rw [q] at k
      obtain ⟨p1, p2, p3, p4, p5, p6⟩ := ginv_op go z0 z1
      have pl := p2.length_le
      refine ⟨hg.vn (by omega), sx_inv hg (by omega) z0 z1 (fun τ ht he => ⟨c2, fun e3 => ?_, fun e3 => ?_⟩)⟩
      · rw [show fh = 0 by omega] at k
        exact sx_gated ht (by omega) p4 p5 (by omega) (by omega) (by omega) (fun υ hu he2 => k υ hu (he.trans he2))
      · rw [show fh = 1 by omega] at k
        exact sx_gated ht (by omega) p4 p5 (by omega) (by omega) (by omega) (fun υ hu he2 => k υ hu (he.trans he2))
    · have q : gjoin L z fl l fh h = gnand (gnand (ginv (gnand L z h).1 z).1 (ginv (gnand L z h).1 z).2 l).1 (gnand L z h).2 (gnand (ginv (gnand L z h).1 z).1 (ginv (gnand L z h).1 z).2 l).2 := by
        unfold gjoin
        rw [if_neg hn, if_neg (by omega), if_pos (by omega)]
      rw [q] at k
      obtain ⟨p1, p2, p3, p4, p5, p6⟩ := gnand_op (y := h) go z0 z1 (by omega) (by omega)
      have pl := p2.length_le
      obtain ⟨q1, q2, q3, q4, q5, q6⟩ := ginv_op (x := z) p1 z0 (by omega)
      have ql := q2.length_le
      obtain ⟨r1, r2, r3, r4, r5, r6⟩ := gnand_op (y := l) q1 q4 q5 (by omega) (by omega)
      have rl := r2.length_le
      refine ⟨hg.vn (by omega), hg.vn (by omega), sx_nand hg (by omega) z0 z1 (by omega) (by omega) (fun τ ht he => ?_)⟩
      refine ⟨ht.vn (Or.inr ⟨p4, p5⟩), ht.vn (by omega), sx_inv ht (by omega) z0 (by omega) (fun τ2 ht2 he2 => ?_)⟩
      refine ⟨ht2.vn (Or.inr ⟨p4, by omega⟩), sx_nand ht2 (by omega) q4 q5 (by omega) (by omega) (fun τ3 ht3 he3 => ?_)⟩
      exact sx_nand ht3 (by omega) p4 (by omega) r4 r5 (fun τ4 ht4 he4 => k τ4 ht4 (he.trans (he2.trans (he3.trans he4))))
  unfold bk_CX_build3_147
  refine ⟨fun e => ⟨fun e2 => ⟨c1, fun e3 => ?_, fun e3 => ?_⟩, fun e2 => A (by omega)⟩, fun e => A (by omega)⟩
  · have q : gjoin L z fl l fh h = (L, z) := by unfold gjoin; rw [if_pos (by omega), if_pos (by omega)]
    rw [q] at k
    exact k σ hg xE.rf
  · have q : gjoin L z fl l fh h = ginv L z := by unfold gjoin; rw [if_pos (by omega), if_neg (by omega)]
    rw [q] at k
    exact sx_inv hg (by omega) z0 z1 k
theorem sx_b3_1 {σ : zS} {L : Gr} {Q : Int → zS → Prop} {t a b c : Int} (hg : xG σ L) (hlen : L.length + 5 < 60) (a0 : 0 ≤ a) (a1 : a < L.length) (ht : t = 1 ∨ t = 2) (k : ∀ τ, xG τ (gov1 L a t).1 → xE σ τ → Q (gov1 L a t).2 τ) : wp_CX_build3 Q t a b c 1 σ := by
  unfold wp_CX_build3
  refine ⟨by omega, fun _ => ⟨fun q => absurd q (by decide), fun _ => ⟨fun q => absurd q (by decide), fun _ => ?_⟩⟩, fun q => absurd q (by decide)⟩
  unfold bk_CX_build3_30
  have e1 : zshl 1 (1 - 1) = 1 := by decide
  rw [e1]
  rintro _ rfl
  have e2 : zshl 1 1 - 1 = 1 := by decide
  rw [e2]
  rintro _ rfl
  rintro y4 h4 y5 h5
  unfold gov1 at k
  rcases ht with rfl | rfl
  · have e4 : y4 = 1 := by rw [h4]; decide
    have e5 : y5 = 0 := by rw [h5]; decide
    subst e4 e5
    refine ⟨fun q => absurd q (by decide), fun _ => ⟨fun q => absurd q (by decide), fun _ => ⟨by omega, fun _ => ?_, fun q => absurd rfl q⟩⟩⟩
    refine ⟨by omega, fun _ => ?_, fun q => absurd rfl q⟩
    refine sx_j3 (fl := 1) (fh := 0) hg hlen a0 a1 (by omega) (by omega) (by omega) (by omega) ?_
    rw [gjoin_l (l' := 0) (h' := 0) (by omega) (by omega) (by omega)]
    exact k
  · have e4 : y4 = 0 := by rw [h4]; decide
    have e5 : y5 = 1 := by rw [h5]; decide
    subst e4 e5
    refine ⟨fun q => absurd q (by decide), fun _ => ⟨fun _ => ?_, fun q => absurd rfl q⟩⟩
    refine ⟨by omega, fun q => absurd q (by decide), fun _ => ⟨by omega, fun _ => ?_, fun q => absurd rfl q⟩⟩
    refine sx_j3 (fl := 0) (fh := 1) hg hlen a0 a1 (by omega) (by omega) (by omega) (by omega) ?_
    rw [gjoin_l (l' := 0) (h' := 0) (by omega) (by omega) (by omega)]
    exact k
theorem sx_b2_2 {σ : zS} {L : Gr} {Q : Int → zS → Prop} {t a b c : Int} (hg : xG σ L) (hlen : L.length + 10 < 60) (a0 : 0 ≤ a) (a1 : a < L.length) (b0 : 0 ≤ b) (b1 : b < L.length) (hc : c = -1 ∨ (0 ≤ c ∧ c < L.length)) (t0 : 0 < t) (t1 : t < 15) (k : ∀ τ, xG τ (gov2 L a b t).1 → xE σ τ → Q (gov2 L a b t).2 τ) : wp_CX_build2 Q t a b c 2 σ := by
  have go := hg.2.2.1
  unfold wp_CX_build2
  refine ⟨by omega, fun _ => ⟨fun q => absurd q (by decide), fun _ => ⟨fun _ => ?_, fun q => absurd rfl q⟩⟩, fun q => absurd q (by decide)⟩
  unfold bk_CX_build2_30
  have e1 : zshl 1 (2 - 1) = 2 := by decide
  rw [e1]
  rintro _ rfl
  have e2 : zshl 1 2 - 1 = 3 := by decide
  rw [e2]
  rintro _ rfl
  have e4 : zand t 3 = t % 4 := z_m3 (by omega)
  have e5 : zand (zshr t 2) 3 = t / 4 := by
    rw [z_m3 (zc_shr _ _), show zshr t 2 = t / 4 from b_shr (k := 2) (by omega) (by decide)]
    omega
  rw [e4, e5]
  rintro _ rfl _ rfl
  unfold gov2 at k
  refine ⟨fun e => ?_, fun e => ?_⟩
  · simp only [if_pos e] at k
    exact sx_b1_1 hg (by omega) a0 a1 (by omega) k
  · simp only [if_neg e] at k
    have P := ghalf_op (t := t % 4) (o := 3) go (fun q1 q2 => gov1_op (t := t % 4) go a0 a1 (by omega))
    dsimp only at P
    have last : ∀ (l : Gr × Int) (v : Int) (τ : zS), (gfl (t % 4) 3 = 2 → v = l.2) → (¬ gfl (t % 4) 3 = 2 → v = -1) → xG τ l.1 → xE σ τ → L <+: l.1 → l.1.length ≤ L.length + 1 → (gfl (t % 4) 3 = 2 → 0 ≤ l.2 ∧ l.2 < l.1.length) → (∀ υ, xG υ (gjoin (if gfl (t / 4) 3 = 2 then gov1 l.1 a (t / 4) else (l.1, 0)).1 b (gfl (t % 4) 3) l.2 (gfl (t / 4) 3) (if gfl (t / 4) 3 = 2 then gov1 l.1 a (t / 4) else (l.1, 0)).2).1 → xE σ υ → Q (gjoin (if gfl (t / 4) 3 = 2 then gov1 l.1 a (t / 4) else (l.1, 0)).1 b (gfl (t % 4) 3) l.2 (gfl (t / 4) 3) (if gfl (t / 4) 3 = 2 then gov1 l.1 a (t / 4) else (l.1, 0)).2).2 υ) → bk_CX_build2_115 Q a b c 2 b 3 (t % 4) (t / 4) v τ := by
      intro l v τ hv2 hv1 hτ he hp hlen2 hrng hQ
      have pl := hp.length_le
      have R := ghalf_op (t := t / 4) (o := 3) hτ.2.2.1 (fun q1 q2 => gov1_op (t := t / 4) hτ.2.2.1 a0 (by omega) (by omega))
      dsimp only at R
      have fin : ∀ (h' : Gr × Int) (w : Int) (υ : zS), (gfl (t / 4) 3 = 2 → w = h'.2) → (¬ gfl (t / 4) 3 = 2 → w = -1) → xG υ h'.1 → xE σ υ → l.1 <+: h'.1 → h'.1.length ≤ l.1.length + 1 → (gfl (t / 4) 3 = 2 → 0 ≤ h'.2 ∧ h'.2 < h'.1.length) → (∀ υ', xG υ' (gjoin h'.1 b (gfl (t % 4) 3) l.2 (gfl (t / 4) 3) h'.2).1 → xE σ υ' → Q (gjoin h'.1 b (gfl (t % 4) 3) l.2 (gfl (t / 4) 3) h'.2).2 υ') → bk_CX_build2_147 Q b (t % 4) (t / 4) v w υ := by
        intro h' w υ hw2 hw1 hυ he2 hp2 hlen3 hrng2 hQ2
        have pl2 := hp2.length_le
        have q1 := gfl_02 (t % 4) 3
        have q2 := gfl_02 (t / 4) 3
        have q3 := gfl_0 (t := t % 4) (o := 3)
        have q4 := gfl_0 (t := t / 4) (o := 3)
        generalize gfl (t % 4) 3 = fl at *
        generalize gfl (t / 4) 3 = fh at *
        refine sx_j2 (fl := fl) (fh := fh) hυ (by omega) b0 (by omega) (by omega) (by omega) ?_ ?_ ?_
        · by_cases c : fl = 2
          · have := hv2 c
            have := hrng c
            exact Or.inr ⟨c, by omega, by omega⟩
          · have := hv1 c
            exact Or.inl ⟨this, by omega⟩
        · by_cases c : fh = 2
          · have := hw2 c
            have := hrng2 c
            exact Or.inr ⟨c, by omega, by omega⟩
          · have := hw1 c
            exact Or.inl ⟨this, by omega⟩
        · intro υ' hu hue
          have ee : gjoin h'.1 b fl v fh w = gjoin h'.1 b fl l.2 fh h'.2 := by
            refine gjoin_l ?_ ?_ (by omega)
            · by_cases c : fl = 2
              · exact Or.inr (hv2 c)
              · exact Or.inl (by omega)
            · by_cases c : fh = 2
              · exact Or.inr (hw2 c)
              · exact Or.inl (by omega)
          rw [ee] at hu ⊢
          exact hQ2 υ' hu (he2.trans hue)
      unfold bk_CX_build2_115
      refine ⟨by omega, fun e0 => ?_, fun e0 => ⟨by omega, fun e3 => ?_, fun e3 => ?_⟩⟩
      · have e2 : ¬ gfl (t / 4) 3 = 2 := fun q => (gfl_2.mp q).1 e0
        rw [if_neg e2] at hQ
        exact fin (l.1, 0) (-1) τ (fun q => absurd q e2) (fun _ => rfl) hτ he List.prefix_rfl (by simp) (fun q => absurd q e2) hQ
      · have e2 : ¬ gfl (t / 4) 3 = 2 := fun q => (gfl_2.mp q).2 e3
        rw [if_neg e2] at hQ
        exact fin (l.1, 0) (-1) τ (fun q => absurd q e2) (fun _ => rfl) hτ he List.prefix_rfl (by simp) (fun q => absurd q e2) hQ
      · have e2 : gfl (t / 4) 3 = 2 := gfl_2.mpr ⟨e0, e3⟩
        rw [if_pos e2] at hQ R
        refine ⟨hτ.vn ?_, hτ.vn (by omega), sx_b1_1 hτ (by omega) a0 (by omega) (by omega) (fun υ hυ hue => ?_)⟩
        · by_cases c : gfl (t % 4) 3 = 2
          · rw [hv2 c]
            exact Or.inr (hrng c)
          · exact Or.inl (hv1 c)
        · exact fin _ _ υ (fun _ => rfl) (fun q => absurd e2 q) hυ (he.trans hue) R.2.1 R.2.2.1 R.2.2.2.1 hQ
    refine ⟨fun e0 => ?_, fun e0 => ⟨by omega, fun e3 => ?_, fun e3 => ?_⟩⟩
    · have e2 : ¬ gfl (t % 4) 3 = 2 := fun q => (gfl_2.mp q).1 e0
      rw [if_neg e2] at k
      exact last (L, 0) (-1) σ (fun q => absurd q e2) (fun _ => rfl) hg xE.rf List.prefix_rfl (by simp) (fun q => absurd q e2) k
    · have e2 : ¬ gfl (t % 4) 3 = 2 := fun q => (gfl_2.mp q).2 e3
      rw [if_neg e2] at k
      exact last (L, 0) (-1) σ (fun q => absurd q e2) (fun _ => rfl) hg xE.rf List.prefix_rfl (by simp) (fun q => absurd q e2) k
    · have e2 : gfl (t % 4) 3 = 2 := gfl_2.mpr ⟨e0, e3⟩
      rw [if_pos e2] at k P
      refine ⟨hg.vn (Or.inr ⟨b0, b1⟩), hg.vn (Or.inr ⟨a0, a1⟩), hg.vn (Or.inr ⟨b0, b1⟩), hg.vn hc, sx_b1_1 hg (by omega) a0 a1 (by omega) (fun τ hτ he => ?_)⟩
      exact last _ _ τ (fun _ => rfl) (fun q => absurd e2 q) hτ he P.2.1 P.2.2.1 P.2.2.2.1 k
theorem sx_b3_2 {σ : zS} {L : Gr} {Q : Int → zS → Prop} {t a b c : Int} (hg : xG σ L) (hlen : L.length + 10 < 60) (a0 : 0 ≤ a) (a1 : a < L.length) (b0 : 0 ≤ b) (b1 : b < L.length) (hc : c = -1 ∨ (0 ≤ c ∧ c < L.length)) (t0 : 0 < t) (t1 : t < 15) (k : ∀ τ, xG τ (gov2 L a b t).1 → xE σ τ → Q (gov2 L a b t).2 τ) : wp_CX_build3 Q t a b c 2 σ := by
  have go := hg.2.2.1
  unfold wp_CX_build3
  refine ⟨by omega, fun _ => ⟨fun q => absurd q (by decide), fun _ => ⟨fun _ => ?_, fun q => absurd rfl q⟩⟩, fun q => absurd q (by decide)⟩
  unfold bk_CX_build3_30
  have e1 : zshl 1 (2 - 1) = 2 := by decide
  rw [e1]
  rintro _ rfl
  have e2 : zshl 1 2 - 1 = 3 := by decide
  rw [e2]
  rintro _ rfl
  have e4 : zand t 3 = t % 4 := z_m3 (by omega)
  have e5 : zand (zshr t 2) 3 = t / 4 := by
    rw [z_m3 (zc_shr _ _), show zshr t 2 = t / 4 from b_shr (k := 2) (by omega) (by decide)]
    omega
  rw [e4, e5]
  rintro _ rfl _ rfl
  unfold gov2 at k
  refine ⟨fun e => ?_, fun e => ?_⟩
  · simp only [if_pos e] at k
    exact sx_b2_1 hg (by omega) a0 a1 (by omega) k
  · simp only [if_neg e] at k
    have P := ghalf_op (t := t % 4) (o := 3) go (fun q1 q2 => gov1_op (t := t % 4) go a0 a1 (by omega))
    dsimp only at P
    have last : ∀ (l : Gr × Int) (v : Int) (τ : zS), (gfl (t % 4) 3 = 2 → v = l.2) → (¬ gfl (t % 4) 3 = 2 → v = -1) → xG τ l.1 → xE σ τ → L <+: l.1 → l.1.length ≤ L.length + 1 → (gfl (t % 4) 3 = 2 → 0 ≤ l.2 ∧ l.2 < l.1.length) → (∀ υ, xG υ (gjoin (if gfl (t / 4) 3 = 2 then gov1 l.1 a (t / 4) else (l.1, 0)).1 b (gfl (t % 4) 3) l.2 (gfl (t / 4) 3) (if gfl (t / 4) 3 = 2 then gov1 l.1 a (t / 4) else (l.1, 0)).2).1 → xE σ υ → Q (gjoin (if gfl (t / 4) 3 = 2 then gov1 l.1 a (t / 4) else (l.1, 0)).1 b (gfl (t % 4) 3) l.2 (gfl (t / 4) 3) (if gfl (t / 4) 3 = 2 then gov1 l.1 a (t / 4) else (l.1, 0)).2).2 υ) → bk_CX_build3_115 Q a b c 2 b 3 (t % 4) (t / 4) v τ := by
      intro l v τ hv2 hv1 hτ he hp hlen2 hrng hQ
      have pl := hp.length_le
      have R := ghalf_op (t := t / 4) (o := 3) hτ.2.2.1 (fun q1 q2 => gov1_op (t := t / 4) hτ.2.2.1 a0 (by omega) (by omega))
      dsimp only at R
      have fin : ∀ (h' : Gr × Int) (w : Int) (υ : zS), (gfl (t / 4) 3 = 2 → w = h'.2) → (¬ gfl (t / 4) 3 = 2 → w = -1) → xG υ h'.1 → xE σ υ → l.1 <+: h'.1 → h'.1.length ≤ l.1.length + 1 → (gfl (t / 4) 3 = 2 → 0 ≤ h'.2 ∧ h'.2 < h'.1.length) → (∀ υ', xG υ' (gjoin h'.1 b (gfl (t % 4) 3) l.2 (gfl (t / 4) 3) h'.2).1 → xE σ υ' → Q (gjoin h'.1 b (gfl (t % 4) 3) l.2 (gfl (t / 4) 3) h'.2).2 υ') → bk_CX_build3_147 Q b (t % 4) (t / 4) v w υ := by
        intro h' w υ hw2 hw1 hυ he2 hp2 hlen3 hrng2 hQ2
        have pl2 := hp2.length_le
        have q1 := gfl_02 (t % 4) 3
        have q2 := gfl_02 (t / 4) 3
        have q3 := gfl_0 (t := t % 4) (o := 3)
        have q4 := gfl_0 (t := t / 4) (o := 3)
        generalize gfl (t % 4) 3 = fl at *
        generalize gfl (t / 4) 3 = fh at *
        refine sx_j3 (fl := fl) (fh := fh) hυ (by omega) b0 (by omega) (by omega) (by omega) ?_ ?_ ?_
        · by_cases c : fl = 2
          · have := hv2 c
            have := hrng c
            exact Or.inr ⟨c, by omega, by omega⟩
          · have := hv1 c
            exact Or.inl ⟨this, by omega⟩
        · by_cases c : fh = 2
          · have := hw2 c
            have := hrng2 c
            exact Or.inr ⟨c, by omega, by omega⟩
          · have := hw1 c
            exact Or.inl ⟨this, by omega⟩
        · intro υ' hu hue
          have ee : gjoin h'.1 b fl v fh w = gjoin h'.1 b fl l.2 fh h'.2 := by
            refine gjoin_l ?_ ?_ (by omega)
            · by_cases c : fl = 2
              · exact Or.inr (hv2 c)
              · exact Or.inl (by omega)
            · by_cases c : fh = 2
              · exact Or.inr (hw2 c)
              · exact Or.inl (by omega)
          rw [ee] at hu ⊢
          exact hQ2 υ' hu (he2.trans hue)
      unfold bk_CX_build3_115
      refine ⟨by omega, fun e0 => ?_, fun e0 => ⟨by omega, fun e3 => ?_, fun e3 => ?_⟩⟩
      · have e2 : ¬ gfl (t / 4) 3 = 2 := fun q => (gfl_2.mp q).1 e0
        rw [if_neg e2] at hQ
        exact fin (l.1, 0) (-1) τ (fun q => absurd q e2) (fun _ => rfl) hτ he List.prefix_rfl (by simp) (fun q => absurd q e2) hQ
      · have e2 : ¬ gfl (t / 4) 3 = 2 := fun q => (gfl_2.mp q).2 e3
        rw [if_neg e2] at hQ
        exact fin (l.1, 0) (-1) τ (fun q => absurd q e2) (fun _ => rfl) hτ he List.prefix_rfl (by simp) (fun q => absurd q e2) hQ
      · have e2 : gfl (t / 4) 3 = 2 := gfl_2.mpr ⟨e0, e3⟩
        rw [if_pos e2] at hQ R
        refine ⟨hτ.vn ?_, hτ.vn (by omega), sx_b2_1 hτ (by omega) a0 (by omega) (by omega) (fun υ hυ hue => ?_)⟩
        · by_cases c : gfl (t % 4) 3 = 2
          · rw [hv2 c]
            exact Or.inr (hrng c)
          · exact Or.inl (hv1 c)
        · exact fin _ _ υ (fun _ => rfl) (fun q => absurd e2 q) hυ (he.trans hue) R.2.1 R.2.2.1 R.2.2.2.1 hQ
    refine ⟨fun e0 => ?_, fun e0 => ⟨by omega, fun e3 => ?_, fun e3 => ?_⟩⟩
    · have e2 : ¬ gfl (t % 4) 3 = 2 := fun q => (gfl_2.mp q).1 e0
      rw [if_neg e2] at k
      exact last (L, 0) (-1) σ (fun q => absurd q e2) (fun _ => rfl) hg xE.rf List.prefix_rfl (by simp) (fun q => absurd q e2) k
    · have e2 : ¬ gfl (t % 4) 3 = 2 := fun q => (gfl_2.mp q).2 e3
      rw [if_neg e2] at k
      exact last (L, 0) (-1) σ (fun q => absurd q e2) (fun _ => rfl) hg xE.rf List.prefix_rfl (by simp) (fun q => absurd q e2) k
    · have e2 : gfl (t % 4) 3 = 2 := gfl_2.mpr ⟨e0, e3⟩
      rw [if_pos e2] at k P
      refine ⟨hg.vn (Or.inr ⟨b0, b1⟩), hg.vn (Or.inr ⟨a0, a1⟩), hg.vn (Or.inr ⟨b0, b1⟩), hg.vn hc, sx_b2_1 hg (by omega) a0 a1 (by omega) (fun τ hτ he => ?_)⟩
      exact last _ _ τ (fun _ => rfl) (fun q => absurd e2 q) hτ he P.2.1 P.2.2.1 P.2.2.2.1 k
theorem sx_b3_3 {σ : zS} {L : Gr} {Q : Int → zS → Prop} {t a b c : Int} (hg : xG σ L) (hlen : L.length + 21 < 60) (a0 : 0 ≤ a) (a1 : a < L.length) (b0 : 0 ≤ b) (b1 : b < L.length) (c0 : 0 ≤ c) (c1 : c < L.length) (t0 : 0 < t) (t1 : t < 255) (k : ∀ τ, xG τ (gov3 L a b c t).1 → xE σ τ → Q (gov3 L a b c t).2 τ) : wp_CX_build3 Q t a b c 3 σ := by
  have go := hg.2.2.1
  unfold wp_CX_build3
  refine ⟨by omega, fun _ => ⟨fun _ => ?_, fun q => absurd rfl q⟩, fun q => absurd q (by decide)⟩
  unfold bk_CX_build3_30
  have e1 : zshl 1 (3 - 1) = 4 := by decide
  rw [e1]
  rintro _ rfl
  have e2 : zshl 1 4 - 1 = 15 := by decide
  rw [e2]
  rintro _ rfl
  have e4 : zand t 15 = t % 16 := z_m15 (by omega)
  have e5 : zand (zshr t 4) 15 = t / 16 := by
    rw [z_m15 (zc_shr _ _), show zshr t 4 = t / 16 from b_shr (k := 4) (by omega) (by decide)]
    omega
  rw [e4, e5]
  rintro _ rfl _ rfl
  unfold gov3 at k
  refine ⟨fun e => ?_, fun e => ?_⟩
  · simp only [if_pos e] at k
    exact sx_b2_2 hg (by omega) a0 a1 b0 b1 (by omega) (by omega) (by omega) k
  · simp only [if_neg e] at k
    have P := ghalf_op (t := t % 16) (o := 15) go (fun q1 q2 => gov2_op (t := t % 16) go a0 a1 b0 b1 (by omega) (by omega))
    dsimp only at P
    have last : ∀ (l : Gr × Int) (v : Int) (τ : zS), (gfl (t % 16) 15 = 2 → v = l.2) → (¬ gfl (t % 16) 15 = 2 → v = -1) → xG τ l.1 → xE σ τ → L <+: l.1 → l.1.length ≤ L.length + 6 → (gfl (t % 16) 15 = 2 → 0 ≤ l.2 ∧ l.2 < l.1.length) → (∀ υ, xG υ (gjoin (if gfl (t / 16) 15 = 2 then gov2 l.1 a b (t / 16) else (l.1, 0)).1 c (gfl (t % 16) 15) l.2 (gfl (t / 16) 15) (if gfl (t / 16) 15 = 2 then gov2 l.1 a b (t / 16) else (l.1, 0)).2).1 → xE σ υ → Q (gjoin (if gfl (t / 16) 15 = 2 then gov2 l.1 a b (t / 16) else (l.1, 0)).1 c (gfl (t % 16) 15) l.2 (gfl (t / 16) 15) (if gfl (t / 16) 15 = 2 then gov2 l.1 a b (t / 16) else (l.1, 0)).2).2 υ) → bk_CX_build3_115 Q a b c 3 c 15 (t % 16) (t / 16) v τ := by
      intro l v τ hv2 hv1 hτ he hp hlen2 hrng hQ
      have pl := hp.length_le
      have R := ghalf_op (t := t / 16) (o := 15) hτ.2.2.1 (fun q1 q2 => gov2_op (t := t / 16) hτ.2.2.1 a0 (by omega) b0 (by omega) (by omega) (by omega))
      dsimp only at R
      have fin : ∀ (h' : Gr × Int) (w : Int) (υ : zS), (gfl (t / 16) 15 = 2 → w = h'.2) → (¬ gfl (t / 16) 15 = 2 → w = -1) → xG υ h'.1 → xE σ υ → l.1 <+: h'.1 → h'.1.length ≤ l.1.length + 6 → (gfl (t / 16) 15 = 2 → 0 ≤ h'.2 ∧ h'.2 < h'.1.length) → (∀ υ', xG υ' (gjoin h'.1 c (gfl (t % 16) 15) l.2 (gfl (t / 16) 15) h'.2).1 → xE σ υ' → Q (gjoin h'.1 c (gfl (t % 16) 15) l.2 (gfl (t / 16) 15) h'.2).2 υ') → bk_CX_build3_147 Q c (t % 16) (t / 16) v w υ := by
        intro h' w υ hw2 hw1 hυ he2 hp2 hlen3 hrng2 hQ2
        have pl2 := hp2.length_le
        have q1 := gfl_02 (t % 16) 15
        have q2 := gfl_02 (t / 16) 15
        have q3 := gfl_0 (t := t % 16) (o := 15)
        have q4 := gfl_0 (t := t / 16) (o := 15)
        generalize gfl (t % 16) 15 = fl at *
        generalize gfl (t / 16) 15 = fh at *
        refine sx_j3 (fl := fl) (fh := fh) hυ (by omega) c0 (by omega) (by omega) (by omega) ?_ ?_ ?_
        · by_cases c : fl = 2
          · have := hv2 c
            have := hrng c
            exact Or.inr ⟨c, by omega, by omega⟩
          · have := hv1 c
            exact Or.inl ⟨this, by omega⟩
        · by_cases c : fh = 2
          · have := hw2 c
            have := hrng2 c
            exact Or.inr ⟨c, by omega, by omega⟩
          · have := hw1 c
            exact Or.inl ⟨this, by omega⟩
        · intro υ' hu hue
          have ee : gjoin h'.1 c fl v fh w = gjoin h'.1 c fl l.2 fh h'.2 := by
            refine gjoin_l ?_ ?_ (by omega)
            · by_cases c : fl = 2
              · exact Or.inr (hv2 c)
              · exact Or.inl (by omega)
            · by_cases c : fh = 2
              · exact Or.inr (hw2 c)
              · exact Or.inl (by omega)
          rw [ee] at hu ⊢
          exact hQ2 υ' hu (he2.trans hue)
      unfold bk_CX_build3_115
      refine ⟨by omega, fun e0 => ?_, fun e0 => ⟨by omega, fun e3 => ?_, fun e3 => ?_⟩⟩
      · have e2 : ¬ gfl (t / 16) 15 = 2 := fun q => (gfl_2.mp q).1 e0
        rw [if_neg e2] at hQ
        exact fin (l.1, 0) (-1) τ (fun q => absurd q e2) (fun _ => rfl) hτ he List.prefix_rfl (by simp) (fun q => absurd q e2) hQ
      · have e2 : ¬ gfl (t / 16) 15 = 2 := fun q => (gfl_2.mp q).2 e3
        rw [if_neg e2] at hQ
        exact fin (l.1, 0) (-1) τ (fun q => absurd q e2) (fun _ => rfl) hτ he List.prefix_rfl (by simp) (fun q => absurd q e2) hQ
      · have e2 : gfl (t / 16) 15 = 2 := gfl_2.mpr ⟨e0, e3⟩
        rw [if_pos e2] at hQ R
        refine ⟨hτ.vn ?_, hτ.vn (by omega), sx_b2_2 hτ (by omega) a0 (by omega) b0 (by omega) (by omega) (by omega) (by omega) (fun υ hυ hue => ?_)⟩
        · by_cases c : gfl (t % 16) 15 = 2
          · rw [hv2 c]
            exact Or.inr (hrng c)
          · exact Or.inl (hv1 c)
        · exact fin _ _ υ (fun _ => rfl) (fun q => absurd e2 q) hυ (he.trans hue) R.2.1 R.2.2.1 R.2.2.2.1 hQ
    refine ⟨fun e0 => ?_, fun e0 => ⟨by omega, fun e3 => ?_, fun e3 => ?_⟩⟩
    · have e2 : ¬ gfl (t % 16) 15 = 2 := fun q => (gfl_2.mp q).1 e0
      rw [if_neg e2] at k
      exact last (L, 0) (-1) σ (fun q => absurd q e2) (fun _ => rfl) hg xE.rf List.prefix_rfl (by simp) (fun q => absurd q e2) k
    · have e2 : ¬ gfl (t % 16) 15 = 2 := fun q => (gfl_2.mp q).2 e3
      rw [if_neg e2] at k
      exact last (L, 0) (-1) σ (fun q => absurd q e2) (fun _ => rfl) hg xE.rf List.prefix_rfl (by simp) (fun q => absurd q e2) k
    · have e2 : gfl (t % 16) 15 = 2 := gfl_2.mpr ⟨e0, e3⟩
      rw [if_pos e2] at k P
      refine ⟨hg.vn (Or.inr ⟨c0, c1⟩), hg.vn (Or.inr ⟨a0, a1⟩), hg.vn (Or.inr ⟨b0, b1⟩), hg.vn (Or.inr ⟨c0, c1⟩), sx_b2_2 hg (by omega) a0 a1 b0 b1 (by omega) (by omega) (by omega) (fun τ hτ he => ?_)⟩
      exact last _ _ τ (fun _ => rfl) (fun q => absurd e2 q) hτ he P.2.1 P.2.2.1 P.2.2.2.1 k
