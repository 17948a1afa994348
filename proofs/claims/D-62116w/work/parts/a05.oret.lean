/-! clockRetimed, clock, reset keep the mapped circuit -/
def pks : List Nat := [6, 7, 54, 104, 110, 140, 148, 149, 150]
theorem MP_fr {σ υ : zS} {L : Gr} (hm : MP σ L) (hs : zsm pks σ υ) (h54 : ∀ k : Int, 0 ≤ k → k < 196 → lkX σ L.length k → 0 ≤ υ 54 k ∧ υ 54 k < 2 ^ (σ 52 k).toNat ∧ υ 140 k = υ 54 k) : MP υ L := by
  have e1 := hs 1 (by decide)
  have e11 := hs 11 (by decide)
  have e14 := hs 14 (by decide)
  have e16 := hs 16 (by decide)
  have e22 := hs 22 (by decide)
  have e24 := hs 24 (by decide)
  have e40 := hs 40 (by decide)
  have e51 := hs 51 (by decide)
  have e52 := hs 52 (by decide)
  have e53 := hs 53 (by decide)
  have e58 := hs 58 (by decide)
  have e59 := hs 59 (by decide)
  have e60 := hs 60 (by decide)
  have e129 := hs 129 (by decide)
  have e131 := hs 131 (by decide)
  have e135 := hs 135 (by decide)
  have e138 := hs 138 (by decide)
  have e139 := hs 139 (by decide)
  have e143 := hs 143 (by decide)
  have e144 := hs 144 (by decide)
  have e145 := hs 145 (by decide)
  have lk : ∀ n k, lkX υ n k ↔ lkX σ n k := fun n k => by unfold lkX; rw [e11, e24, e14, e40]
  obtain ⟨m1, m2, m3, m4, m5, m6, m7⟩ := hm
  refine ⟨?_, ?_, ?_, ?_, ?_, ?_, ?_⟩
  · unfold MPg
    rw [e11, e131]
    exact m1
  · unfold MPc
    rw [e11, e14, e40, e129, e143, e16, e1]
    exact m2
  · rw [e58, e11, e22, e14]
    exact m3
  · rw [e144, e145, e59, e60]
    exact m4
  · intro k k0 k1 hk
    rw [lk] at hk
    obtain ⟨b1, b2, b3, b4, b5, b6, b7, b8, b9, b10, b11, b12, b13⟩ := m5 k k0 k1 hk
    obtain ⟨c1, c2, c3⟩ := h54 k k0 k1 hk
    rw [e51, e11, e1, e52, e53, e135, e138, e139]
    exact ⟨b1, b2, b3, b4, b5, b6, b7, c1, c2, b10, b11, b12, c3⟩
  · intro k k0 k1 hk
    rw [lk] at hk
    rw [e51, e52, e135]
    exact m6 k k0 k1 hk
  · obtain ⟨key, hk⟩ := m7
    refine ⟨key, fun k k0 k1 h1 => ?_⟩
    rw [lk] at h1
    rw [e52, e11, e51]
    exact hk k k0 k1 h1
theorem nxt_b {σ : zS} {s : Int → Int} {k : Int} (h0 : 0 ≤ σ 54 k) (h1 : σ 54 k < 2 ^ (σ 52 k).toNat) : 0 ≤ nxt σ s k ∧ nxt σ s k < 2 ^ (σ 52 k).toNat := by
  have hp : (0 : Int) < 2 ^ (σ 52 k).toNat := Int.pow_pos (by decide)
  unfold nxt
  split
  · exact ⟨Int.emod_nonneg _ (by omega), Int.emod_lt_of_pos _ hp⟩
  · exact ⟨h0, h1⟩
theorem op_clockRetimed {σ : zS} {L : Gr} {pt : Int → Pat} {Q : zS → Prop} {a : Int} (h : BW σ L pt) (hm : σ 56 0 = 1 → MP σ L) (hQ : Q σ) (hQ2 : ∀ υ, BW υ L pt → (υ 56 0 = 1 → MP υ L) → Q υ) : wp_CX_clockRetimed (fun r τ => wp_MM_clockRetimed (fun r' υ => r' = r ∧ Q υ) a τ) a σ := by
  have hq := h.mq
  refine sx_clockRetimed h hm (fun q => ?_) (fun q inp i01 iv τ hx => ?_)
  · exact ⟨by omega, fun _ => ⟨rfl, hQ⟩, fun q2 => absurd q2 (by omega)⟩
  · have hm := hm q
    obtain ⟨x1, x2, x3, x4⟩ := hx
    refine sm_clockRetimed h q hm (fun f hf => x1 f (by simp; omega)) i01 iv (fun υ hu => ⟨rfl, ?_⟩)
    obtain ⟨u1, u2⟩ := hu
    have W : zsm [6, 54, 140, 148, 149, 150] σ υ := (x1.mono (by decide)).trans (u1.mono (by decide))
    refine hQ2 υ (BW_fr h (W.mono (by decide)) (h.wf.sm (fun f hf => W f (fun q => ?_))) (fun i i0 i1 => by rw [u1 6 (by decide)]; exact x2 i i0 i1) (fun i i0 i1 hk => by rw [W 7 (by decide), W 104 (by decide)]; exact ⟨(h.lan i i0 i1 hk).2.2.2.2.1, (h.lan i i0 i1 hk).2.2.2.2.2.1⟩) (by rw [W 56 (by decide)]; exact h.mp) (by rw [W 56 (by decide), W 124 (by decide)]; exact h.mq)) (fun _ => MP_fr hm (W.mono (by decide)) (fun k k0 k1 hk => ?_))
    · simp only [List.mem_cons, List.not_mem_nil, or_false] at hf q
      omega
    · obtain ⟨b1, b2, b3, b4, b5, b6, b7, b8, b9, b10, b11, b12, b13⟩ := hm.2.2.2.2.1 k k0 k1 hk
      rw [u1 54 (by decide), x4 k k0 k1, u2 k k0 k1 b1]
      exact ⟨(nxt_b b8 b9).1, (nxt_b b8 b9).2, rfl⟩
/-- the invariant -/
def zInv (σ : zS) : Prop := ∃ L pt, BW σ L pt ∧ (σ 56 0 = 1 → MP σ L)
theorem zInv.un {σ : zS} {L : Gr} {pt : Int → Pat} (h : BW σ L pt) (h0 : σ 56 0 = 0) : zInv σ := ⟨L, pt, h, fun q => absurd q (by omega)⟩
theorem inv_clock {σ : zS} (h : zInv σ) (a : Int) : wp_CX_clock (fun r τ => wp_MM_clock (fun r' υ => r' = r ∧ zInv υ) a τ) a σ := by
  obtain ⟨L, pt, hb, hm⟩ := h
  refine op_clock hb ⟨L, pt, hb, hm⟩ (fun υ hu hs => ⟨L, pt, hu, fun q => ?_⟩)
  rw [hs 56 (by decide)] at q
  refine MP_fr (hm q) (hs.mono (by decide)) (fun k k0 k1 hk => ?_)
  obtain ⟨b1, b2, b3, b4, b5, b6, b7, b8, b9, b10, b11, b12, b13⟩ := (hm q).2.2.2.2.1 k k0 k1 hk
  rw [hs 54 (by decide), hs 140 (by decide)]
  exact ⟨b8, b9, b13⟩
theorem inv_reset {σ : zS} (h : zInv σ) : wp_CX_reset (fun τ => wp_MM_reset zInv τ) σ := by
  obtain ⟨L, pt, hb, hm⟩ := h
  refine op_reset hb (fun υ hu hs h5 => ⟨L, pt, hu, fun q => ?_⟩)
  rw [hs 56 (by decide)] at q
  refine MP_fr (hm q) (hs.mono (by decide)) (fun k k0 k1 hk => ?_)
  obtain ⟨b1, b2, b3, b4, b5, b6, b7, b8, b9, b10, b11, b12, b13⟩ := (hm q).2.2.2.2.1 k k0 k1 hk
  obtain ⟨c1, c2⟩ := h5 q k k0 k1
  rw [c1, c2]
  exact ⟨b6, b7, b12⟩
