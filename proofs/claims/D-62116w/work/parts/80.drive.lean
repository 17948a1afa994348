/-! drive -/
theorem atN_in {σ : zS} {a : Int} (h : 0 ≤ a ∧ a < σ 40 1) : atN σ a = σ 42 a := by unfold atN; rw [if_neg (by omega), if_pos h.2]
theorem atN_out {σ : zS} {a : Int} (h : ¬ (0 ≤ a ∧ a < σ 40 1)) : atN σ a = -1 := by
  unfold atN
  split
  · rfl
  · rw [if_neg (by omega)]
theorem op_drive {σ : zS} {L : Gr} {pt : Int → Pat} {Q : zS → Prop} {a b : Int} (h : BW σ L pt) (ha : zc a) (hb : zc b) (hQ : Q σ) (hQ2 : ∀ υ, BW υ L pt → υ 56 0 = 0 → Q υ) : wp_CX_drive (fun r τ => wp_MM_drive (fun r' υ => r' = r ∧ Q υ) a b τ) a b σ := by
  have n0 := h.n0
  have n1 := h.n1
  have n2 := h.n2
  have l0 := h.l0
  have l1 := h.l1
  have hlen := h.len
  have e70 := h.e70
  -- the model says no
  have M : ¬ (0 ≤ a ∧ a < σ 40 1 ∧ 0 ≤ b ∧ b < σ 40 1 ∧ σ 101 a = 1) → wp_MM_drive (fun r' υ => r' = 0 ∧ Q υ) a b σ := fun hno => by
    refine sm_isNet ha (by omega) ⟨fun q1 => ⟨by omega, fun q => absurd q (by decide), fun _ => sm_isNet hb (by omega) ⟨fun q2 => ⟨by omega, fun q => absurd q (by decide), fun _ => ⟨q1.1, by omega, ?_, fun q3 => absurd ⟨q1.1, by omega, q2.1, by omega, q3⟩ hno, fun _ => ⟨rfl, hQ⟩⟩⟩, fun q2 => ⟨by omega, fun _ => ⟨rfl, hQ⟩, fun q => absurd rfl q⟩⟩⟩, fun q1 => ⟨by omega, fun _ => ⟨rfl, hQ⟩, fun q => absurd rfl q⟩⟩
    have := h.net a q1.1 (by omega)
    omega
  refine sx_at ha (by omega) h.net7 (sx_at hb (by omega) h.net7 ⟨fun q => ?_, fun q => ?_⟩)
  · have hn : ¬ (0 ≤ a ∧ a < σ 40 1) := fun hn => by
      rw [atN_in hn] at q
      have := (h.net a hn.1 hn.2).1
      omega
    exact M (fun x => hn ⟨x.1, x.2.1⟩)
  · have hn : 0 ≤ a ∧ a < σ 40 1 := Classical.byContradiction fun x => by rw [atN_out x] at q; omega
    rw [atN_in hn]
    have hh := h.net a hn.1 hn.2
    obtain ⟨d1, d2, d3, d4, d5, d6⟩ := h.nd hh.1 hh.2.1
    refine ⟨hh.1, by omega, by omega, by omega, fun q1 => ?_, fun q1 => M (fun x => ?_)⟩
    · have hl := h.lnet _ hh.1 hh.2.1 (by omega)
      have hla := h.lan _ hh.1 hh.2.1 q1
      refine ⟨by omega, ha, fun q2 => ?_, fun q2 => M (fun x => ?_)⟩
      · have hs1 : σ 101 a = 1 := by
          have := hl.2.2.2
          rw [← hla.2.1, q2] at this
          omega
        refine ⟨fun q3 => M (fun x => ?_), fun q3 => ?_⟩
        · have := (h.net b x.2.2.1 x.2.2.2.1).1
          rw [atN_in ⟨x.2.2.1, x.2.2.2.1⟩] at q3
          omega
        · have hm : 0 ≤ b ∧ b < σ 40 1 := Classical.byContradiction fun x => by rw [atN_out x] at q3; omega
          rw [atN_in hm]
          have hh2 := h.net b hm.1 hm.2
          rintro _ rfl
          refine sx_changed (by rw [zup_ne _ _ _ _ (by decide)]; omega) (by rw [zup_ne _ _ _ _ (by decide)]; omega) (fun k k0 k1 => ?_) (fun τ ht => ?_)
          · rw [zup_ne _ _ _ _ (by decide)] at k1
            rw [zup_ne _ _ _ _ (by decide), zup_ne _ _ _ _ (by decide)]
            exact h.lat7 k k0 k1
          · obtain ⟨t1, t2, t3, t4⟩ := ht
            have tk : ∀ f, f ≠ 7 → f ≠ 56 → f ≠ 5 → τ f = σ f := fun f a b c' => by rw [t1 f (by simp [a, b]), zup_f _ _ _ c']
            have e100 := tk 100 (by decide) (by decide) (by decide)
            have e101 := tk 101 (by decide) (by decide) (by decide)
            refine sm_isNet ha (by rw [e100]; omega) ⟨fun _ => ⟨by omega, fun q => absurd q (by decide), fun _ => sm_isNet hb (by rw [e100]; omega) ⟨fun _ => ⟨by omega, fun q => absurd q (by decide), fun _ => ⟨hn.1, by omega, by rw [e101]; omega, fun _ => ?_, fun q => absurd (by rw [e101]; exact hs1) q⟩⟩, fun q => absurd (by rw [e100, n2]; exact hm) q⟩⟩, fun q => absurd (by rw [e100, n2]; exact hn) q⟩
            rintro _ rfl
            refine sm_changed (by rw [zup_ne _ _ _ _ (by decide), e100]; omega) (by rw [zup_ne _ _ _ _ (by decide), e100]; omega) (fun υ hu => ⟨rfl, hQ2 υ ?_ ?_⟩)
            · obtain ⟨u1, u2, u3⟩ := hu
              have uk : ∀ f, f ≠ 104 → f ≠ 124 → f ≠ 105 → υ f = τ f := fun f a b c' => by rw [u1 f (by simp [a, b]), zup_f _ _ _ c']
              have v5 : ∀ i : Int, υ 5 i = if i = σ 42 a then σ 42 b else σ 5 i := fun i => by rw [uk 5 (by decide) (by decide) (by decide), t1 5 (by decide), zup_or]
              refine BW_drive (a := a) (b := b) h (fun f hf => ?_) ?_ hn.1 hn.2 hs1 hm.1 hm.2 v5 ?_ ?_ ?_ ?_ u2
              · simp only [List.mem_cons, List.not_mem_nil, or_false, not_or] at hf
                rw [uk f (by omega) (by omega) (by omega), tk f (by omega) (by omega) (by omega)]
              · obtain ⟨w1, w2, w3, w4, w5, w6⟩ := h.wf
                have ee : ∀ f, f ≠ 104 → f ≠ 124 → f ≠ 105 → f ≠ 7 → f ≠ 56 → f ≠ 5 → υ f = σ f := fun f a b c d e g => by rw [uk f a b c, tk f d e g]
                have k2 := ee 2 (by decide) (by decide) (by decide) (by decide) (by decide) (by decide)
                have k3 := ee 3 (by decide) (by decide) (by decide) (by decide) (by decide) (by decide)
                have k14 := ee 14 (by decide) (by decide) (by decide) (by decide) (by decide) (by decide)
                have k70 := ee 70 (by decide) (by decide) (by decide) (by decide) (by decide) (by decide)
                have k71 := ee 71 (by decide) (by decide) (by decide) (by decide) (by decide) (by decide)
                have k72 := ee 72 (by decide) (by decide) (by decide) (by decide) (by decide) (by decide)
                have k40 := ee 40 (by decide) (by decide) (by decide) (by decide) (by decide) (by decide)
                have k46 := ee 46 (by decide) (by decide) (by decide) (by decide) (by decide) (by decide)
                have k50 := ee 50 (by decide) (by decide) (by decide) (by decide) (by decide) (by decide)
                have k51 := ee 51 (by decide) (by decide) (by decide) (by decide) (by decide) (by decide)
                have k25 := ee 25 (by decide) (by decide) (by decide) (by decide) (by decide) (by decide)
                have k30 := ee 30 (by decide) (by decide) (by decide) (by decide) (by decide) (by decide)
                have k31 := ee 31 (by decide) (by decide) (by decide) (by decide) (by decide) (by decide)
                have k32 := ee 32 (by decide) (by decide) (by decide) (by decide) (by decide) (by decide)
                refine ⟨fun i i0 i1 => ?_, fun l hl => ?_, ?_, ?_, ?_, ?_⟩
                · rw [k70] at i1
                  have hw := w1 i i0 i1
                  simp only [zvn, zvc, k2, k3, k14, k70, k71]
                  refine ⟨hw.1, hw.2.1, ?_, hw.2.2.2⟩
                  rw [v5]
                  by_cases e : i = σ 42 a
                  · rw [if_pos e]
                    exact Or.inr ⟨hh2.1, by omega⟩
                  · rw [if_neg e]
                    exact hw.2.2.1
                · have el : υ (41 + l) = σ (41 + l) := ee (41 + l) (by omega) (by omega) (by omega) (by omega) (by omega) (by omega)
                  simp only [zvn, el, k40, k70]
                  exact w2 l hl
                · simp only [zvc, k46, k40, k71]
                  exact w3
                · simp only [zvn, k50, k51, k70]
                  exact w4
                · simp only [zvp, k25, k71, k72]
                  exact w5
                · simp only [zvp, k30, k31, k32, k72]
                  exact w6
              · intro j
                rw [u1 105 (by decide), zup_or, tk 105 (by decide) (by decide) (by decide)]
              · intro i i0 i1 hk
                rw [uk 7 (by decide) (by decide) (by decide)]
                obtain ⟨k, k0, k1, k2⟩ := (h.lan i i0 i1 hk).1
                rw [t3 i ⟨k, k0, by rw [zup_ne _ _ _ _ (by decide)]; exact k1, by rw [zup_ne _ _ _ _ (by decide)]; exact k2⟩, zup_ne _ _ _ _ (by decide)]
              · intro j j0 j1
                have := u3 j j0 (by rw [zup_f _ _ _ (by decide), e100]; omega)
                rw [this, zup_f _ _ _ (by decide), tk 103 (by decide) (by decide) (by decide)]
              · rw [uk 56 (by decide) (by decide) (by decide)]
                exact t2
            · rw [hu.1 56 (by decide), zup_f _ _ _ (by decide)]
              exact t2
      · have := (h.leaf a hn.1 hn.2 (by omega)).1
        rw [← hla.2.1] at this
        exact q2 this
    · have := (h.leaf a hn.1 hn.2 (by omega)).2
      omega
