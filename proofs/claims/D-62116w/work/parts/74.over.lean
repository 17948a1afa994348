/-! tables over nets, both sides; the nodes of CellMapper as a list -/
theorem sm_flat {σ : zS} {Q : Int → zS → Prop} {t o : Int} (ht : zc t) (ho : zc o) (h : Q (gfl t o) σ) : wp_MM_flat Q t o σ := by
  unfold gfl at h
  refine ⟨ht, fun e => ?_, fun e => ⟨ho, fun e2 => ?_, fun e2 => ?_⟩⟩
  · rwa [if_pos e] at h
  · rwa [if_neg e, if_pos e2] at h
  · rwa [if_neg e, if_neg e2] at h
theorem sm_over1 {σ : zS} {L : Gr} {Q : Int → zS → Prop} {a t : Int} (hg : mG σ L) (hl : L.length + 4 ≤ 48) (a0 : 0 ≤ a) (a1 : a < 40) (n0 : 0 ≤ σ 102 a) (n1 : σ 102 a < L.length) (ht : t = 1 ∨ t = 2) (h : ∀ τ, mG τ (gov1 L (σ 102 a) t).1 → mE σ τ → Q (gov1 L (σ 102 a) t).2 τ) : wp_MM_overOne Q a t σ := by
  unfold wp_MM_overOne
  refine ⟨a0, a1, ?_⟩
  rw [z_m1 (by omega), show zshr t 1 = t / 2 from b_shr (k := 1) (by omega) (by decide)]
  exact sm_join hg hl n0 n1 (by omega) (by omega) h
theorem sm_over2 {σ : zS} {L : Gr} {Q : Int → zS → Prop} {a b t : Int} (hg : mG σ L) (hl : L.length + 6 ≤ 48) (a0 : 0 ≤ a) (a1 : a < 40) (n0 : 0 ≤ σ 102 a) (n1 : σ 102 a < L.length) (b0 : 0 ≤ b) (b1 : b < 40) (m0 : 0 ≤ σ 102 b) (m1 : σ 102 b < L.length) (t0 : 0 < t) (t1 : t < 15) (h : ∀ τ, mG τ (gov2 L (σ 102 a) (σ 102 b) t).1 → mE σ τ → Q (gov2 L (σ 102 a) (σ 102 b) t).2 τ) : wp_MM_overTwo Q a b t σ := by
  unfold wp_MM_overTwo
  rw [z_m3 (by omega), show zshr t 2 = t / 4 from b_shr (k := 2) (by omega) (by decide)]
  unfold gov2 at h
  rintro y1 rfl y2 rfl
  refine ⟨fun e => ?_, fun e => ?_⟩
  · simp only [if_pos e] at h
    exact sm_over1 hg (by omega) a0 a1 n0 n1 (by omega) h
  · simp only [if_neg e] at h
    have P := ghalf_op (t := t % 4) (o := 3) hg.2.1 (fun q1 q2 => gov1_op (t := t % 4) hg.2.1 n0 n1 (by omega))
    dsimp only at P
    have last : ∀ (l : Gr × Int) (τ : zS), mG τ l.1 → mE σ τ → L <+: l.1 → l.1.length ≤ L.length + 1 → (gfl (t % 4) 3 = 2 → 0 ≤ l.2 ∧ l.2 < l.1.length) → (∀ υ, mG υ (gjoin (if gfl (t / 4) 3 = 2 then gov1 l.1 (σ 102 a) (t / 4) else (l.1, 0)).1 (σ 102 b) (gfl (t % 4) 3) l.2 (gfl (t / 4) 3) (if gfl (t / 4) 3 = 2 then gov1 l.1 (σ 102 a) (t / 4) else (l.1, 0)).2).1 → mE σ υ → Q (gjoin (if gfl (t / 4) 3 = 2 then gov1 l.1 (σ 102 a) (t / 4) else (l.1, 0)).1 (σ 102 b) (gfl (t % 4) 3) l.2 (gfl (t / 4) 3) (if gfl (t / 4) 3 = 2 then gov1 l.1 (σ 102 a) (t / 4) else (l.1, 0)).2).2 υ) → bk_MM_overTwo_46 Q a b (t % 4) (t / 4) l.2 τ := by
      intro l τ hτ he hp hlen hrng hQ
      have pl := hp.length_le
      have R := ghalf_op (t := t / 4) (o := 3) hτ.2.1 (fun q1 q2 => gov1_op (t := t / 4) hτ.2.1 n0 (by omega) (by omega))
      dsimp only at R
      have fin : ∀ (h' : Gr × Int) (υ : zS), mG υ h'.1 → mE σ υ → l.1 <+: h'.1 → h'.1.length ≤ l.1.length + 1 → (gfl (t / 4) 3 = 2 → 0 ≤ h'.2 ∧ h'.2 < h'.1.length) → (∀ υ', mG υ' (gjoin h'.1 (σ 102 b) (gfl (t % 4) 3) l.2 (gfl (t / 4) 3) h'.2).1 → mE σ υ' → Q (gjoin h'.1 (σ 102 b) (gfl (t % 4) 3) l.2 (gfl (t / 4) 3) h'.2).2 υ') → bk_MM_overTwo_69 Q b (t % 4) (t / 4) l.2 h'.2 υ := by
        intro h' υ hυ he2 hp2 hlen2 hrng2 hQ2
        have pl2 := hp2.length_le
        refine ⟨b0, b1, sm_flat (by omega) (by omega) (sm_flat (by omega) (by omega) ?_)⟩
        rw [he2.1 102 (by decide)]
        have q1 := gfl_02 (t % 4) 3
        have q2 := gfl_02 (t / 4) 3
        refine sm_join hυ (by omega) m0 (by omega) ?_ ?_ (fun υ' hu hue => hQ2 υ' hu (he2.trans hue))
        · rcases q1 with e | e | e
          · exact Or.inl e
          · exact Or.inr (Or.inl e)
          · exact Or.inr (Or.inr ⟨e, (hrng e).1, by have := (hrng e).2; omega⟩)
        · rcases q2 with e | e | e
          · exact Or.inl e
          · exact Or.inr (Or.inl e)
          · exact Or.inr (Or.inr ⟨e, hrng2 e⟩)
      refine sm_flat (by omega) (by omega) ⟨by have := gfl_02 (t / 4) 3; omega, fun e2 => ?_, fun e2 => ?_⟩
      · rw [if_pos e2] at hQ R
        have hcc := gfl_2.mp e2
        have e102 : τ 102 = σ 102 := he.1 102 (by decide)
        refine sm_over1 hτ (by omega) a0 a1 (by rw [e102]; exact n0) (by rw [e102]; omega) (by omega) (fun υ hυ hue => ?_)
        rw [e102] at hυ ⊢
        exact fin _ υ hυ (he.trans hue) R.2.1 R.2.2.1 R.2.2.2.1 hQ
      · rw [if_neg e2] at hQ
        exact fin (l.1, 0) τ hτ he List.prefix_rfl (by simp) (fun q => absurd q e2) hQ
    refine sm_flat (by omega) (by omega) ⟨by have := gfl_02 (t % 4) 3; omega, fun e2 => ?_, fun e2 => ?_⟩
    · rw [if_pos e2] at h P
      have hcc := gfl_2.mp e2
      refine sm_over1 hg (by omega) a0 a1 n0 n1 (by omega) (fun τ hτ he => ?_)
      exact last _ τ hτ he P.2.1 P.2.2.1 P.2.2.2.1 h
    · rw [if_neg e2] at h
      exact last (L, 0) σ hg mE.rf List.prefix_rfl (by simp) (fun q => absurd q e2) h
theorem sm_over3 {σ : zS} {L : Gr} {Q : Int → zS → Prop} {a b c t : Int} (hg : mG σ L) (hl : L.length + 16 ≤ 48) (a0 : 0 ≤ a) (a1 : a < 40) (n0 : 0 ≤ σ 102 a) (n1 : σ 102 a < L.length) (b0 : 0 ≤ b) (b1 : b < 40) (m0 : 0 ≤ σ 102 b) (m1 : σ 102 b < L.length) (c0 : 0 ≤ c) (c1 : c < 40) (k0 : 0 ≤ σ 102 c) (k1 : σ 102 c < L.length) (t0 : 0 < t) (t1 : t < 255) (h : ∀ τ, mG τ (gov3 L (σ 102 a) (σ 102 b) (σ 102 c) t).1 → mE σ τ → Q (gov3 L (σ 102 a) (σ 102 b) (σ 102 c) t).2 τ) : wp_MM_overThree Q a b c t σ := by
  unfold wp_MM_overThree
  rw [z_m15 (by omega), show zshr t 4 = t / 16 from b_shr (k := 4) (by omega) (by decide)]
  unfold gov3 at h
  rintro y1 rfl y2 rfl
  refine ⟨fun e => ?_, fun e => ?_⟩
  · simp only [if_pos e] at h
    exact sm_over2 hg (by omega) a0 a1 n0 n1 b0 b1 m0 m1 (by omega) (by omega) h
  · simp only [if_neg e] at h
    have P := ghalf_op (t := t % 16) (o := 15) hg.2.1 (fun q1 q2 => gov2_op (t := t % 16) hg.2.1 n0 n1 m0 m1 (by omega) (by omega))
    dsimp only at P
    have last : ∀ (l : Gr × Int) (τ : zS), mG τ l.1 → mE σ τ → L <+: l.1 → l.1.length ≤ L.length + 6 → (gfl (t % 16) 15 = 2 → 0 ≤ l.2 ∧ l.2 < l.1.length) → (∀ υ, mG υ (gjoin (if gfl (t / 16) 15 = 2 then gov2 l.1 (σ 102 a) (σ 102 b) (t / 16) else (l.1, 0)).1 (σ 102 c) (gfl (t % 16) 15) l.2 (gfl (t / 16) 15) (if gfl (t / 16) 15 = 2 then gov2 l.1 (σ 102 a) (σ 102 b) (t / 16) else (l.1, 0)).2).1 → mE σ υ → Q (gjoin (if gfl (t / 16) 15 = 2 then gov2 l.1 (σ 102 a) (σ 102 b) (t / 16) else (l.1, 0)).1 (σ 102 c) (gfl (t % 16) 15) l.2 (gfl (t / 16) 15) (if gfl (t / 16) 15 = 2 then gov2 l.1 (σ 102 a) (σ 102 b) (t / 16) else (l.1, 0)).2).2 υ) → bk_MM_overThree_52 Q a b c (t % 16) (t / 16) l.2 τ := by
      intro l τ hτ he hp hlen hrng hQ
      have pl := hp.length_le
      have R := ghalf_op (t := t / 16) (o := 15) hτ.2.1 (fun q1 q2 => gov2_op (t := t / 16) hτ.2.1 n0 (by omega) m0 (by omega) (by omega) (by omega))
      dsimp only at R
      have fin : ∀ (h' : Gr × Int) (υ : zS), mG υ h'.1 → mE σ υ → l.1 <+: h'.1 → h'.1.length ≤ l.1.length + 6 → (gfl (t / 16) 15 = 2 → 0 ≤ h'.2 ∧ h'.2 < h'.1.length) → (∀ υ', mG υ' (gjoin h'.1 (σ 102 c) (gfl (t % 16) 15) l.2 (gfl (t / 16) 15) h'.2).1 → mE σ υ' → Q (gjoin h'.1 (σ 102 c) (gfl (t % 16) 15) l.2 (gfl (t / 16) 15) h'.2).2 υ') → bk_MM_overThree_77 Q c (t % 16) (t / 16) l.2 h'.2 υ := by
        intro h' υ hυ he2 hp2 hlen2 hrng2 hQ2
        have pl2 := hp2.length_le
        refine ⟨c0, c1, sm_flat (by omega) (by omega) (sm_flat (by omega) (by omega) ?_)⟩
        rw [he2.1 102 (by decide)]
        have q1 := gfl_02 (t % 16) 15
        have q2 := gfl_02 (t / 16) 15
        refine sm_join hυ (by omega) k0 (by omega) ?_ ?_ (fun υ' hu hue => hQ2 υ' hu (he2.trans hue))
        · rcases q1 with e | e | e
          · exact Or.inl e
          · exact Or.inr (Or.inl e)
          · exact Or.inr (Or.inr ⟨e, (hrng e).1, by have := (hrng e).2; omega⟩)
        · rcases q2 with e | e | e
          · exact Or.inl e
          · exact Or.inr (Or.inl e)
          · exact Or.inr (Or.inr ⟨e, hrng2 e⟩)
      refine sm_flat (by omega) (by omega) ⟨by have := gfl_02 (t / 16) 15; omega, fun e2 => ?_, fun e2 => ?_⟩
      · rw [if_pos e2] at hQ R
        have hcc := gfl_2.mp e2
        have e102 : τ 102 = σ 102 := he.1 102 (by decide)
        refine sm_over2 hτ (by omega) a0 a1 (by rw [e102]; exact n0) (by rw [e102]; omega) b0 b1 (by rw [e102]; exact m0) (by rw [e102]; omega) (by omega) (by omega) (fun υ hυ hue => ?_)
        rw [e102] at hυ ⊢
        exact fin _ υ hυ (he.trans hue) R.2.1 R.2.2.1 R.2.2.2.1 hQ
      · rw [if_neg e2] at hQ
        exact fin (l.1, 0) τ hτ he List.prefix_rfl (by simp) (fun q => absurd q e2) hQ
    refine sm_flat (by omega) (by omega) ⟨by have := gfl_02 (t % 16) 15; omega, fun e2 => ?_, fun e2 => ?_⟩
    · rw [if_pos e2] at h P
      have hcc := gfl_2.mp e2
      refine sm_over2 hg (by omega) a0 a1 n0 n1 b0 b1 m0 m1 (by omega) (by omega) (fun τ hτ he => ?_)
      exact last _ τ hτ he P.2.1 P.2.2.1 P.2.2.2.1 h
    · rw [if_neg e2] at h
      exact last (L, 0) σ hg mE.rf List.prefix_rfl (by simp) (fun q => absurd q e2) h
