/-! the model's findRoots -/
def mcov (σ τ υ : zS) (L : Gr) : Prop := zsm [125, 126, 127, 131] τ υ ∧ ∀ i : Int, 0 ≤ i → i < L.length → υ 125 i = ind (LV σ L i) ∧ υ 126 i = ind (RT σ L i) ∧ υ 127 i = usN σ L i ∧ υ 131 i = 0
theorem sm_logic {τ : zS} {Q : Int → zS → Prop} {i k : Int} (i0 : 0 ≤ i) (i1 : i < 48) (hk : τ 114 i = k) (k0 : 0 ≤ k) (k1 : k < 4) (h0 : k < 2 → Q 0 τ) (h1 : 2 ≤ k → Q 1 τ) : wp_MM_logic Q i τ := ⟨i0, i1, by omega, fun q => h0 (by omega), fun q => h1 (by omega)⟩
theorem ind2 (a : Int) (P : Prop) (hp : ¬ P → a < 2) (hq : P → 2 ≤ a) : (a < 2 → ind P = 0) ∧ (2 ≤ a → ind P = 1) := ⟨fun q => ind_f (fun r => by have := hq r; omega), fun q => ind_t (Classical.byContradiction fun r => by have := hp r; omega)⟩
theorem sm_findRoots {σ τ : zS} {L : Gr} {pt : Int → Pat} {Q : zS → Prop} (h : BW σ L pt) (hu : ¬ und σ L) (T : ∀ f, 100 ≤ f → τ f = σ f) (hQ : ∀ υ, mcov σ τ υ L → Q υ) : wp_MM_findRoots Q τ := by
  have e113 := h.e113
  have hl := h.len
  have o0 := h.o0
  have o1 := h.o1
  have o2 := h.o2
  have n0 := h.n0
  have n1 := h.n1
  have n2 := h.n2
  have KN : ∀ i : Int, 0 ≤ i → i < L.length → σ 114 i = σ 1 i ∧ σ 115 i = σ 2 i ∧ σ 116 i = σ 3 i ∧ 0 ≤ σ 1 i ∧ σ 1 i < 4 := fun i i0 i1 => by
    have := h.nd i0 i1
    exact ⟨this.1, this.2.1, this.2.2.1, by omega, by omega⟩
  refine lp_for (lp := fun n v a => lp_MM_findRoots_2 Q n v a) (fun v υ => 0 ≤ v ∧ zsm [125, 126, 127, 131] τ υ ∧ ∀ i : Int, 0 ≤ i → i < v → υ 125 i = 0 ∧ υ 126 i = 0 ∧ υ 127 i = 0 ∧ υ 131 i = 0) 48 (fun n v υ hv hI nx => ?_) 0 τ (by omega) ⟨by omega, zsm.rf, fun i i0 i1 => absurd i1 (by omega)⟩
  obtain ⟨v0, us, hI⟩ := hI
  have U : ∀ f, 100 ≤ f → f ∉ [125, 126, 127, 131] → υ f = σ f := fun f h1 h2 => (us f h2).trans (T f h1)
  refine ⟨by omega, fun q => ?_, fun q => ⟨v0, by omega, ?_⟩⟩
  · have hI : ∀ i : Int, 0 ≤ i → i < L.length → υ 125 i = 0 ∧ υ 126 i = 0 ∧ υ 127 i = 0 ∧ υ 131 i = 0 := fun i i0 i1 => hI i i0 (by omega)
    clear nx
    -- what is needed, net by net
    have need : ∀ (A B : Int → Prop) (Q' : zS → Prop) (j : Int) (ω : zS), zsm [125, 126] υ ω → (∀ i : Int, 0 ≤ i → i < L.length → ω 125 i = ind (A i) ∧ ω 126 i = ind (2 ≤ σ 1 i ∧ A i)) → 0 ≤ j → j < σ 40 1 → (∀ i : Int, B i ↔ A i ∨ i = σ 42 j) → (∀ ω', zsm [125, 126] υ ω' → (∀ i : Int, 0 ≤ i → i < L.length → ω' 125 i = ind (B i) ∧ ω' 126 i = ind (2 ≤ σ 1 i ∧ B i)) → Q' ω') → wp_MM_needed Q' j ω := by
      intro A B Q' j ω ws hA j0 j1 hB hq
      have hn := h.net j j0 j1
      have W : ∀ f, 100 ≤ f → f ∉ [125, 126, 127, 131] → ω f = σ f := fun f h1 h2 => (ws f (fun q => h2 (by revert q; simp; omega))).trans (U f h1 h2)
      have kn := KN _ hn.1 hn.2.1
      refine ⟨j0, by omega, ?_⟩
      intro y hy
      rw [W 102 (by decide) (by decide), hn.2.2.1] at hy
      rw [hy]
      refine ⟨hn.1, by omega, ?_⟩
      rintro _ rfl
      have fin : ∀ b, b = ind (2 ≤ σ 1 (σ 42 j)) → Q' (zup (zup ω 125 (σ 42 j) 1) 126 (σ 42 j) b) := by
        rintro b rfl
        refine hq _ ((ws.up (by decide)).up (by decide)) (fun i i0 i1 => ?_)
        rw [zup_ne _ _ _ _ (by decide), zup_or, zup_or, zup_ne _ _ _ _ (by decide)]
        by_cases e : i = σ 42 j
        · rw [if_pos e, if_pos e, ind_t ((hB i).mpr (Or.inr e)), e]
          exact ⟨rfl, ind_iff ⟨fun q => ⟨q, (hB _).mpr (Or.inr rfl)⟩, fun q => q.1⟩⟩
        · have : B i ↔ A i := ⟨fun q => ((hB i).mp q).elim id (fun q => absurd q e), fun q => (hB i).mpr (Or.inl q)⟩
          rw [if_neg e, if_neg e, (hA i i0 i1).1, (hA i i0 i1).2]
          exact ⟨ind_iff this.symm, ind_iff ⟨fun q => ⟨q.1, this.mpr q.2⟩, fun q => ⟨q.1, this.mp q.2⟩⟩⟩
      refine sm_logic hn.1 (by omega) (by rw [zup_ne _ _ _ _ (by decide), W 114 (by decide) (by decide)]; exact kn.1) kn.2.2.2.1 kn.2.2.2.2 (fun q => ⟨Or.inl rfl, ?_⟩) (fun q => ⟨Or.inr rfl, ?_⟩)
      · rintro _ rfl
        exact fin 0 (ind_f (by omega)).symm
      · rintro _ rfl
        exact fin 1 (ind_t q).symm
    -- the outputs
    refine lp_for (lp := fun n v a => lp_MM_findRoots_44 Q n v a) (fun v ω => 0 ≤ v ∧ zsm [125, 126] υ ω ∧ ∀ i : Int, 0 ≤ i → i < L.length → ω 125 i = ind (∃ k : Int, 0 ≤ k ∧ k < v ∧ σ 45 k = i) ∧ ω 126 i = ind (2 ≤ σ 1 i ∧ ∃ k : Int, 0 ≤ k ∧ k < v ∧ σ 45 k = i)) (σ 40 4) (fun n v ω hv hJ nx => ?_) 0 υ o0 ⟨by omega, zsm.rf, fun i i0 i1 => by
      rw [ind_f (by rintro ⟨k, k0, k1, _⟩; omega), ind_f (by rintro ⟨_, k, k0, k1, _⟩; omega)]
      exact ⟨(hI i i0 i1).1, (hI i i0 i1).2.1⟩⟩
    obtain ⟨v0, ws, hJ⟩ := hJ
    have W : ∀ f, 100 ≤ f → f ∉ [125, 126, 127, 131] → ω f = σ f := fun f h1 h2 => (ws f (fun q => h2 (by revert q; simp; omega))).trans (U f h1 h2)
    unfold lp_MM_findRoots_44
    rw [W 118 (by decide) (by decide), W 119 (by decide) (by decide)]
    refine ⟨by omega, by omega, fun q => ?_, fun q => ?_⟩
    · have hv4 : v = σ 40 4 := by omega
      subst hv4
      clear nx
      -- the latches
      refine lp_for (lp := fun n v a => lp_MM_findRoots_70 Q n v a) (fun v ω => 0 ≤ v ∧ zsm [125, 126] υ ω ∧ ∀ i : Int, 0 ≤ i → i < L.length → ω 125 i = ind ((∃ k : Int, 0 ≤ k ∧ k < σ 40 4 ∧ σ 45 k = i) ∨ ∃ j : Int, 0 ≤ j ∧ j < v ∧ σ 101 j = 1 ∧ σ 42 (σ 105 j) = i) ∧ ω 126 i = ind (2 ≤ σ 1 i ∧ ((∃ k : Int, 0 ≤ k ∧ k < σ 40 4 ∧ σ 45 k = i) ∨ ∃ j : Int, 0 ≤ j ∧ j < v ∧ σ 101 j = 1 ∧ σ 42 (σ 105 j) = i))) (σ 40 1) (fun n v ξ hv hK nx => ?_) 0 ω n0 ⟨by omega, ws, fun i i0 i1 => by
        rw [show ((∃ k : Int, 0 ≤ k ∧ k < σ 40 4 ∧ σ 45 k = i) ∨ ∃ j : Int, 0 ≤ j ∧ j < 0 ∧ σ 101 j = 1 ∧ σ 42 (σ 105 j) = i) = (∃ k : Int, 0 ≤ k ∧ k < σ 40 4 ∧ σ 45 k = i) from propext ⟨fun q => q.elim id (fun ⟨k, k0, k1, _⟩ => absurd k1 (by omega)), Or.inl⟩]
        exact hJ i i0 i1⟩
      obtain ⟨v0, xs', hK⟩ := hK
      have X : ∀ f, 100 ≤ f → f ∉ [125, 126, 127, 131] → ξ f = σ f := fun f h1 h2 => (xs' f (fun q => h2 (by revert q; simp; omega))).trans (U f h1 h2)
      unfold lp_MM_findRoots_70
      rw [X 100 (by decide) (by decide), X 101 (by decide) (by decide), X 105 (by decide) (by decide), X 113 (by decide) (by decide)]
      refine ⟨by omega, by omega, fun q => ?_, fun q => ?_⟩
      · have hv3 : v = σ 40 1 := by omega
        subst hv3
        clear nx
        rintro _ rfl
        have hP : ∀ i : Int, ((∃ k : Int, 0 ≤ k ∧ k < σ 40 4 ∧ σ 45 k = i) ∨ ∃ j : Int, 0 ≤ j ∧ j < σ 40 1 ∧ σ 101 j = 1 ∧ σ 42 (σ 105 j) = i) ↔ pinP σ L i := fun i => by
          have key : ∀ l : Int, 0 ≤ l → l < L.length → σ 1 l = 1 → σ 5 l = σ 42 (σ 105 (σ 117 l)) := fun l l0 l1 l2 => by
            rcases (h.lan l l0 l1 l2).2.2.2.2.2.2 with ⟨a1, a2⟩ | ⟨a1, a2, a3⟩
            · exact absurd ⟨l, l0, l1, l2, by omega⟩ hu
            · exact a3
          constructor
          · rintro (q | ⟨j, j0, j1, j2, j3⟩)
            · exact Or.inl q
            · have hh := h.net j j0 j1
              have hf := h.leaf j j0 j1 (by omega)
              refine Or.inr ⟨σ 42 j, hh.1, hh.2.1, by omega, ?_⟩
              rw [key _ hh.1 hh.2.1 (by omega), hf.1]
              exact j3
          · rintro (q | ⟨l, l0, l1, l2, l3⟩)
            · exact Or.inl q
            · have hh := h.lnet l l0 l1 (by omega)
              exact Or.inr ⟨σ 117 l, hh.1, hh.2.1, by omega, by rw [← key l l0 l1 l2]; exact l3⟩
        -- downward
        refine lp_dn (lp := fun n v a => lp_MM_findRoots_111 Q n v a) (fun v ζ => v < L.length ∧ zsm [125, 127] ξ ζ ∧ ∀ i : Int, 0 ≤ i → i < L.length → ζ 125 i = ind (lvA σ L v i) ∧ ζ 127 i = usA σ L v i) (fun n v ζ hv hM nx => ?_) _ ξ (by omega) ⟨by omega, zsm.rf, fun i i0 i1 => by
          rw [e113, usA_top, ind_iff lvA_top, ← ind_iff (hP i), xs' 127 (by decide)]
          exact ⟨(hK i i0 i1).1, (hI i i0 i1).2.2.1⟩⟩
        obtain ⟨v1, zs, hM⟩ := hM
        have Z : ∀ f, 100 ≤ f → f ∉ [125, 126, 127, 131] → ζ f = σ f := fun f h1 h2 => (zs f (fun q => h2 (by revert q; simp; omega))).trans (X f h1 h2)
        unfold lp_MM_findRoots_111
        refine ⟨by omega, fun q => ?_, fun q => ?_⟩
        · have hv1 : v = -1 := by omega
          subst hv1
          clear nx
          -- the roots
          refine lp_for (lp := fun n v a => lp_MM_findRoots_204 Q n v a) (fun v θ => 0 ≤ v ∧ zsm [126] ζ θ ∧ ∀ i : Int, 0 ≤ i → i < L.length → θ 126 i = if i < v then ind (RT σ L i) else ζ 126 i) (L.length : Int) (fun n v θ hv hN nx => ?_) 0 ζ (by omega) ⟨by omega, zsm.rf, fun i i0 i1 => by rw [if_neg (by omega)]⟩
          obtain ⟨v0, ths, hN⟩ := hN
          have Th : ∀ f, 100 ≤ f → f ∉ [125, 126, 127, 131] → θ f = σ f := fun f h1 h2 => (ths f (fun q => h2 (by revert q; simp; omega))).trans (Z f h1 h2)
          unfold lp_MM_findRoots_204
          rw [Th 113 (by decide) (by decide)]
          refine ⟨by omega, by omega, fun q2 => ?_, fun q2 => ?_⟩
          · refine hQ θ ⟨(((us.mono (by decide)).trans (xs'.mono (by decide))).trans (zs.mono (by decide))).trans (ths.mono (by decide)), fun i i0 i1 => ?_⟩
            have a := hM i i0 i1
            have b := hN i i0 i1
            rw [if_pos (by omega)] at b
            rw [ths 125 (by decide), a.1, ind_iff lvA_bot, b, ths 127 (by decide), a.2, usA_bot, ths 131 (by decide), zs 131 (by decide), xs' 131 (by decide)]
            exact ⟨rfl, rfl, rfl, (hI i i0 i1).2.2.2⟩
          · have v1' : v < L.length := by omega
            have kn := KN v v0 v1'
            have b := hN v v0 v1'
            rw [if_neg (by omega), zs 126 (by decide), (hK v v0 v1').2, ind_iff (show (2 ≤ σ 1 v ∧ ((∃ k : Int, 0 ≤ k ∧ k < σ 40 4 ∧ σ 45 k = v) ∨ ∃ j : Int, 0 ≤ j ∧ j < σ 40 1 ∧ σ 101 j = 1 ∧ σ 42 (σ 105 j) = v)) ↔ (2 ≤ σ 1 v ∧ pinP σ L v) from ⟨fun q => ⟨q.1, (hP v).mp q.2⟩, fun q => ⟨q.1, (hP v).mpr q.2⟩⟩)] at b
            have b01 := ind_01 (2 ≤ σ 1 v ∧ pinP σ L v)
            have h127 : θ 127 v = usN σ L v := by rw [ths 127 (by decide), (hM v v0 v1').2, usA_bot]
            have ug := cnt_ge (fun k => LV σ L k ∧ prt σ k v) L.length
            have ul := cnt_le (fun k => LV σ L k ∧ prt σ k v) L.length
            have hz : zc (usN σ L v) := by unfold usN; omega
            have fin : ∀ z, (z = 0 ∨ z = 1) → z = ind (RT σ L v) → bk_MM_findRoots_249 Q (lp_MM_findRoots_204 Q n) v z v θ := by
              intro z hz1 hz2
              refine ⟨v0, by omega, hz1, ?_⟩
              rintro _ rfl
              refine nx (by omega) _ ⟨by omega, ths.up (by decide), fun i i0 i1 => ?_⟩
              rw [zup_or]
              by_cases e : i = v
              · rw [if_pos e, if_pos (by omega), e]
                exact hz2
              · rw [if_neg e, hN i i0 i1]
                by_cases e2 : i < v
                · rw [if_pos e2, if_pos (by omega)]
                · rw [if_neg e2, if_neg (by omega)]
            refine ⟨v0, by omega, by omega, fun q3 => ?_, fun q3 => ?_⟩
            · have hnp : ¬ (2 ≤ σ 1 v ∧ pinP σ L v) := fun r => by rw [b, ind_t r] at q3; omega
              refine sm_logic v0 (by omega) (by rw [Th 114 (by decide) (by decide)]; exact kn.1) kn.2.2.2.1 kn.2.2.2.2 (fun q4 => ⟨by decide, fun _ => fin 0 (Or.inl rfl) (ind_f (fun r => by have := r.1; omega)).symm, fun q5 => absurd rfl q5⟩) (fun q4 => ⟨by decide, fun q5 => absurd q5 (by decide), fun _ => ⟨by rw [h127]; exact hz, fun q5 => fin 0 (Or.inl rfl) (ind_f (fun r => ?_)).symm, fun q5 => fin 1 (Or.inr rfl) (ind_t ⟨q4, Or.inr (by omega)⟩).symm⟩⟩)
              rcases r.2 with r | r
              · exact hnp ⟨q4, r⟩
              · omega
            · have hp : 2 ≤ σ 1 v ∧ pinP σ L v := Classical.byContradiction fun r => q3 (by rw [b, ind_f r])
              exact fin 1 (Or.inr rfl) (ind_t ⟨hp.1, Or.inl hp.2⟩).symm
        · have v0 : 0 ≤ v := by omega
          have hn := h.nd v0 v1
          have kn := KN v v0 v1
          have h9 := (hM v v0 v1).1
          rw [ind_iff (lvA_at h)] at h9
          have h901 := ind_01 (LV σ L v)
          have skip : ¬ (LV σ L v ∧ 2 ≤ σ 1 v) → lp_MM_findRoots_111 Q n (v + -1) ζ := fun hno => nx v0 ζ ⟨by omega, zs, fun i i0 i1 => by
            have a := hM i i0 i1
            have hno' : ¬ (LV σ L v ∧ prt σ v i) := fun q => hno ⟨q.1, q.2.1⟩
            rw [usA_step v0 v1, ind_f hno', Int.add_zero, ind_iff (lvA_step v1), ind_iff (show lvA σ L v i ∨ (LV σ L v ∧ prt σ v i) ↔ lvA σ L v i from ⟨fun q => q.elim id (fun q => absurd q hno'), Or.inl⟩)]
            exact a⟩
          refine ⟨v0, by omega, by omega, fun q2 => skip (fun q3 => by rw [h9, ind_t q3.1] at q2; omega), fun q2 => ?_⟩
          have hlv : LV σ L v := Classical.byContradiction fun q4 => q2 (by rw [h9, ind_f q4])
          refine sm_logic v0 (by omega) (by rw [Z 114 (by decide) (by decide)]; exact kn.1) kn.2.2.2.1 kn.2.2.2.2 (fun q4 => ⟨by decide, fun _ => skip (fun q5 => by omega), fun q5 => absurd rfl q5⟩) (fun hk2 => ⟨by decide, fun q5 => absurd q5 (by decide), fun _ => ?_⟩)
          have hx : 0 ≤ σ 2 v ∧ σ 2 v < v := by omega
          have fin : ∀ ζ', zsm [125, 127] ξ ζ' → (∀ i : Int, 0 ≤ i → i < L.length → ζ' 125 i = (if i = σ 2 v ∨ i = σ 3 v then 1 else ζ 125 i) ∧ ζ' 127 i = (if i = σ 2 v ∨ i = σ 3 v then ζ 127 i + 1 else ζ 127 i)) → lp_MM_findRoots_111 Q n (v + -1) ζ' := fun ζ' zs2 hx2 => nx v0 ζ' ⟨by omega, zs2, fun i i0 i1 => by
            obtain ⟨b1, b2⟩ := hx2 i i0 i1
            have a := hM i i0 i1
            have hpr : prt σ v i ↔ (i = σ 2 v ∨ i = σ 3 v) := ⟨fun q => by have := q.2.2; omega, fun q => ⟨hk2, i0, by omega⟩⟩
            rw [b1, b2, usA_step v0 v1, ind_iff (lvA_step v1)]
            by_cases e : i = σ 2 v ∨ i = σ 3 v
            · rw [if_pos e, if_pos e, ind_t (Or.inr ⟨hlv, hpr.mpr e⟩), ind_t (show LV σ L v ∧ prt σ v i from ⟨hlv, hpr.mpr e⟩), a.2]
              exact ⟨rfl, rfl⟩
            · have hno' : ¬ (LV σ L v ∧ prt σ v i) := fun q => e (hpr.mp q.2)
              rw [if_neg e, if_neg e, ind_f hno', Int.add_zero, ind_iff (show lvA σ L v i ∨ (LV σ L v ∧ prt σ v i) ↔ lvA σ L v i from ⟨fun q => q.elim id (fun q => absurd q hno'), Or.inl⟩)]
              exact a⟩
          have z115 : ζ 115 v = σ 2 v := by rw [Z 115 (by decide) (by decide)]; exact kn.2.1
          have z116 : ζ 116 v = σ 3 v := by rw [Z 116 (by decide) (by decide)]; exact kn.2.2.1
          have z114 : ζ 114 v = σ 1 v := by rw [Z 114 (by decide) (by decide)]; exact kn.1
          rw [z115]
          refine ⟨hx.1, by omega, ?_⟩
          rintro _ rfl
          rw [zup_ne _ _ _ _ (by decide), z115]
          refine ⟨hx.1, by omega, ?_⟩
          rintro _ rfl
          rw [zup_ne _ _ _ _ (by decide), zup_ne _ _ _ _ (by decide), z114]
          refine ⟨by omega, fun q5 => ?_, fun q5 => ?_⟩
          · have hk : σ 2 v ≠ σ 3 v := by omega
            have e3 : 0 ≤ σ 3 v ∧ σ 3 v < v := by omega
            rw [zup_ne _ _ _ v (by decide), zup_ne _ _ _ v (by decide), z116]
            refine ⟨e3.1, by omega, ?_⟩
            rintro _ rfl
            rw [zup_ne _ _ _ v (by decide), zup_ne _ _ _ v (by decide), zup_ne _ _ _ v (by decide), z116]
            refine ⟨e3.1, by omega, ?_⟩
            rintro _ rfl
            refine fin _ ((((zs.up (by decide)).up (by decide)).up (by decide)).up (by decide)) (fun i i0 i1 => ?_)
            by_cases e : i = σ 2 v
            · simp [zup, e, hk]
            · by_cases e' : i = σ 3 v
              · have e2 : ¬ σ 3 v = σ 2 v := fun q => hk q.symm
                simp [zup, e', e2]
              · simp [zup, e, e']
          · have e3 : σ 3 v = -1 := by omega
            refine fin _ ((zs.up (by decide)).up (by decide)) (fun i i0 i1 => ?_)
            have e' : ¬ i = σ 3 v := by omega
            by_cases e : i = σ 2 v
            · simp [zup, e]
            · simp [zup, e, e']
      · have hh := h.net v v0 (by omega)
        refine ⟨v0, by omega, by omega, fun q2 => ?_, fun q2 => nx (by omega) ξ ⟨by omega, xs', fun i i0 i1 => ?_⟩⟩
        · have hf := h.leaf v v0 (by omega) (by omega)
          have hd : 0 ≤ σ 105 v ∧ σ 105 v < σ 40 1 := by
            have ha := (h.lan (σ 42 v) hh.1 hh.2.1 (by omega)).2.2.2.2.2.2
            rw [hf.1] at ha
            rcases ha with ⟨a1, a2⟩ | ⟨a1, a2, a3⟩
            · exact absurd ⟨_, hh.1, hh.2.1, by omega, by omega⟩ hu
            · exact ⟨a1, a2⟩
          refine need _ (fun i => (∃ k : Int, 0 ≤ k ∧ k < σ 40 4 ∧ σ 45 k = i) ∨ ∃ j : Int, 0 ≤ j ∧ j < v + 1 ∧ σ 101 j = 1 ∧ σ 42 (σ 105 j) = i) _ _ ξ xs' hK hd.1 hd.2 (fun i => ?_) (fun ω' ws' hw => nx (by omega) ω' ⟨by omega, ws', hw⟩)
          constructor
          · rintro (q | ⟨j, j0, j1, j2, j3⟩)
            · exact Or.inl (Or.inl q)
            · by_cases e : j = v
              · rw [e] at j3
                exact Or.inr j3.symm
              · exact Or.inl (Or.inr ⟨j, j0, by omega, j2, j3⟩)
          · rintro ((q | ⟨j, j0, j1, j2, j3⟩) | q)
            · exact Or.inl q
            · exact Or.inr ⟨j, j0, by omega, j2, j3⟩
            · exact Or.inr ⟨v, v0, by omega, q2, q.symm⟩
        · have : ((∃ k : Int, 0 ≤ k ∧ k < σ 40 4 ∧ σ 45 k = i) ∨ ∃ j : Int, 0 ≤ j ∧ j < v + 1 ∧ σ 101 j = 1 ∧ σ 42 (σ 105 j) = i) = ((∃ k : Int, 0 ≤ k ∧ k < σ 40 4 ∧ σ 45 k = i) ∨ ∃ j : Int, 0 ≤ j ∧ j < v ∧ σ 101 j = 1 ∧ σ 42 (σ 105 j) = i) := propext (by
            constructor
            · rintro (q | ⟨j, j0, j1, j2, j3⟩)
              · exact Or.inl q
              · by_cases e : j = v
                · rw [e] at j2; exact absurd j2 q2
                · exact Or.inr ⟨j, j0, by omega, j2, j3⟩
            · rintro (q | ⟨j, j0, j1, j2, j3⟩)
              · exact Or.inl q
              · exact Or.inr ⟨j, j0, by omega, j2, j3⟩)
          rw [this]
          exact hK i i0 i1
    · have ho := h.out v v0 (by omega)
      refine ⟨v0, by omega, need _ (fun i => ∃ k : Int, 0 ≤ k ∧ k < v + 1 ∧ σ 45 k = i) _ _ ω ws hJ ho.1 ho.2.1 (fun i => ?_) (fun ω' ws' hw => nx (by omega) ω' ⟨by omega, ws', hw⟩)⟩
      rw [← ho.2.2]
      constructor
      · rintro ⟨k, k0, k1, k2⟩
        by_cases e : k = v
        · rw [e] at k2
          exact Or.inr k2.symm
        · exact Or.inl ⟨k, k0, by omega, k2⟩
      · rintro (⟨k, k0, k1, k2⟩ | q)
        · exact ⟨k, k0, by omega, k2⟩
        · exact ⟨v, v0, by omega, q.symm⟩
  · rintro _ rfl _ rfl _ rfl _ rfl
    refine nx (by omega) _ ⟨by omega, (((us.up (by decide)).up (by decide)).up (by decide)).up (by decide), fun i i0 i1 => ?_⟩
    by_cases e : i = v
    · subst e
      simp [zup]
    · have := hI i i0 (by omega)
      simp only [zup, if_neg e]
      simpa using this
