/-! what is live, what is a root: plain, then both sides -/
def pinP (σ : zS) (L : Gr) (i : Int) : Prop := (∃ k : Int, 0 ≤ k ∧ k < σ 40 4 ∧ σ 45 k = i) ∨ ∃ l : Int, 0 ≤ l ∧ l < L.length ∧ σ 1 l = 1 ∧ σ 5 l = i
def prt (σ : zS) (k i : Int) : Prop := 2 ≤ σ 1 k ∧ 0 ≤ i ∧ (σ 2 k = i ∨ σ 3 k = i)
def LV (σ : zS) (L : Gr) (i : Int) : Prop := ∀ P : Int → Prop, (∀ j, pinP σ L j → P j) → (∀ k j : Int, 0 ≤ k → k < L.length → P k → prt σ k j → P j) → P i
theorem LV.pin {σ : zS} {L : Gr} {i : Int} (h : pinP σ L i) : LV σ L i := fun _ h1 _ => h1 i h
theorem LV.dn {σ : zS} {L : Gr} {k i : Int} (k0 : 0 ≤ k) (k1 : k < L.length) (h : LV σ L k) (hp : prt σ k i) : LV σ L i := fun P h1 h2 => h2 k i k0 k1 (h P h1 h2) hp
theorem LV.inv {σ : zS} {L : Gr} {i : Int} (h : LV σ L i) : pinP σ L i ∨ ∃ k : Int, 0 ≤ k ∧ k < L.length ∧ LV σ L k ∧ prt σ k i :=
  (h (fun i => LV σ L i ∧ (pinP σ L i ∨ ∃ k : Int, 0 ≤ k ∧ k < L.length ∧ LV σ L k ∧ prt σ k i)) (fun j hj => ⟨LV.pin hj, Or.inl hj⟩) (fun k j k0 k1 hk hp => ⟨LV.dn k0 k1 hk.1 hp, Or.inr ⟨k, k0, k1, hk.1, hp⟩⟩)).2
noncomputable def usN (σ : zS) (L : Gr) (i : Int) : Int := cnt (fun k => LV σ L k ∧ prt σ k i) L.length
def RT (σ : zS) (L : Gr) (i : Int) : Prop := 2 ≤ σ 1 i ∧ (pinP σ L i ∨ 1 < usN σ L i)
noncomputable def ro (σ : zS) (L : Gr) (i : Int) : Int := ind (RT σ L i)
theorem RT.lv {σ : zS} {L : Gr} {i : Int} (h : RT σ L i) : LV σ L i := by
  rcases h.2 with h | h
  · exact LV.pin h
  · obtain ⟨k, k0, k1, k2, k3⟩ := cnt_ex (p := fun k => LV σ L k ∧ prt σ k i) L.length (by unfold usN at h; omega)
    exact LV.dn k0 k1 k2 k3
theorem pinP_b {σ : zS} {L : Gr} {pt : Int → Pat} (h : BW σ L pt) (hu : ¬ und σ L) {i : Int} (hp : pinP σ L i) : 0 ≤ i ∧ i < L.length := by
  rcases hp with ⟨k, k0, k1, rfl⟩ | ⟨l, l0, l1, l2, rfl⟩
  · obtain ⟨a1, a2, a3⟩ := h.out k k0 k1
    rw [a3]
    exact ⟨(h.net _ a1 a2).1, (h.net _ a1 a2).2.1⟩
  · rcases (h.lan l l0 l1 l2).2.2.2.2.2.2 with ⟨a1, a2⟩ | ⟨a1, a2, a3⟩
    · exact absurd ⟨l, l0, l1, l2, by omega⟩ hu
    · rw [a3]
      exact ⟨(h.net _ a1 a2).1, (h.net _ a1 a2).2.1⟩
theorem prt_b {σ : zS} {L : Gr} {pt : Int → Pat} (h : BW σ L pt) {k i : Int} (k0 : 0 ≤ k) (k1 : k < L.length) (hp : prt σ k i) : 0 ≤ i ∧ i < k := by
  have := (h.nd k0 k1).2.2.2.2.2
  obtain ⟨a1, a2, a3⟩ := hp
  omega
theorem LV_b {σ : zS} {L : Gr} {pt : Int → Pat} (h : BW σ L pt) (hu : ¬ und σ L) {i : Int} (hi : LV σ L i) : 0 ≤ i ∧ i < L.length := by
  rcases hi.inv with hp | ⟨k, k0, k1, k2, k3⟩
  · exact pinP_b h hu hp
  · have := prt_b h k0 k1 k3
    omega
theorem zsum_pt {f g : Int → Int} {v : Int} : ∀ (n : Nat), (∀ i : Int, i ≠ v → f i = g i) → 0 ≤ v → v < n → zsum g n = zsum f n + (g v - f v)
  | 0, _, h0, h1 => by omega
  | n + 1, h, h0, h1 => by
    simp only [zsum]
    by_cases e : v = n
    · rw [← e, zsum_congr (f := f) (g := g) n (fun i i0 i1 => h i (by omega))]
      omega
    · rw [zsum_pt n h h0 (by omega), h n (fun q => e q.symm)]
      omega
theorem cnt_pt {p q : Int → Prop} {v : Int} (n : Nat) (h : ∀ i : Int, i ≠ v → (p i ↔ q i)) (hv : ¬ p v) (h0 : 0 ≤ v) (h1 : v < n) : cnt q n = cnt p n + ind (q v) := by
  have := zsum_pt (f := fun i => ind (p i)) (g := fun i => ind (q i)) n (fun i hi => ind_iff (h i hi)) h0 h1
  rw [ind_f hv] at this
  unfold cnt
  omega
/-- what is known of the readers above v -/
def lvA (σ : zS) (L : Gr) (v i : Int) : Prop := pinP σ L i ∨ ∃ k : Int, v < k ∧ k < L.length ∧ LV σ L k ∧ prt σ k i
noncomputable def usA (σ : zS) (L : Gr) (v i : Int) : Int := cnt (fun k => v < k ∧ LV σ L k ∧ prt σ k i) L.length
theorem lvA_at {σ : zS} {L : Gr} {pt : Int → Pat} (h : BW σ L pt) {v : Int} : lvA σ L v v ↔ LV σ L v := by
  constructor
  · rintro (q | ⟨k, k0, k1, k2, k3⟩)
    · exact LV.pin q
    · by_cases kk : 0 ≤ k
      · exact LV.dn kk k1 k2 k3
      · exfalso
        have := k3.2.1
        omega
  · intro q
    rcases q.inv with q | ⟨k, k0, k1, k2, k3⟩
    · exact Or.inl q
    · exact Or.inr ⟨k, (prt_b h k0 k1 k3).2, k1, k2, k3⟩
theorem lvA_top {σ : zS} {L : Gr} {i : Int} : lvA σ L ((L.length : Int) - 1) i ↔ pinP σ L i := ⟨fun q => by
  rcases q with q | ⟨k, k0, k1, _⟩
  · exact q
  · omega, Or.inl⟩
theorem lvA_bot {σ : zS} {L : Gr} {i : Int} : lvA σ L (-1) i ↔ LV σ L i := by
  constructor
  · rintro (q | ⟨k, k0, k1, k2, k3⟩)
    · exact LV.pin q
    · exact LV.dn (by omega) k1 k2 k3
  · intro q
    rcases q.inv with q | ⟨k, k0, k1, k2, k3⟩
    · exact Or.inl q
    · exact Or.inr ⟨k, by omega, k1, k2, k3⟩
theorem lvA_step {σ : zS} {L : Gr} {v i : Int} (hv : v < L.length) : lvA σ L (v - 1) i ↔ lvA σ L v i ∨ (LV σ L v ∧ prt σ v i) := by
  constructor
  · rintro (q | ⟨k, k0, k1, k2, k3⟩)
    · exact Or.inl (Or.inl q)
    · by_cases e : k = v
      · subst e
        exact Or.inr ⟨k2, k3⟩
      · exact Or.inl (Or.inr ⟨k, by omega, k1, k2, k3⟩)
  · rintro ((q | ⟨k, k0, k1, k2, k3⟩) | ⟨k2, k3⟩)
    · exact Or.inl q
    · exact Or.inr ⟨k, by omega, k1, k2, k3⟩
    · exact Or.inr ⟨v, by omega, hv, k2, k3⟩
theorem usA_step {σ : zS} {L : Gr} {v i : Int} (v0 : 0 ≤ v) (hv : v < L.length) : usA σ L (v - 1) i = usA σ L v i + ind (LV σ L v ∧ prt σ v i) := by
  have := cnt_pt (p := fun k => v < k ∧ LV σ L k ∧ prt σ k i) (q := fun k => v - 1 < k ∧ LV σ L k ∧ prt σ k i) (v := v) L.length (fun k hk => ⟨fun q => ⟨by omega, q.2⟩, fun q => ⟨by omega, q.2⟩⟩) (fun q => by omega) v0 hv
  unfold usA
  rw [this]
  congr 1
  exact ind_iff ⟨fun q => q.2, fun q => ⟨by omega, q⟩⟩
theorem usA_top {σ : zS} {L : Gr} {i : Int} : usA σ L ((L.length : Int) - 1) i = 0 := cnt_none _ (fun k k0 k1 q => by omega)
theorem usA_bot {σ : zS} {L : Gr} {i : Int} : usA σ L (-1) i = usN σ L i := cnt_congr _ (fun k k0 k1 => ⟨fun q => q.2, fun q => ⟨by omega, q⟩⟩)
/-- x's cover as far as the roots -/
def xcov (σ τ : zS) (L : Gr) : Prop := zsm [9, 10, 11, 12, 14, 16] σ τ ∧ ∀ i : Int, 0 ≤ i → i < L.length → τ 9 i = ind (LV σ L i) ∧ τ 10 i = ind (pinP σ L i) ∧ τ 11 i = 0 ∧ τ 12 i = usN σ L i ∧ τ 14 i = -1 ∧ τ 16 i = 0
theorem sx_live {σ : zS} {L : Gr} {pt : Int → Pat} {Q : zS → Prop} (h : BW σ L pt) (hu : ¬ und σ L) (hQ : ∀ τ, xcov σ τ L → ∃ u, lp_CX_cover_221 Q u 0 τ) : wp_CX_cover Q σ := by
  have e40 := h.e40
  have e70 := h.e70
  have hl := h.len
  have o0 := h.o0
  have o1 := h.o1
  have l0 := h.l0
  have l1 := h.l1
  -- the nodes
  refine lp_for (lp := fun n v a => lp_CX_cover_2 Q n v a) (fun v τ => 0 ≤ v ∧ zsm [9, 10, 11, 12, 14, 16] σ τ ∧ ∀ i : Int, 0 ≤ i → i < v → τ 9 i = 0 ∧ τ 10 i = 0 ∧ τ 11 i = 0 ∧ τ 12 i = 0 ∧ τ 14 i = -1 ∧ τ 16 i = 0) (L.length : Int) (fun n v τ hv hI nx => ?_) 0 σ (by omega) ⟨by omega, zsm.rf, fun i i0 i1 => absurd i1 (by omega)⟩
  obtain ⟨v0, ts, hI⟩ := hI
  unfold lp_CX_cover_2
  rw [ts 40 (by decide), ts 41 (by decide), ts 70 (by decide)]
  refine ⟨by omega, by omega, fun q => ?_, fun q => ?_⟩
  · have hI : ∀ i : Int, 0 ≤ i → i < L.length → τ 9 i = 0 ∧ τ 10 i = 0 ∧ τ 11 i = 0 ∧ τ 12 i = 0 ∧ τ 14 i = -1 ∧ τ 16 i = 0 := fun i i0 i1 => hI i i0 (by omega)
    clear nx
    -- the outputs
    refine lp_for (lp := fun n v a => lp_CX_cover_63 Q n v a) (fun v υ => 0 ≤ v ∧ zsm [9, 10] τ υ ∧ ∀ i : Int, 0 ≤ i → i < L.length → υ 9 i = ind (∃ k : Int, 0 ≤ k ∧ k < v ∧ σ 45 k = i) ∧ υ 10 i = ind (∃ k : Int, 0 ≤ k ∧ k < v ∧ σ 45 k = i)) (σ 40 4) (fun n v υ hv hJ nx => ?_) 0 τ o0 ⟨by omega, zsm.rf, fun i i0 i1 => by
      rw [ind_f (by rintro ⟨k, k0, k1, _⟩; omega)]
      exact ⟨(hI i i0 i1).1, (hI i i0 i1).2.1⟩⟩
    obtain ⟨v0, us, hJ⟩ := hJ
    have U : ∀ f, f ∉ [9, 10, 11, 12, 14, 16] → υ f = σ f := fun f hf => (us f (fun q => hf (by revert q; simp; omega))).trans (ts f hf)
    unfold lp_CX_cover_63
    rw [U 40 (by decide), U 45 (by decide), U 70 (by decide)]
    refine ⟨by omega, by omega, fun q => ?_, fun q => ?_⟩
    · have hv4 : v = σ 40 4 := by omega
      subst hv4
      clear nx
      -- the latches
      refine lp_for (lp := fun n v a => lp_CX_cover_104 Q n v a) (fun v ω => 0 ≤ v ∧ zsm [9, 10] τ ω ∧ ∀ i : Int, 0 ≤ i → i < L.length → ω 9 i = ind ((∃ k : Int, 0 ≤ k ∧ k < σ 40 4 ∧ σ 45 k = i) ∨ ∃ k : Int, 0 ≤ k ∧ k < v ∧ σ 5 (σ 44 k) = i) ∧ ω 10 i = ind ((∃ k : Int, 0 ≤ k ∧ k < σ 40 4 ∧ σ 45 k = i) ∨ ∃ k : Int, 0 ≤ k ∧ k < v ∧ σ 5 (σ 44 k) = i)) (σ 40 3) (fun n v ω hv hK nx => ?_) 0 υ l0 ⟨by omega, us, fun i i0 i1 => by
        rw [show ((∃ k : Int, 0 ≤ k ∧ k < σ 40 4 ∧ σ 45 k = i) ∨ ∃ k : Int, 0 ≤ k ∧ k < 0 ∧ σ 5 (σ 44 k) = i) = (∃ k : Int, 0 ≤ k ∧ k < σ 40 4 ∧ σ 45 k = i) from propext ⟨fun q => q.elim id (fun ⟨k, k0, k1, _⟩ => absurd k1 (by omega)), Or.inl⟩]
        exact hJ i i0 i1⟩
      obtain ⟨v0, ws, hK⟩ := hK
      have W : ∀ f, f ∉ [9, 10, 11, 12, 14, 16] → ω f = σ f := fun f hf => (ws f (fun q => hf (by revert q; simp; omega))).trans (ts f hf)
      unfold lp_CX_cover_104
      rw [W 40 (by decide), W 44 (by decide), W 70 (by decide), W 5 (by decide)]
      refine ⟨by omega, by omega, fun q => ?_, fun q => ?_⟩
      · have hv3 : v = σ 40 3 := by omega
        subst hv3
        clear nx
        rintro _ rfl
        have hP : ∀ i : Int, ((∃ k : Int, 0 ≤ k ∧ k < σ 40 4 ∧ σ 45 k = i) ∨ ∃ k : Int, 0 ≤ k ∧ k < σ 40 3 ∧ σ 5 (σ 44 k) = i) ↔ pinP σ L i := fun i => by
          constructor
          · rintro (q | ⟨k, k0, k1, k2⟩)
            · exact Or.inl q
            · have hh := h.lat k k0 k1
              exact Or.inr ⟨σ 44 k, hh.1, hh.2.1, hh.2.2, k2⟩
          · rintro (q | ⟨l, l0, l1, l2, l3⟩)
            · exact Or.inl q
            · obtain ⟨k, k0, k1, k2⟩ := (h.lan l l0 l1 l2).1
              exact Or.inr ⟨k, k0, k1, by rw [k2]; exact l3⟩
        -- downward
        have ws12 : ω 12 = τ 12 := ws 12 (by decide)
        refine lp_dn (lp := fun n v a => lp_CX_cover_159 Q n v a) (fun v ξ => v < L.length ∧ zsm [9, 12] ω ξ ∧ ∀ i : Int, 0 ≤ i → i < L.length → ξ 9 i = ind (lvA σ L v i) ∧ ξ 12 i = usA σ L v i) (fun n v ξ hv hM nx => ?_) _ ω (by omega) ⟨by omega, zsm.rf, fun i i0 i1 => by
          rw [e40, usA_top, ind_iff lvA_top, ← ind_iff (hP i), ws12]
          exact ⟨(hK i i0 i1).1, (hI i i0 i1).2.2.2.1⟩⟩
        obtain ⟨v1, xs', hM⟩ := hM
        have X : ∀ f, f ∉ [9, 10, 11, 12, 14, 16] → ξ f = σ f := fun f hf => (xs' f (fun q => hf (by revert q; simp; omega))).trans (W f hf)
        unfold lp_CX_cover_159
        rw [X 40 (by decide), X 41 (by decide), X 70 (by decide), X 1 (by decide), X 2 (by decide)]
        refine ⟨by omega, fun q => ?_, fun q => ?_⟩
        · have hv1 : v = -1 := by omega
          subst hv1
          refine hQ ξ ⟨((ts.mono (by decide)).trans (ws.mono (by decide))).trans (xs'.mono (by decide)), fun i i0 i1 => ?_⟩
          have a := hM i i0 i1
          have b := hI i i0 i1
          have c := hK i i0 i1
          rw [a.1, a.2, ind_iff lvA_bot, usA_bot, xs' 10 (by decide), c.2, ind_iff (hP i), xs' 11 (by decide), ws 11 (by decide), xs' 14 (by decide), ws 14 (by decide), xs' 16 (by decide), ws 16 (by decide)]
          exact ⟨rfl, rfl, b.2.2.1, rfl, b.2.2.2.2.1, b.2.2.2.2.2⟩
        · have v0 : 0 ≤ v := by omega
          have hn := h.nd v0 v1
          have h9 := (hM v v0 v1).1
          rw [ind_iff (lvA_at h)] at h9
          rw [hn.2.2.2.1]
          refine ⟨v0, by omega, v0, by omega, ?_⟩
          intro y hy
          rw [hy]
          have h901 := ind_01 (LV σ L v)
          have skip : ¬ (LV σ L v ∧ 2 ≤ σ 1 v) → lp_CX_cover_159 Q n (v + -1) ξ := fun hno => nx v0 ξ ⟨by omega, xs', fun i i0 i1 => by
            have a := hM i i0 i1
            have hno' : ¬ (LV σ L v ∧ prt σ v i) := fun q => hno ⟨q.1, q.2.1⟩
            rw [usA_step v0 v1, ind_f hno', Int.add_zero, ind_iff (lvA_step v1), ind_iff (show lvA σ L v i ∨ (LV σ L v ∧ prt σ v i) ↔ lvA σ L v i from ⟨fun q => q.elim id (fun q => absurd q hno'), Or.inl⟩)]
            exact a⟩
          refine ⟨by omega, fun q2 => skip (fun q3 => ?_), fun q2 => ⟨by omega, by omega, fun q3 => skip (fun q4 => ?_), fun q3 => ?_⟩⟩
          · rw [h9, ind_t q3.1] at q2
            omega
          · unfold lgc at q3
            rw [if_pos q4.2] at q3
            omega
          · have hk2 : 2 ≤ σ 1 v := Classical.byContradiction fun q4 => q3 (by unfold lgc; rw [if_neg q4])
            have hlv : LV σ L v := Classical.byContradiction fun q4 => q2 (by rw [h9, ind_f q4])
            have hx : 0 ≤ σ 2 v ∧ σ 2 v < v := by omega
            have fin : ∀ ξ', zsm [9, 12] ω ξ' → (∀ i : Int, 0 ≤ i → i < L.length → ξ' 9 i = (if i = σ 2 v ∨ i = σ 3 v then 1 else ξ 9 i) ∧ ξ' 12 i = (if i = σ 2 v ∨ i = σ 3 v then ξ 12 i + 1 else ξ 12 i)) → lp_CX_cover_159 Q n (v + -1) ξ' := fun ξ' xs2 hx2 => nx v0 ξ' ⟨by omega, xs2, fun i i0 i1 => by
              obtain ⟨b1, b2⟩ := hx2 i i0 i1
              have a := hM i i0 i1
              have hpr : prt σ v i ↔ (i = σ 2 v ∨ i = σ 3 v) := ⟨fun q => by have := q.2.2; omega, fun q => ⟨hk2, i0, by omega⟩⟩
              rw [b1, b2, usA_step v0 v1, ind_iff (lvA_step v1)]
              by_cases e : i = σ 2 v ∨ i = σ 3 v
              · rw [if_pos e, if_pos e, ind_t (Or.inr ⟨hlv, hpr.mpr e⟩), ind_t (show LV σ L v ∧ prt σ v i from ⟨hlv, hpr.mpr e⟩), a.2]
                exact ⟨rfl, rfl⟩
              · have hno' : ¬ (LV σ L v ∧ prt σ v i) := fun q => e (hpr.mp q.2)
                rw [if_neg e, if_neg e, ind_f hno', Int.add_zero, ind_iff (show lvA σ L v i ∨ (LV σ L v ∧ prt σ v i) ↔ lvA σ L v i from ⟨fun q => q.elim id (fun q => absurd q hno'), Or.inl⟩)]
                exact a⟩
            refine ⟨hx.1, by rw [X 70 (by decide)]; omega, ?_⟩
            rintro _ rfl _ rfl
            refine ⟨v0, ?_, fun q4 => ?_, fun q4 => ⟨by omega, ?_, ?_⟩⟩
            · rw [zup_ne _ _ _ _ (by decide), zup_ne _ _ _ _ (by decide), X 70 (by decide)]
              omega
            · have e3 : σ 3 v < 0 := by
                rw [zup_ne _ _ _ _ (by decide), zup_ne _ _ _ _ (by decide), X 3 (by decide)] at q4
                exact q4
              refine fin _ ((xs'.up (by decide)).up (by decide)) (fun i i0 i1 => ?_)
              rw [zup_ne _ _ _ _ (by decide), zup_or, zup_or, zup_ne _ _ _ _ (by decide), zup_ne _ _ _ _ (by decide)]
              by_cases e : i = σ 2 v
              · rw [if_pos e, if_pos e, if_pos (Or.inl e), if_pos (Or.inl e), e]
                exact ⟨rfl, rfl⟩
              · rw [if_neg e, if_neg e, if_neg (by omega), if_neg (by omega)]
                exact ⟨rfl, rfl⟩
            · rw [zup_ne _ _ _ _ (by decide), zup_ne _ _ _ _ (by decide), zup_ne _ _ _ _ (by decide), zup_ne _ _ _ _ (by decide), X 3 (by decide), X 70 (by decide)]
              omega
            · have e3 : ¬ σ 3 v < 0 := by
                rw [zup_ne _ _ _ _ (by decide), zup_ne _ _ _ _ (by decide), X 3 (by decide)] at q4
                exact q4
              have hk : σ 2 v ≠ σ 3 v := by omega
              have E3 : zup (zup ξ 9 (σ 2 v) 1) 12 (σ 2 v) (zup ξ 9 (σ 2 v) 1 12 (σ 2 v) + 1) 3 v = σ 3 v := by
                rw [zup_ne _ _ _ _ (by decide), zup_ne _ _ _ _ (by decide), X 3 (by decide)]
              rw [E3]
              rintro _ rfl _ rfl
              refine fin _ ((((xs'.up (by decide)).up (by decide)).up (by decide)).up (by decide)) (fun i i0 i1 => ?_)
              by_cases e : i = σ 2 v
              · have e' : ¬ i = σ 3 v := by omega
                have e2 : ¬ σ 2 v = σ 3 v := hk
                simp [zup, e, e2]
              · by_cases e' : i = σ 3 v
                · have e2 : ¬ σ 3 v = σ 2 v := fun q => hk q.symm
                  simp [zup, e', e2]
                · simp [zup, e, e']
      · have hh := h.lat v v0 (by omega)
        have hd : 0 ≤ σ 5 (σ 44 v) ∧ σ 5 (σ 44 v) < L.length := pinP_b h hu (Or.inr ⟨_, hh.1, hh.2.1, hh.2.2, rfl⟩)
        refine ⟨v0, by omega, hh.1, by omega, ?_⟩
        rintro _ rfl
        refine ⟨hd.1, by omega, ?_⟩
        rintro _ rfl
        rw [zup_ne _ _ _ _ (by decide), zup_ne _ _ _ _ (by decide), W 5 (by decide), W 70 (by decide)]
        refine ⟨hd.1, by omega, ?_⟩
        rintro _ rfl
        refine nx (by omega) _ ⟨by omega, (ws.up (by decide)).up (by decide), fun i i0 i1 => ?_⟩
        have c := hK i i0 i1
        rw [zup_ne _ _ _ _ (by decide), zup_or, zup_or, zup_ne _ _ _ _ (by decide), c.1, c.2]
        by_cases e : i = σ 5 (σ 44 v)
        · rw [if_pos e, ind_t (Or.inr ⟨v, v0, by omega, e.symm⟩)]
          exact ⟨rfl, rfl⟩
        · rw [if_neg e]
          have : ((∃ k : Int, 0 ≤ k ∧ k < σ 40 4 ∧ σ 45 k = i) ∨ ∃ k : Int, 0 ≤ k ∧ k < v ∧ σ 5 (σ 44 k) = i) ↔ ((∃ k : Int, 0 ≤ k ∧ k < σ 40 4 ∧ σ 45 k = i) ∨ ∃ k : Int, 0 ≤ k ∧ k < v + 1 ∧ σ 5 (σ 44 k) = i) := by
            constructor
            · rintro (q | ⟨k, k0, k1, k2⟩)
              · exact Or.inl q
              · exact Or.inr ⟨k, k0, by omega, k2⟩
            · rintro (q | ⟨k, k0, k1, k2⟩)
              · exact Or.inl q
              · refine Or.inr ⟨k, k0, ?_, k2⟩
                by_cases e2 : k = v
                · rw [e2] at k2; exact absurd k2.symm e
                · omega
          exact ⟨ind_iff this, ind_iff this⟩
    · have ho : 0 ≤ σ 45 v ∧ σ 45 v < L.length := pinP_b h hu (Or.inl ⟨v, v0, by omega, rfl⟩)
      refine ⟨v0, by omega, ho.1, by omega, ?_⟩
      rintro _ rfl _ rfl _ rfl
      refine nx (by omega) _ ⟨by omega, (us.up (by decide)).up (by decide), fun i i0 i1 => ?_⟩
      have c := hJ i i0 i1
      rw [zup_ne _ _ _ _ (by decide), zup_or, zup_or, zup_ne _ _ _ _ (by decide), c.1, c.2]
      by_cases e : i = σ 45 v
      · rw [if_pos e, ind_t ⟨v, v0, by omega, e.symm⟩]
        exact ⟨rfl, rfl⟩
      · rw [if_neg e]
        have : (∃ k : Int, 0 ≤ k ∧ k < v ∧ σ 45 k = i) ↔ ∃ k : Int, 0 ≤ k ∧ k < v + 1 ∧ σ 45 k = i := by
          constructor
          · rintro ⟨k, k0, k1, k2⟩
            exact ⟨k, k0, by omega, k2⟩
          · rintro ⟨k, k0, k1, k2⟩
            refine ⟨k, k0, ?_, k2⟩
            by_cases e2 : k = v
            · rw [e2] at k2; exact absurd k2.symm e
            · omega
        exact ⟨ind_iff this, ind_iff this⟩
  · have hn := h.nd v0 (show v < L.length by omega)
    rw [hn.2.2.2.1]
    refine ⟨v0, by omega, v0, by omega, ?_⟩
    intro y hy
    rw [hy]
    rintro _ rfl _ rfl _ rfl _ rfl _ rfl _ rfl
    refine nx (by omega) _ ⟨by omega, (((((ts.up (by decide)).up (by decide)).up (by decide)).up (by decide)).up (by decide)).up (by decide), fun i i0 i1 => ?_⟩
    by_cases e : i = v
    · subst e
      simp [zup]
    · have := hI i i0 (by omega)
      simp only [zup, if_neg e]
      simpa using this
