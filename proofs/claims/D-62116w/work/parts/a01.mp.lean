/-! the mapped circuit as both sides hold it -/
/-- there is a connection k -/
def lkX (σ : zS) (n k : Int) : Prop := (0 ≤ k ∧ k < 192 ∧ k / 4 < n ∧ σ 11 (k / 4) = 1 ∧ k % 4 < σ 24 (σ 14 (k / 4))) ∨ (192 ≤ k ∧ k < 192 + σ 40 4)
def MPg (σ : zS) (L : Gr) : Prop := ∀ i : Int, 0 ≤ i → i < L.length → (σ 11 i = 0 ∨ σ 11 i = 1) ∧ σ 131 i = σ 11 i
def MPc (σ : zS) (L : Gr) : Prop := ∀ i : Int, 0 ≤ i → i < L.length → σ 11 i = 1 → 0 ≤ σ 14 i ∧ σ 14 i < σ 40 5 ∧ σ 129 i = σ 14 i ∧ σ 143 i = σ 16 i ∧ 2 ≤ σ 1 i
def MPl (σ : zS) (L : Gr) : Prop := ∀ k : Int, 0 ≤ k → k < 196 → lkX σ L.length k → 0 ≤ σ 51 k ∧ σ 51 k < L.length ∧ (σ 11 (σ 51 k) = 1 ∨ σ 1 (σ 51 k) = 0) ∧ 0 ≤ σ 52 k ∧ σ 52 k ≤ 60 ∧ 0 ≤ σ 53 k ∧ σ 53 k < 2 ^ (σ 52 k).toNat ∧ 0 ≤ σ 54 k ∧ σ 54 k < 2 ^ (σ 52 k).toNat ∧ σ 135 k = σ 51 k ∧ σ 138 k = σ 52 k ∧ σ 139 k = σ 53 k ∧ σ 140 k = σ 54 k
def MPn (σ : zS) (L : Gr) : Prop := ∀ k : Int, 0 ≤ k → k < 196 → ¬ lkX σ L.length k → σ 51 k = -1 ∧ σ 52 k = 0 ∧ σ 135 k = -1
def MPk (σ : zS) (L : Gr) : Prop := ∃ key : Int → Int, ∀ k : Int, 0 ≤ k → k < 192 → lkX σ L.length k → σ 52 k = 0 → σ 11 (σ 51 k) = 1 → key (σ 51 k) < key (k / 4)
def MP (σ : zS) (L : Gr) : Prop := MPg σ L ∧ MPc σ L ∧ σ 58 0 = zsum (fun i => if σ 11 i = 0 then 0 else σ 22 (σ 14 i)) L.length ∧ (σ 144 0 = σ 59 0 ∧ σ 145 0 = σ 60 0) ∧ MPl σ L ∧ MPn σ L ∧ MPk σ L
theorem ppins_le : ∀ (P : Pat), pok P → 2 * ppins P ≤ (pdig P).length + 1
  | .var _, _ => by simp [ppins, pdig]
  | .neg p, h => by
    have := ppins_le p h
    simp only [ppins, pdig, List.length_cons]
    omega
  | .add p q, h => by
    have h1 := ppins_le p h.1
    have h2 := ppins_le q h.2
    simp only [ppins, pdig, List.length_cons, List.length_append]
    omega
  | .num _, h => h.elim
  | .sub _ _, h => h.elim
  | .mulL _ _, h => h.elim
  | .mulR _ _, h => h.elim
theorem ppins_1 : ∀ (P : Pat), pok P → 1 ≤ ppins P
  | .var _, _ => by simp [ppins]
  | .neg p, h => ppins_1 p h
  | .add p q, h => by
    have h1 := ppins_1 p h.1
    simp only [ppins]
    omega
  | .num _, h => h.elim
  | .sub _ _, h => h.elim
  | .mulL _ _, h => h.elim
  | .mulR _ _, h => h.elim
theorem BW.pins {σ : zS} {L : Gr} {pt : Int → Pat} (h : BW σ L pt) {c : Int} (c0 : 0 ≤ c) (c1 : c < σ 40 5) : σ 24 c = ppins (pt c) ∧ 1 ≤ σ 24 c ∧ σ 24 c ≤ 4 := by
  obtain ⟨a1, a2, a3, a4, a5, a6⟩ := h.cpt c c0 c1
  have := ppins_le _ a1
  have := ppins_1 _ a1
  omega
theorem sx_gateAt {σ : zS} {L : Gr} {pt : Int → Pat} {Q : Int → zS → Prop} {a : Int} (h : BW σ L pt) (hm : MP σ L) (ha : zc a) (h1 : 0 ≤ a → a < L.length → σ 11 a = 1 → Q a σ) (h0 : ¬ (0 ≤ a ∧ a < L.length ∧ σ 11 a = 1) → Q (-1) σ) : wp_CX_gateAt Q a σ := by
  have e40 := h.e40
  have e70 := h.e70
  have hl := h.len
  refine ⟨ha, fun q => h0 (by omega), fun q => ⟨by omega, fun q2 => ?_, fun q2 => h0 (by omega)⟩⟩
  have hn := h.nd (show 0 ≤ a by omega) (by omega)
  have hg := (hm.1 a (by omega) (by omega)).1
  rw [hn.2.2.2.1]
  refine ⟨by omega, by omega, by omega, by omega, ?_⟩
  rintro _ rfl
  exact ⟨by omega, fun q3 => h0 (by omega), fun q3 => h1 (by omega) (by omega) (by omega)⟩
theorem sm_isGate {σ : zS} {L : Gr} {pt : Int → Pat} {Q : Int → zS → Prop} {a : Int} (h : BW σ L pt) (hm : MP σ L) (ha : zc a) (h1 : 0 ≤ a → a < L.length → σ 11 a = 1 → Q 1 σ) (h0 : ¬ (0 ≤ a ∧ a < L.length ∧ σ 11 a = 1) → Q 0 σ) : wp_MM_isGate Q a σ := by
  have e113 := h.e113
  have hl := h.len
  refine ⟨ha, fun q => h0 (by omega), fun q => ⟨by omega, fun q2 => h0 (by omega), fun q2 => ?_⟩⟩
  have hg := hm.1 a (by omega) (by omega)
  exact ⟨by omega, by omega, by omega, fun q3 => h0 (by omega), fun q3 => h1 (by omega) (by omega) (by omega)⟩
theorem op_area {σ : zS} {L : Gr} {pt : Int → Pat} {Q : zS → Prop} (h : BW σ L pt) (hm : σ 56 0 = 1 → MP σ L) (hQ : Q σ) : wp_CX_area (fun r τ => wp_MM_area (fun r' υ => r' = r ∧ Q υ) τ) σ := by
  have hp := h.mp
  have hq := h.mq
  have e113 := h.e113
  have hl := h.len
  refine ⟨by omega, fun q => ⟨by omega, fun _ => ⟨rfl, hQ⟩, fun q2 => absurd q2 (by omega)⟩, fun q => ⟨by omega, fun q2 => absurd q2 (by omega), fun _ => ?_⟩⟩
  have hm := hm (by omega)
  obtain ⟨m1, m2, m3, m4, m5, m6, m7⟩ := hm
  rw [m3]
  refine lp_for (lp := fun n v (a : Int) => lp_MM_area_14 _ n a v σ) (fun v a => 0 ≤ v ∧ a = zsum (fun i => if σ 11 i = 0 then 0 else σ 22 (σ 14 i)) v.toNat) (L.length : Int) (fun n v a hv hI nx => ?_) 0 0 (by omega) ⟨by omega, rfl⟩
  obtain ⟨v0, rfl⟩ := hI
  refine ⟨by omega, by omega, fun q2 => ⟨?_, hQ⟩, fun q2 => ?_⟩
  · have : v = L.length := by omega
    subst this
    rfl
  · have hg := m1 v v0 (by omega)
    have e : ((v.toNat : Nat) : Int) = v := by omega
    have st : zsum (fun i => if σ 11 i = 0 then 0 else σ 22 (σ 14 i)) (v + 1).toNat = zsum (fun i => if σ 11 i = 0 then 0 else σ 22 (σ 14 i)) v.toNat + (if σ 11 v = 0 then 0 else σ 22 (σ 14 v)) := by
      rw [show (v + 1).toNat = v.toNat + 1 by omega]
      simp only [zsum]
      rw [e]
    refine ⟨v0, by omega, by omega, fun q3 => nx (by omega) _ ⟨by omega, ?_⟩, fun q3 => ?_⟩
    · rw [st, if_pos (by omega), Int.add_zero]
    · obtain ⟨c1, c2, c3, c4, c5⟩ := m2 v v0 (by omega) (by omega)
      have cc := h.c1
      have ce := h.cel _ c1 c2
      refine ⟨by omega, by omega, nx (by omega) _ ⟨by omega, ?_⟩⟩
      rw [st, if_neg (by omega), c3, ce.2.2.2.1]
theorem op_cellAt {σ : zS} {L : Gr} {pt : Int → Pat} {Q : zS → Prop} {a : Int} (h : BW σ L pt) (hm : σ 56 0 = 1 → MP σ L) (ha : zc a) (hQ : Q σ) : wp_CX_cellAt (fun r τ => wp_MM_cellAt (fun r' υ => r' = r ∧ Q υ) a τ) a σ := by
  have hp := h.mp
  have hq := h.mq
  have e70 := h.e70
  have hl := h.len
  refine ⟨by omega, fun q => ⟨by omega, fun _ => ⟨rfl, hQ⟩, fun q2 => absurd q2 (by omega)⟩, fun q => ?_⟩
  have hm := hm (by omega)
  refine sx_gateAt h hm ha (fun a0 a1 a2 => ⟨fun q => absurd q (by omega), fun _ => ?_⟩) (fun hn => ⟨fun _ => ?_, fun q => absurd q (by decide)⟩)
  · obtain ⟨c1, c2, c3, c4, c5⟩ := hm.2.1 a a0 a1 a2
    have ce := h.cel _ c1 c2
    have h3 := h.c3
    refine ⟨a0, by omega, c1, by omega, by omega, fun q => absurd q (by omega), fun _ => sm_isGate h hm ha (fun _ _ _ => ⟨by decide, fun q => absurd q (by decide), fun _ => ⟨a0, by omega, ?_, hQ⟩⟩) (fun q => absurd ⟨a0, a1, a2⟩ q)⟩
    rw [c3, ce.2.1]
  · exact ⟨by omega, fun q => absurd q (by omega), fun _ => sm_isGate h hm ha (fun a0 a1 a2 => absurd ⟨a0, a1, a2⟩ hn) (fun _ => ⟨by decide, fun _ => ⟨rfl, hQ⟩, fun q => absurd rfl q⟩)⟩
theorem op_moves {σ : zS} {L : Gr} {pt : Int → Pat} {Q : zS → Prop} {a : Int} (h : BW σ L pt) (hm : σ 56 0 = 1 → MP σ L) (ha : zc a) (hQ : Q σ) : wp_CX_moves (fun r τ => wp_MM_moves (fun r' υ => r' = r ∧ Q υ) a τ) a σ := by
  have hp := h.mp
  have hq := h.mq
  have e70 := h.e70
  have hl := h.len
  refine ⟨by omega, fun q => ⟨by omega, fun _ => ⟨rfl, hQ⟩, fun q2 => absurd q2 (by omega)⟩, fun q => ?_⟩
  have hm := hm (by omega)
  refine sx_gateAt h hm ha (fun a0 a1 a2 => ⟨fun q => absurd q (by omega), fun _ => ?_⟩) (fun hn => ⟨fun _ => ?_, fun q => absurd q (by decide)⟩)
  · obtain ⟨c1, c2, c3, c4, c5⟩ := hm.2.1 a a0 a1 a2
    exact ⟨a0, by omega, by omega, fun q => absurd q (by omega), fun _ => sm_isGate h hm ha (fun _ _ _ => ⟨by decide, fun q => absurd q (by decide), fun _ => ⟨a0, by omega, c4, hQ⟩⟩) (fun q => absurd ⟨a0, a1, a2⟩ q)⟩
  · exact ⟨by omega, fun q => absurd q (by omega), fun _ => sm_isGate h hm ha (fun a0 a1 a2 => absurd ⟨a0, a1, a2⟩ hn) (fun _ => ⟨by decide, fun _ => ⟨rfl, hQ⟩, fun q => absurd rfl q⟩)⟩
theorem op_period {σ : zS} {L : Gr} {pt : Int → Pat} {Q : zS → Prop} (h : BW σ L pt) (hm : σ 56 0 = 1 → MP σ L) (hQ : Q σ) : wp_CX_period (fun r τ => wp_MM_period (fun r' υ => r' = r ∧ Q υ) τ) σ := by
  have hp := h.mp
  have hq := h.mq
  exact ⟨by omega, fun q => ⟨by omega, fun _ => ⟨rfl, hQ⟩, fun q2 => absurd q2 (by omega)⟩, fun q => ⟨by omega, fun q2 => absurd q2 (by omega), fun _ => ⟨(hm (by omega)).2.2.2.1.1, hQ⟩⟩⟩
theorem op_shortest {σ : zS} {L : Gr} {pt : Int → Pat} {Q : zS → Prop} (h : BW σ L pt) (hm : σ 56 0 = 1 → MP σ L) (hQ : Q σ) : wp_CX_shortest (fun r τ => wp_MM_shortest (fun r' υ => r' = r ∧ Q υ) τ) σ := by
  have hp := h.mp
  have hq := h.mq
  exact ⟨by omega, fun q => ⟨by omega, fun _ => ⟨rfl, hQ⟩, fun q2 => absurd q2 (by omega)⟩, fun q => ⟨by omega, fun q2 => absurd q2 (by omega), fun _ => ⟨(hm (by omega)).2.2.2.1.2, hQ⟩⟩⟩
theorem op_latches {σ : zS} {L : Gr} {pt : Int → Pat} {Q : zS → Prop} {a b : Int} (h : BW σ L pt) (hm : σ 56 0 = 1 → MP σ L) (ha : zc a) (hb : zc b) (hQ : Q σ) : wp_CX_latches (fun r τ => wp_MM_latches (fun r' υ => r' = r ∧ Q υ) a b τ) a b σ := by
  have hp := h.mp
  have hq := h.mq
  have e70 := h.e70
  have hl := h.len
  have o0 := h.o0
  have o1 := h.o1
  have o2 := h.o2
  have c3 := h.c3
  refine ⟨by omega, fun q => ⟨by omega, fun _ => ⟨rfl, hQ⟩, fun q2 => absurd q2 (by omega)⟩, fun q => ?_⟩
  have hm := hm (by omega)
  have hm' := hm
  obtain ⟨m1, m2, m3, m4, m5, m6, m7⟩ := hm
  have no : ∀ z0 : Int, bk_MM_latches_58 (fun r' υ => r' = -1 ∧ Q υ) a b 0 σ := fun _ => ⟨ha, fun _ => ⟨by decide, fun _ => ⟨rfl, hQ⟩, fun q => absurd rfl q⟩, fun _ => ⟨by decide, fun _ => ⟨rfl, hQ⟩, fun q => absurd rfl q⟩⟩
  have yes : ∀ k : Int, 0 ≤ k → k < 196 → lkX σ L.length k → bk_MM_latches_77 (fun r' υ => r' = σ 52 k + 64 * σ 53 k ∧ Q υ) 1 k σ := fun k k0 k1 hk => by
    obtain ⟨b1, b2, b3, b4, b5, b6, b7, b8, b9, b10, b11, b12, b13⟩ := m5 k k0 k1 hk
    exact ⟨by decide, fun q => absurd q (by decide), fun _ => ⟨k0, k1, by omega, fun _ => ⟨by omega, by rw [b11, b12], hQ⟩, fun q => absurd b1 (by omega)⟩⟩
  have un : ∀ k : Int, 0 ≤ k → k < 196 → ¬ lkX σ L.length k → bk_MM_latches_77 (fun r' υ => r' = -1 ∧ Q υ) 1 k σ := fun k k0 k1 hk => by
    obtain ⟨b1, b2, b3⟩ := m6 k k0 k1 hk
    exact ⟨by decide, fun q => absurd q (by decide), fun _ => ⟨k0, k1, by omega, fun q => absurd q (by omega), fun _ => ⟨rfl, hQ⟩⟩⟩
  -- an output's connection
  have A : a = -1 → ∀ r, (0 ≤ b → b < σ 40 4 → r = σ 52 (192 + b) + 64 * σ 53 (192 + b)) → (¬ (0 ≤ b ∧ b < σ 40 4) → r = -1) → wp_MM_latches (fun r' υ => r' = r ∧ Q υ) a b σ := fun ea r r1 r0 => by
    refine ⟨by omega, fun q => absurd q (by omega), fun _ => ⟨ha, fun _ => ⟨hb, fun q2 => ?_, fun q2 => ⟨by omega, fun q3 => ?_, fun q3 => ?_⟩⟩, fun q2 => absurd ea q2⟩⟩
    · rw [r0 (by omega)]
      exact no 0
    · rw [r0 (by omega)]
      exact no 0
    · rw [r1 (by omega) (by omega)]
      exact ⟨ha, fun _ => yes (192 + b) (by omega) (by omega) (Or.inr (by omega)), fun q => absurd ea q⟩
  -- a pin's
  have B : a ≠ -1 → ∀ r, (0 ≤ a → a < L.length → σ 11 a = 1 → 0 ≤ b → b < σ 24 (σ 14 a) → r = σ 52 (4 * a + b) + 64 * σ 53 (4 * a + b)) → (¬ (0 ≤ a ∧ a < L.length ∧ σ 11 a = 1 ∧ 0 ≤ b ∧ b < σ 24 (σ 14 a)) → r = -1) → wp_MM_latches (fun r' υ => r' = r ∧ Q υ) a b σ := fun ea r r1 r0 => by
    refine ⟨by omega, fun q => absurd q (by omega), fun _ => ⟨ha, fun q2 => absurd q2 ea, fun _ => sm_isGate h hm' ha (fun a0 a1 a2 => ⟨by decide, fun q => absurd q (by decide), fun _ => ⟨hb, fun q2 => ?_, fun q2 => ⟨fun q3 => ?_, fun q3 => ?_⟩⟩⟩) (fun hn => ⟨by decide, fun _ => ?_, fun q => absurd rfl q⟩)⟩⟩
    · rw [r0 (by omega)]
      exact no 0
    · obtain ⟨d1, d2, -⟩ := m2 a a0 a1 a2
      have := h.pins d1 d2
      rw [r0 (by omega)]
      exact no 0
    · obtain ⟨d1, d2, -⟩ := m2 a a0 a1 a2
      have hk : lkX σ L.length (4 * a + b) ↔ b < σ 24 (σ 14 a) := by
        unfold lkX
        rw [show (4 * a + b) / 4 = a by omega, show (4 * a + b) % 4 = b by omega]
        omega
      by_cases hbb : b < σ 24 (σ 14 a)
      · rw [r1 a0 a1 a2 (by omega) hbb]
        exact ⟨ha, fun q => absurd q ea, fun _ => yes (4 * a + b) (by omega) (by omega) (hk.mpr hbb)⟩
      · rw [r0 (by omega)]
        exact ⟨ha, fun q => absurd q ea, fun _ => un (4 * a + b) (by omega) (by omega) (fun q => hbb (hk.mp q))⟩
    · rw [r0 (fun q => hn ⟨q.1, q.2.1, q.2.2.1⟩)]
      exact no 0
  have w : ∀ k : Int, 0 ≤ k → k < 196 → zc (σ 52 k) := fun k k0 k1 => by
    by_cases hk : lkX σ L.length k
    · obtain ⟨b1, b2, b3, b4, b5, -⟩ := m5 k k0 k1 hk
      omega
    · have := (m6 k k0 k1 hk).2.1
      omega
  refine sx_gateAt h hm' ha (fun a0 a1 a2 => ⟨ha, fun q => absurd q (by omega), fun q => ⟨fun q2 => absurd q2 (by omega), fun _ => ?_⟩⟩) (fun hn => ⟨ha, fun ea => ?_, fun ea => ⟨fun _ => ?_, fun q => absurd q (by decide)⟩⟩)
  · obtain ⟨d1, d2, -⟩ := m2 a a0 a1 a2
    have hpn := h.pins d1 d2
    refine ⟨a0, by omega, d1, by omega, hb, fun q2 => B q _ (fun _ _ _ q3 => absurd q3 (by omega)) (fun _ => rfl), fun q2 => ⟨by omega, fun q3 => ⟨ha, fun q4 => absurd q4 q, fun _ => ⟨by omega, by omega, w _ (by omega) (by omega), B q _ (fun _ _ _ _ _ => rfl) (fun q4 => absurd ⟨a0, a1, a2, by omega, q3⟩ q4)⟩⟩, fun q3 => B q _ (fun _ _ _ _ q4 => absurd q4 q3) (fun _ => rfl)⟩⟩
  · refine ⟨hb, fun q2 => A ea _ (fun q3 => absurd q3 (by omega)) (fun _ => rfl), fun q2 => ⟨by omega, fun q3 => ⟨ha, fun _ => ⟨by omega, by omega, w _ (by omega) (by omega), A ea _ (fun _ _ => rfl) (fun q4 => absurd ⟨by omega, q3⟩ q4)⟩, fun q4 => absurd ea q4⟩, fun q3 => A ea _ (fun _ q4 => absurd q4 q3) (fun _ => rfl)⟩⟩
  · refine ⟨hb, fun q2 => B ea _ (fun q3 q4 q5 => absurd ⟨q3, q4, q5⟩ hn) (fun _ => rfl), fun q2 => ⟨by decide, fun q3 => absurd q3 (by omega), fun q3 => B ea _ (fun q3 q4 q5 => absurd ⟨q3, q4, q5⟩ hn) (fun _ => rfl)⟩⟩
