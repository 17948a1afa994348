/-! a loop that counts up; undriven, feed, entering -/
theorem lp_for {α : Type} {lp : Nat → Int → α → Prop} (I : Int → α → Prop) (N : Int) (step : ∀ n v a, v ≤ N → I v a → (v < N → ∀ a', I (v + 1) a' → lp n (v + 1) a') → lp (n + 1) v a) (v : Int) (a : α) (hv : v ≤ N) (hI : I v a) : ∃ n, lp n v a := by
  have H : ∀ (m : Nat) (v : Int) (a : α), v ≤ N → N - v < m → I v a → lp m v a := by
    intro m
    induction m with
    | zero => intro v a h1 h2; omega
    | succ m ih => exact fun v a h1 h2 h3 => step m v a h1 h3 (fun h4 a' h5 => ih (v + 1) a' (by omega) (by omega) h5)
  exact ⟨(N - v).toNat + 1, H _ v a hv (by omega) hI⟩
/-- a loop that counts down from v to 0 -/
theorem lp_dn {α : Type} {lp : Nat → Int → α → Prop} (I : Int → α → Prop) (step : ∀ n v a, -1 ≤ v → I v a → (0 ≤ v → ∀ a', I (v - 1) a' → lp n (v - 1) a') → lp (n + 1) v a) (v : Int) (a : α) (hv : -1 ≤ v) (hI : I v a) : ∃ n, lp n v a := by
  have H : ∀ (m : Nat) (v : Int) (a : α), -1 ≤ v → v + 1 < m → I v a → lp m v a := by
    intro m
    induction m with
    | zero => intro v a h1 h2; omega
    | succ m ih => exact fun v a h1 h2 h3 => step m v a h1 h3 (fun h4 a' h5 => ih (v - 1) a' (by omega) (by omega) h5)
  exact ⟨(v + 1).toNat + 1, H _ v a hv (by omega) hI⟩
/-- a loop with a measure -/
theorem lp_ms {α : Type} {lp : Nat → α → Prop} (I : α → Prop) (μ : α → Nat) (step : ∀ n a, I a → (∀ a', I a' → μ a' < μ a → lp n a') → lp (n + 1) a) (a : α) (hI : I a) : ∃ n, lp n a := by
  have H : ∀ (m : Nat) (a : α), μ a < m → I a → lp m a := by
    intro m
    induction m with
    | zero => intro a h; omega
    | succ m ih => exact fun a h1 h2 => step m a h2 (fun a' h3 h4 => ih a' (by omega) h3)
  exact ⟨μ a + 1, H _ a (by omega) hI⟩
/-- some latch is not driven -/
def und (σ : zS) (L : Gr) : Prop := ∃ i : Int, 0 ≤ i ∧ i < L.length ∧ σ 1 i = 1 ∧ σ 5 i < 0
theorem sx_undriven {σ : zS} {L : Gr} {pt : Int → Pat} {Q : Int → zS → Prop} (h : BW σ L pt) (h1 : und σ L → Q 1 σ) (h0 : ¬ und σ L → Q 0 σ) : wp_CX_undriven Q σ := by
  have l0 := h.l0
  have l1 := h.l1
  refine lp_for (lp := fun n v a => lp_CX_undriven_2 Q n v a) (fun v a => a = σ ∧ 0 ≤ v ∧ ∀ k : Int, 0 ≤ k → k < v → 0 ≤ σ 5 (σ 44 k)) (σ 40 3) (fun n v a hv hI nx => ?_) 0 σ l0 ⟨rfl, by omega, fun k k0 k1 => absurd k1 (by omega)⟩
  obtain ⟨rfl, v0, hI⟩ := hI
  refine ⟨by omega, by omega, fun q => h0 ?_, fun q => ⟨v0, by omega, (h.lat7 v v0 (by omega)).1, (h.lat7 v v0 (by omega)).2, ?_⟩⟩
  · rintro ⟨i, i0, i1, i2, i3⟩
    obtain ⟨k, k0, k1, k2⟩ := (h.lan i i0 i1 i2).1
    have := hI k k0 (by omega)
    rw [k2] at this
    omega
  · rintro _ rfl
    refine ⟨fun q2 => h1 ⟨a 44 v, (h.lat v v0 (by omega)).1, (h.lat v v0 (by omega)).2.1, (h.lat v v0 (by omega)).2.2, q2⟩, fun q2 => nx (by omega) a ⟨rfl, by omega, fun k k0 k1 => ?_⟩⟩
    by_cases e : k = v
    · rw [e]; omega
    · exact hI k k0 (by omega)
theorem sm_undriven {σ : zS} {L : Gr} {pt : Int → Pat} {Q : Int → zS → Prop} (h : BW σ L pt) {τ : zS} (e100 : τ 100 = σ 100) (e101 : τ 101 = σ 101) (e105 : τ 105 = σ 105) (h1 : und σ L → Q 1 τ) (h0 : ¬ und σ L → Q 0 τ) : wp_MM_undriven Q τ := by
  have n0 := h.n0
  have n1 := h.n1
  have n2 := h.n2
  refine lp_for (lp := fun n v a => lp_MM_undriven_2 Q n v a) (fun v a => a = τ ∧ 0 ≤ v ∧ ∀ k : Int, 0 ≤ k → k < v → σ 101 k = 1 → 0 ≤ σ 105 k) (σ 100 0) (fun n v a hv hI nx => ?_) 0 τ (by omega) ⟨rfl, by omega, fun k k0 k1 => absurd k1 (by omega)⟩
  obtain ⟨rfl, v0, hI⟩ := hI
  unfold lp_MM_undriven_2
  rw [e100, e101, e105]
  refine ⟨by omega, by omega, fun q => h0 ?_, fun q => ?_⟩
  · rintro ⟨i, i0, i1, i2, i3⟩
    have hl := h.lnet i i0 i1 (by omega)
    have ha := (h.lan i i0 i1 i2).2.2.2.2.2.2
    have := hI (σ 117 i) hl.1 (by omega) (by omega)
    rcases ha with ⟨a1, a2⟩ | ⟨a1, a2, a3⟩
    · omega
    · have := (h.net _ a1 a2).1
      omega
  · have hn := h.net v v0 (by omega)
    refine ⟨v0, by omega, by omega, fun q2 => ?_, fun q2 => nx (by omega) a ⟨rfl, by omega, fun k k0 k1 k2 => ?_⟩⟩
    · have hl := h.leaf v v0 (by omega) (by omega)
      have ha := (h.lan (σ 42 v) hn.1 hn.2.1 (by omega)).2.2.2.2.2.2
      rw [hl.1] at ha
      refine ⟨by omega, fun q3 => nx (by omega) a ⟨rfl, by omega, fun k k0 k1 k2 => ?_⟩, fun q3 => h1 ⟨σ 42 v, hn.1, hn.2.1, by omega, by omega⟩⟩
      by_cases e : k = v
      · rw [e]; exact q3
      · exact hI k k0 (by omega) k2
    · by_cases e : k = v
      · rw [e] at k2; exact absurd k2 q2
      · exact hI k k0 (by omega) k2
theorem sx_feed {σ : zS} {L : Gr} {pt : Int → Pat} {Q : zS → Prop} {v1 : Int} (h : BW σ L pt) (hQ : ∀ τ, zsm [6] σ τ → (∀ i : Int, 0 ≤ i → i < L.length → σ 1 i = 0 → τ 6 i = zand (zshr v1 (σ 4 i)) 1) → (∀ i : Int, ¬ (0 ≤ i ∧ i < L.length ∧ σ 1 i = 0) → τ 6 i = σ 6 i) → Q τ) : wp_CX_feed Q v1 σ := by
  have i0 := h.i0
  have i1 := h.i1
  refine lp_for (lp := fun n v a => lp_CX_feed_2 Q n v1 v a) (fun v τ => zsm [6] σ τ ∧ 0 ≤ v ∧ (∀ k : Int, 0 ≤ k → k < v → τ 6 (σ 43 k) = zand (zshr v1 (σ 4 (σ 43 k))) 1) ∧ (∀ i : Int, ¬ (0 ≤ i ∧ i < L.length ∧ σ 1 i = 0) → τ 6 i = σ 6 i)) (σ 40 2) (fun n v τ hv hI nx => ?_) 0 σ i0 ⟨zsm.rf, by omega, fun k k0 k1 => absurd k1 (by omega), fun i _ => rfl⟩
  obtain ⟨hs, v0, hI, hJ⟩ := hI
  unfold lp_CX_feed_2
  rw [hs 40 (by decide), hs 43 (by decide), hs 70 (by decide), hs 4 (by decide)]
  refine ⟨by omega, by omega, fun q => hQ τ hs (fun i a0 a1 a2 => ?_) hJ, fun q => ?_⟩
  · have := h.ino i a0 a1 a2
    have h2 := hI (σ 4 i) this.1 (by omega)
    rw [this.2.2.1] at h2
    exact h2
  · have hi := h.inp v v0 (by omega)
    refine ⟨v0, by omega, hi.1, by rw [h.e70]; exact hi.2.1, ?_⟩
    rintro _ rfl _ rfl
    refine nx (by omega) _ ⟨hs.up (by decide), by omega, fun k k0 k1 => ?_, fun i hi2 => ?_⟩
    · rw [zup_or]
      by_cases e : σ 43 k = σ 43 v
      · rw [if_pos e, e]
      · rw [if_neg e]
        refine hI k k0 ?_
        by_cases e2 : k = v
        · rw [e2] at e; exact absurd rfl e
        · omega
    · rw [zup_or, if_neg (fun e => hi2 (by rw [e]; exact ⟨hi.1, hi.2.1, hi.2.2.1⟩))]
      exact hJ i hi2
theorem sm_entering {σ : zS} {L : Gr} {pt : Int → Pat} {Q : Int → zS → Prop} {i v1 : Int} (h : BW σ L pt) (i0 : 0 ≤ i) (i1 : i < L.length) (i2 : σ 1 i = 0) {τ : zS} (e117 : τ 117 = σ 117) (e101 : τ 101 = σ 101) (hQ : Q (zand (zshr v1 (σ 4 i)) 1) τ) : wp_MM_entering Q i v1 τ := by
  have hl := h.lnet i i0 i1 (by omega)
  have hlen := h.len
  have n1 := h.n1
  have hin := h.ino i i0 i1 i2
  obtain ⟨n, hn⟩ := lp_for (lp := fun n v (a : Int × zS) => lp_MM_entering_5 Q n i v1 a.1 v a.2) (fun v a => a.2 = τ ∧ 0 ≤ v ∧ a.1 = cnt (fun j => σ 101 j = 0) v.toNat) (σ 117 i) (fun n v a hv hI nx => by
    obtain ⟨k, τ'⟩ := a
    obtain ⟨hτ, v0, hI⟩ := hI
    simp only at hτ hI
    subst hτ
    unfold lp_MM_entering_5
    dsimp only
    rw [e117, e101]
    refine ⟨i0, by omega, by omega, by omega, fun q => ?_, fun q => ?_⟩
    · have : v = σ 117 i := by omega
      subst this
      rw [← hin.2.2.2] at hI
      rw [hI]
      exact hQ
    · have hne := h.net v v0 (by omega)
      have step : cnt (fun j => σ 101 j = 0) (v + 1).toNat = cnt (fun j => σ 101 j = 0) v.toNat + ind (σ 101 v = 0) := by
        rw [show (v + 1).toNat = v.toNat + 1 by omega]
        show cnt (fun j => σ 101 j = 0) v.toNat + ind (σ 101 ((v.toNat : Nat) : Int) = 0) = _
        rw [show ((v.toNat : Nat) : Int) = v by omega]
      refine ⟨v0, by omega, by omega, fun q2 => nx (by omega) (k + 1, τ') ⟨rfl, by omega, ?_⟩, fun q2 => nx (by omega) (k, τ') ⟨rfl, by omega, ?_⟩⟩
      · rw [step, ind_t q2, ← hI]
      · rw [step, ind_f q2, ← hI, Int.add_zero]) 0 (0, τ) hl.1 ⟨rfl, by omega, rfl⟩
  exact ⟨n, hn⟩
theorem bt_01 (x k : Int) : zand (zshr x k) 1 = 0 ∨ zand (zshr x k) 1 = 1 := by
  rw [z_m1 (zc_shr x k)]
  omega
