/-! clockRetimed: the model's side, both sides -/
/-- what the model's side knows of the mapped circuit -/
theorem sm_ending {σ τ : zS} {L : Gr} {Q : Int → zS → Prop} {k : Int} {s : Int → Int} (hl : L.length ≤ 48) (hm : MP σ L) (t135 : τ 135 = σ 135) (t138 : τ 138 = σ 138) (t140 : τ 140 = σ 140) (k0 : 0 ≤ k) (k1 : k < 196) (hk : lkX σ L.length k) (hs : σ 52 k = 0 → τ 149 (σ 51 k) = s (σ 51 k)) (hQ : Q (arr σ s k) τ) : wp_MM_ending Q k τ := by
  obtain ⟨b1, b2, b3, b4, b5, b6, b7, b8, b9, b10, b11, b12, b13⟩ := hm.2.2.2.2.1 k k0 k1 hk
  refine ⟨k0, k1, ?_⟩
  rw [t135, t138, t140, b10, b11, b13]
  unfold arr at hQ
  refine ⟨by omega, fun q => ⟨b1, by omega, by rw [hs (by omega)]; rw [if_pos (by omega)] at hQ; exact hQ⟩, fun q => ?_⟩
  rw [if_neg (by omega)] at hQ
  have hp : (2 : Int) ^ (σ 52 k).toNat ≤ 2 ^ 60 := by
    have := Nat.pow_le_pow_right (n := 2) (by decide) (show (σ 52 k).toNat ≤ 60 by omega)
    exact_mod_cast this
  have h60 : (2 : Int) ^ 60 = 1152921504606846976 := by decide
  have hz : zd (σ 54 k) := by omega
  have := b_lshr (k := (σ 52 k - 1).toNat) hz (by omega)
  rw [show (((σ 52 k - 1).toNat : Nat) : Int) = σ 52 k - 1 by omega] at this
  rw [this, z_lm1 ?_]
  · exact hQ
  · have hh : 0 ≤ σ 54 k / 2 ^ (σ 52 k - 1).toNat ∧ σ 54 k / 2 ^ (σ 52 k - 1).toNat ≤ σ 54 k := ⟨Int.ediv_nonneg b8 (Int.le_of_lt (Int.pow_pos (by decide))), Int.ediv_le_self _ b8⟩
    omega
theorem sm_worked {σ τ : zS} {L : Gr} {pt : Int → Pat} {Q : Int → zS → Prop} {s : Int → Int} {n : Int} (h : BW σ L pt) (hm : MP σ L) (s01 : ∀ i, s i = 0 ∨ s i = 1) (ts : ∀ f, 100 ≤ f → f ≠ 148 → f ≠ 149 → f ≠ 150 → τ f = σ f) (kn : ∀ i : Int, 0 ≤ i → i < L.length → τ 148 i = 0 ∨ τ 148 i = 1) (kg : ∀ i : Int, 0 ≤ i → i < L.length → (σ 11 i = 1 ∨ σ 1 i = 0) → τ 148 i = 1 → τ 149 i = s i) (n0 : 0 ≤ n) (n1 : n < L.length) (hg : σ 11 n = 1) (k0 : ∀ p : Int, 0 ≤ p → p < σ 24 (σ 14 n) → σ 52 (4 * n + p) = 0 → τ 148 (σ 51 (4 * n + p)) = 0 → Q 0 τ) (k1 : (∀ p : Int, 0 ≤ p → p < σ 24 (σ 14 n) → σ 52 (4 * n + p) = 0 → τ 148 (σ 51 (4 * n + p)) = 1) → ∀ υ, zsm [150] τ υ → Q 1 (zup (zup υ 149 n (gv σ pt s n)) 148 n 1)) : wp_MM_worked Q n τ := by
  obtain ⟨d1, d2, d3, -⟩ := hm.2.1 n n0 n1 hg
  have hpn := h.pins d1 d2
  have c1 := h.c1
  have hl := h.len
  obtain ⟨a1, a2, a3, a4, a5, a6⟩ := h.cpt _ d1 d2
  have ce := h.cel _ d1 d2
  have t129 : τ 129 n = σ 14 n := by rw [ts 129 (by decide) (by decide) (by decide) (by decide)]; exact d3
  have t121 : ∀ f, f = 121 → τ f (σ 14 n) = dval (pdig (pt (σ 14 n))) := by
    rintro _ rfl
    rw [ts 121 (by decide) (by decide) (by decide) (by decide), ce.2.2.1, a4]
  refine ⟨n0, by omega, ?_⟩
  rw [t129]
  refine sm_pinsOf d1 (by omega) a1 a3 (t121 121 rfl) ?_
  rw [← a5]
  refine lp_for (lp := fun m p (a : Int) => lp_MM_worked_16 Q m n (σ 24 (σ 14 n)) a p τ) (fun p a => 0 ≤ p ∧ a = osum (fun p => arr σ s (4 * n + p)) p.toNat ∧ ∀ p' : Int, 0 ≤ p' → p' < p → σ 52 (4 * n + p') = 0 → τ 148 (σ 51 (4 * n + p')) = 1) (σ 24 (σ 14 n)) (fun m p a hp hI nx => ?_) 0 0 (by omega) ⟨by omega, rfl, fun p' q0 q1 => absurd q1 (by omega)⟩
  obtain ⟨p0, rfl, hkn⟩ := hI
  unfold lp_MM_worked_16
  refine ⟨by omega, by omega, fun q => ⟨n0, by omega, ?_⟩, fun q => ?_⟩
  · have : p = σ 24 (σ 14 n) := by omega
    subst this
    rw [t129]
    refine sm_work d1 (by omega) a1 a3 (t121 121 rfl) (fun υ us => ?_)
    rintro _ rfl _ rfl
    have ev : pval (pt (σ 14 n)) (pbit (osum (fun p => arr σ s (4 * n + p)) (σ 24 (σ 14 n)).toNat)) 0 = gv σ pt s n := by
      refine pval_congr _ _ (fun p q0 q1 => ?_)
      exact pbit_osum (by omega) (by omega) (fun k _ _ => arr_01 s01 _) q0 (by omega)
    rw [ev]
    exact k1 hkn υ us
  · obtain ⟨l0, l1, l2, lk⟩ := lk_pin h hm n0 n1 hg p0 (show p < σ 24 (σ 14 n) by omega)
    obtain ⟨b1, b2, b3, b4, b5, b6, b7, b8, b9, b10, b11, b12, b13⟩ := hm.2.2.2.2.1 _ l0 (by omega) lk
    have t135 := ts 135 (by decide) (by decide) (by decide) (by decide)
    have t138 := ts 138 (by decide) (by decide) (by decide) (by decide)
    have t140 := ts 140 (by decide) (by decide) (by decide) (by decide)
    have go : (σ 52 (4 * n + p) = 0 → τ 148 (σ 51 (4 * n + p)) = 1) → wp_MM_ending (fun r21 σ20 => ∀ y22, y22 = zor (osum (fun p => arr σ s (4 * n + p)) p.toNat) (zshl r21 p) → lp_MM_worked_16 Q m n (σ 24 (σ 14 n)) y22 (p + 1) σ20) (4 * n + p) τ := fun hk => by
      refine sm_ending hl hm t135 t138 t140 l0 (by omega) lk (fun e => kg _ b1 b2 b3 (hk e)) ?_
      rintro _ rfl
      refine nx (by omega) _ ⟨by omega, osum_step (f := fun p => arr σ s (4 * n + p)) p0 (by omega) (fun j _ _ => arr_01 s01 _), fun p' q0 q1 q2 => ?_⟩
      by_cases e : p' = p
      · rw [e] at q2 ⊢
        exact hk q2
      · exact hkn p' q0 (by omega) q2
    refine ⟨l0, by omega, ?_⟩
    rw [t135, t138, b10, b11]
    have k01 := kn _ b1 b2
    refine ⟨by omega, fun q2 => ⟨by decide, fun q3 => absurd q3 (by decide), fun _ => go (fun e => absurd e (by omega))⟩, fun q2 => ⟨b1, by omega, by omega, fun q3 => ⟨by decide, fun _ => k0 p p0 (by omega) (by omega) q3, fun q4 => absurd rfl q4⟩, fun q3 => ⟨by decide, fun q4 => absurd q4 (by decide), fun _ => go (fun _ => by omega)⟩⟩⟩
def mret (τ υ : zS) (σ : zS) (s : Int → Int) : Prop := zsm [140, 148, 149, 150] τ υ ∧ ∀ k : Int, 0 ≤ k → k < 196 → 0 ≤ σ 51 k → υ 140 k = nxt σ s k
theorem sm_clockRetimed {σ τ : zS} {L : Gr} {pt : Int → Pat} {Q : Int → zS → Prop} {v1 : Int} {inp : Int → Int} (h : BW σ L pt) (h56 : σ 56 0 = 1) (hm : MP σ L) (T : ∀ f, 100 ≤ f → τ f = σ f) (i01 : ∀ i, inp i = 0 ∨ inp i = 1) (iv : ∀ i : Int, 0 ≤ i → i < L.length → σ 1 i = 0 → inp i = zand (zshr v1 (σ 4 i)) 1) (hQ : ∀ υ, mret τ υ σ (sg σ L pt inp) → Q (osum (fun k => arr σ (sg σ L pt inp) (192 + k)) (σ 40 4).toNat) υ) : wp_MM_clockRetimed Q v1 τ := by
  have hq := h.mq
  have e113 := h.e113
  have hl := h.len
  have o0 := h.o0
  have o1 := h.o1
  have o2 := h.o2
  obtain ⟨key, hk⟩ := hm.2.2.2.2.2.2
  have ig : ∀ i : Int, 0 ≤ i → i < L.length → σ 1 i = 0 → σ 11 i ≠ 1 := fun i i0 i1 i2 q => by
    have := (hm.2.1 i i0 i1 q).2.2.2.2
    omega
  have s01 := sg_01 (σ := σ) (L := L) (pt := pt) i01
  generalize hsg : sg σ L pt inp = s at hQ s01
  have sgate : ∀ n : Int, 0 ≤ n → n < L.length → σ 11 n = 1 → s n = gv σ pt s n := fun n n0 n1 hg => by rw [← hsg]; exact sg_gate h hm n0 n1 hg
  have sin : ∀ n : Int, 0 ≤ n → n < L.length → σ 1 n = 0 → s n = inp n := fun n n0 n1 h1 => by rw [← hsg]; exact sg_in (ig n n0 n1 h1)
  refine ⟨by rw [T 124 (by decide)]; omega, fun q => absurd q (by rw [T 124 (by decide)]; omega), fun _ => ?_⟩
  refine lp_for (lp := fun n v a => lp_MM_clockRetimed_12 Q n v1 v a) (fun v υ => 0 ≤ v ∧ zsm [148, 149] τ υ ∧ ∀ i : Int, 0 ≤ i → i < v → (υ 148 i = 0 ∨ υ 148 i = 1) ∧ (υ 148 i = 1 → σ 1 i = 0) ∧ (σ 1 i = 0 → υ 148 i = 1 ∧ υ 149 i = s i)) (L.length : Int) (fun n v υ hv hI nx => ?_) 0 τ (by omega) ⟨by omega, zsm.rf, fun i i0 i1 => absurd i1 (by omega)⟩
  obtain ⟨v0, us, hI⟩ := hI
  have U : ∀ f, 100 ≤ f → f ≠ 148 → f ≠ 149 → υ f = σ f := fun f h1 h2 h3 => (us f (by simp; omega)).trans (T f h1)
  unfold lp_MM_clockRetimed_12
  rw [U 113 (by decide) (by decide) (by decide), U 114 (by decide) (by decide) (by decide)]
  refine ⟨by omega, by omega, fun q => ?_, fun q => ?_⟩
  · clear nx
    -- the rounds
    refine lp_ms (lp := fun n (a : Int × zS) => lp_MM_clockRetimed_73 Q n a.1 a.2) (fun a => (a.1 = 0 ∨ a.1 = 1) ∧ zsm [148, 149, 150] τ a.2 ∧ (∀ i : Int, 0 ≤ i → i < L.length → a.2 148 i = 0 ∨ a.2 148 i = 1) ∧ (∀ i : Int, 0 ≤ i → i < L.length → σ 1 i = 0 → a.2 148 i = 1) ∧ (∀ i : Int, 0 ≤ i → i < L.length → (σ 11 i = 1 ∨ σ 1 i = 0) → a.2 148 i = 1 → a.2 149 i = s i) ∧ (a.1 = 0 → ∀ i : Int, 0 ≤ i → i < L.length → σ 11 i = 1 → a.2 148 i = 1)) (fun a => if a.1 = 0 then 0 else (cnt (fun i => σ 11 i = 1 ∧ a.2 148 i = 0) L.length).toNat + 1) (fun f a hI nx => ?_) (1, υ) ⟨Or.inr rfl, us.mono (by decide), fun i i0 i1 => (hI i i0 (by omega)).1, fun i i0 i1 i2 => ((hI i i0 (by omega)).2.2 i2).1, fun i i0 i1 hg hk1 => ?_, fun q => absurd q (show ¬ (1 : Int) = 0 by decide)⟩
    · obtain ⟨mo, ω⟩ := a
      obtain ⟨hmo, ws, w01, win, wg, we⟩ := hI
      dsimp only at hmo ws w01 win wg we nx
      have W : ∀ f, 100 ≤ f → f ≠ 148 → f ≠ 149 → f ≠ 150 → ω f = σ f := fun f h1 h2 h3 h4 => (ws f (by simp; omega)).trans (T f h1)
      unfold lp_MM_clockRetimed_73
      dsimp only
      refine ⟨by omega, fun q2 => ?_, fun q2 => ?_⟩
      · -- the outputs, then the latches
        have all : ∀ i : Int, 0 ≤ i → i < L.length → (σ 11 i = 1 ∨ σ 1 i = 0) → ω 149 i = s i := fun i i0 i1 hg => wg i i0 i1 hg (by
          rcases hg with hg | hg
          · exact we q2 i i0 i1 hg
          · exact win i i0 i1 hg)
        have w135 := W 135 (by decide) (by decide) (by decide) (by decide)
        have w138 := W 138 (by decide) (by decide) (by decide) (by decide)
        have w140 := W 140 (by decide) (by decide) (by decide) (by decide)
        refine lp_for (lp := fun n v (a : Int) => lp_MM_clockRetimed_139 Q n a v ω) (fun v a => 0 ≤ v ∧ a = osum (fun k => arr σ s (192 + k)) v.toNat) (σ 40 4) (fun n v a hv hI2 nx2 => ?_) 0 0 o0 ⟨by omega, rfl⟩
        obtain ⟨v0, rfl⟩ := hI2
        unfold lp_MM_clockRetimed_139
        rw [W 118 (by decide) (by decide) (by decide) (by decide)]
        refine ⟨by omega, by omega, fun q3 => ?_, fun q3 => ?_⟩
        · have : v = σ 40 4 := by omega
          subst this
          refine lp_for (lp := fun n v a => lp_MM_clockRetimed_173 Q n _ v a) (fun v ξ => zsm [140] ω ξ ∧ 0 ≤ v ∧ (∀ k : Int, 0 ≤ k → k < v → 0 ≤ σ 51 k → ξ 140 k = nxt σ s k) ∧ (∀ k : Int, v ≤ k → ξ 140 k = σ 140 k)) 196 (fun n v ξ hv hI3 nx3 => ?_) 0 ω (by decide) ⟨zsm.rf, by omega, fun k k0 k1 => absurd k1 (by omega), fun k _ => by rw [w140]⟩
          obtain ⟨xs, v0, hI3, hJ3⟩ := hI3
          unfold lp_MM_clockRetimed_173
          rw [xs 135 (by decide), xs 138 (by decide), xs 149 (by decide), w135, w138]
          refine ⟨by omega, fun q4 => hQ ξ ⟨(ws.mono (by decide)).trans (xs.mono (by decide)), fun k k0 k1 k2 => hI3 k k0 (by omega) k2⟩, fun q4 => ⟨v0, by omega, ?_⟩⟩
          by_cases hlk : lkX σ L.length v
          · obtain ⟨b1, b2, b3, b4, b5, b6, b7, b8, b9, b10, b11, b12, b13⟩ := hm.2.2.2.2.1 v v0 (by omega) hlk
            rw [b10, b11]
            refine ⟨by omega, fun q5 => absurd q5 (by omega), fun _ => ⟨by omega, fun q5 => nx3 (by omega) ξ ⟨xs, by omega, fun k k0 k1 k2 => ?_, fun k hk => hJ3 k (by omega)⟩, fun q5 => ⟨b1, by omega, ?_, ?_⟩⟩⟩
            · by_cases e : k = v
              · rw [e, hJ3 v (Int.le_refl _), b13]
                unfold nxt
                rw [if_neg (by omega)]
              · exact hI3 k k0 (by omega) k2
            · rw [all _ b1 b2 b3]
              have := s01 (σ 51 v)
              omega
            · rintro _ rfl
              rw [hJ3 v (Int.le_refl _), all _ b1 b2 b3, b13, nxt_z (by omega) b5 b8 b9 (s01 _)]
              refine nx3 (by omega) _ ⟨xs.up (by decide), by omega, fun k k0 k1 k2 => ?_, fun k hk => ?_⟩
              · rw [zup_or]
                by_cases e : k = v
                · rw [if_pos e, e]
                  unfold nxt
                  rw [if_pos (by omega)]
                · rw [if_neg e]
                  exact hI3 k k0 (by omega) k2
              · rw [zup_ni _ _ _ (by omega)]
                exact hJ3 k (by omega)
          · obtain ⟨b1, b2, b3⟩ := hm.2.2.2.2.2.1 v v0 (by omega) hlk
            rw [b3]
            refine ⟨by decide, fun _ => nx3 (by omega) ξ ⟨xs, by omega, fun k k0 k1 k2 => ?_, fun k hk => hJ3 k (by omega)⟩, fun q5 => absurd q5 (by decide)⟩
            by_cases e : k = v
            · rw [e] at k2; omega
            · exact hI3 k k0 (by omega) k2
        · have hlk : lkX σ L.length (192 + v) := Or.inr (by omega)
          obtain ⟨b1, b2, b3, -⟩ := hm.2.2.2.2.1 (192 + v) (by omega) (by omega) hlk
          refine sm_ending hl hm w135 w138 w140 (by omega) (by omega) hlk (fun _ => all _ b1 b2 b3) ?_
          rintro _ rfl
          exact nx2 (by omega) _ ⟨by omega, osum_step (f := fun k => arr σ s (192 + k)) v0 (by omega) (fun j _ _ => arr_01 s01 _)⟩
      · -- a round
        refine lp_for (lp := fun n v (a : Int × zS) => lp_MM_clockRetimed_81 Q (lp_MM_clockRetimed_73 Q f) n a.1 v a.2) (fun v a => 0 ≤ v ∧ (a.1 = 0 ∨ a.1 = 1) ∧ zsm [148, 149, 150] τ a.2 ∧ (∀ i : Int, 0 ≤ i → i < L.length → a.2 148 i = 0 ∨ a.2 148 i = 1) ∧ (∀ i : Int, 0 ≤ i → i < L.length → σ 1 i = 0 → a.2 148 i = 1) ∧ (∀ i : Int, 0 ≤ i → i < L.length → (σ 11 i = 1 ∨ σ 1 i = 0) → a.2 148 i = 1 → a.2 149 i = s i) ∧ (cnt (fun i => σ 11 i = 1 ∧ a.2 148 i = 0) L.length + a.1 ≤ cnt (fun i => σ 11 i = 1 ∧ ω 148 i = 0) L.length) ∧ (a.1 = 0 → (a.2 148 = ω 148) ∧ ∀ n : Int, 0 ≤ n → n < v → n < L.length → σ 11 n = 1 → ω 148 n = 0 → ∃ p : Int, 0 ≤ p ∧ p < σ 24 (σ 14 n) ∧ σ 52 (4 * n + p) = 0 ∧ ω 148 (σ 51 (4 * n + p)) = 0)) (L.length : Int) (fun m v a hv hJ nx2 => ?_) 0 (0, ω) (by omega) ⟨by omega, Or.inl rfl, ws, w01, win, wg, by show cnt (fun i => σ 11 i = 1 ∧ ω 148 i = 0) L.length + 0 ≤ _; omega, fun _ => ⟨rfl, fun n n0 n1 => absurd n1 (by omega)⟩⟩
        obtain ⟨mo2, ξ⟩ := a
        obtain ⟨v0, hmo2, xs, x01, xin, xg, xc, xe⟩ := hJ
        dsimp only at hmo2 xs x01 xin xg xc xe
        have X : ∀ f, 100 ≤ f → f ≠ 148 → f ≠ 149 → f ≠ 150 → ξ f = σ f := fun f h1 h2 h3 h4 => (xs f (by simp; omega)).trans (T f h1)
        have cg := cnt_ge (fun i => σ 11 i = 1 ∧ ξ 148 i = 0) L.length
        unfold lp_MM_clockRetimed_81
        dsimp only
        rw [X 113 (by decide) (by decide) (by decide) (by decide), X 131 (by decide) (by decide) (by decide) (by decide)]
        refine ⟨by omega, by omega, fun q3 => ?_, fun q3 => ?_⟩
        · refine nx (mo2, ξ) ⟨hmo2, xs, x01, xin, xg, fun q4 => ?_⟩ ?_
          · obtain ⟨xe1, xe2⟩ := xe q4
            dsimp only
            have H : ∀ (r : Nat) (n : Int), 0 ≤ n → n < L.length → σ 11 n = 1 → rk σ L key n < r → ξ 148 n = 1 := by
              intro r
              induction r with
              | zero =>
                intro n n0 n1 _ hr
                have := rk_b (σ := σ) (key := key) hl n0 n1
                omega
              | succ r ih =>
                intro n n0 n1 hg hr
                rcases x01 n n0 n1 with e | e
                · rw [xe1] at e
                  obtain ⟨p, p0, p1, p2, p3⟩ := xe2 n n0 (by omega) n1 hg e
                  obtain ⟨l0, l1, l2, lk⟩ := lk_pin h hm n0 n1 hg p0 p1
                  obtain ⟨b1, b2, b3, -⟩ := hm.2.2.2.2.1 _ l0 (by omega) lk
                  rw [← xe1] at p3
                  rcases b3 with b3 | b3
                  · have := hk _ l0 l1 lk p2 b3
                    rw [l2] at this
                    have := rk_lt (σ := σ) b1 b2 b3 this
                    have := ih _ b1 b2 b3 (by omega)
                    omega
                  · have := xin _ b1 b2 b3
                    omega
                · exact e
            exact fun i i0 i1 hg => H 48 i i0 i1 hg (rk_b hl i0 i1).2
          · dsimp only
            rw [if_neg q2]
            split <;> omega
        · have hgm := hm.1 v v0 (by omega)
          have hzm : zc mo2 := by omega
          have stay : (σ 11 v = 1 → ξ 148 v = 1 ∨ (ξ 148 v = 0 ∧ ∃ p : Int, 0 ≤ p ∧ p < σ 24 (σ 14 v) ∧ σ 52 (4 * v + p) = 0 ∧ ξ 148 (σ 51 (4 * v + p)) = 0)) → bk_MM_clockRetimed_115 Q (lp_MM_clockRetimed_73 Q f) (lp_MM_clockRetimed_81 Q (lp_MM_clockRetimed_73 Q f) m) mo2 v ξ := fun hst => by
            refine ⟨hzm, fun q4 => nx2 (by omega) (0, ξ) ⟨by omega, Or.inl rfl, xs, x01, xin, xg, by show cnt (fun i => σ 11 i = 1 ∧ ξ 148 i = 0) L.length + 0 ≤ _; omega, fun _ => ⟨(xe q4).1, fun n n0 n1 n2 hg hn => ?_⟩⟩, fun q4 => nx2 (by omega) (1, ξ) ⟨by omega, Or.inr rfl, xs, x01, xin, xg, by show cnt (fun i => σ 11 i = 1 ∧ ξ 148 i = 0) L.length + 1 ≤ _; clear hst; omega, fun q5 => absurd q5 (show ¬ (1 : Int) = 0 by decide)⟩⟩
            by_cases e : n = v
            · subst e
              have e1 := (xe q4).1
              rw [e1] at hst
              rcases hst hg with e2 | ⟨e2, e3⟩
              · omega
              · exact e3
            · exact (xe q4).2 n n0 (by omega) n2 hg hn
          refine ⟨v0, by omega, by omega, fun q4 => stay (fun q5 => by omega), fun q4 => ?_⟩
          have hg : σ 11 v = 1 := by omega
          have x148 := x01 v v0 (by omega)
          refine ⟨by omega, fun q5 => ?_, fun q5 => stay (fun _ => Or.inl (by omega))⟩
          refine sm_worked h hm s01 X x01 xg v0 (by omega) hg (fun p p0 p1 p2 p3 => ⟨by decide, fun _ => stay (fun _ => Or.inr ⟨q5, p, p0, p1, p2, p3⟩), fun q6 => absurd rfl q6⟩) (fun hall ζ zs => ⟨by decide, fun q6 => absurd q6 (by decide), fun _ => ?_⟩)
          have z148 : ∀ i : Int, zup (zup ζ 149 v (gv σ pt s v)) 148 v 1 148 i = if i = v then 1 else ξ 148 i := fun i => by
            rw [zup_or, zup_ne _ _ _ _ (by decide), zs 148 (by decide)]
          have z149 : ∀ i : Int, zup (zup ζ 149 v (gv σ pt s v)) 148 v 1 149 i = if i = v then gv σ pt s v else ξ 149 i := fun i => by
            rw [zup_ne _ _ _ _ (by decide), zup_or, zs 149 (by decide)]
          refine nx2 (by omega) (1, zup (zup ζ 149 v (gv σ pt s v)) 148 v 1) ⟨by omega, Or.inr rfl, ((xs.trans (zs.mono (by decide))).up (by decide)).up (by decide), fun i i0 i1 => ?_, fun i i0 i1 i2 => ?_, fun i i0 i1 hgi hi => ?_, ?_, fun q6 => absurd q6 (show ¬ (1 : Int) = 0 by decide)⟩
          · dsimp only
            rw [z148]
            split
            · exact Or.inr rfl
            · exact x01 i i0 i1
          · dsimp only
            rw [z148]
            split
            · rfl
            · exact xin i i0 i1 i2
          · dsimp only at hi ⊢
            rw [z149]
            rw [z148] at hi
            by_cases e : i = v
            · rw [if_pos e, e]
              exact (sgate v v0 (by omega) hg).symm
            · rw [if_neg e]
              rw [if_neg e] at hi
              exact xg i i0 i1 hgi hi
          · dsimp only
            have := cnt_lt (p := fun i => σ 11 i = 1 ∧ zup (zup ζ 149 v (gv σ pt s v)) 148 v 1 148 i = 0) (q := fun i => σ 11 i = 1 ∧ ξ 148 i = 0) L.length (fun i i0 i1 hi => ⟨hi.1, by
              have h2 := hi.2
              rw [z148] at h2
              by_cases e : i = v
              · rw [if_pos e] at h2; omega
              · rw [if_neg e] at h2; exact h2⟩) v0 (by omega) (fun hi => by
              have h2 := hi.2
              rw [z148, if_pos rfl] at h2
              omega) ⟨hg, q5⟩
            omega
    · have := hI i i0 (by omega)
      exact (this.2.2 (this.2.1 hk1)).2
  · have nd := h.nd v0 (show v < L.length by omega)
    rw [nd.1]
    refine ⟨v0, by omega, by omega, fun q2 => ⟨v0, by omega, Or.inr rfl, ?_⟩, fun q2 => ⟨v0, by omega, Or.inl rfl, ?_⟩⟩
    · rintro _ rfl
      refine ⟨v0, by omega, by rw [zup_at]; decide, fun q3 => absurd q3 (by rw [zup_at]; decide), fun _ => ?_⟩
      refine sm_entering h v0 (by omega) q2 (by rw [zup_f _ _ _ (by decide)]; exact U 117 (by decide) (by decide) (by decide)) (by rw [zup_f _ _ _ (by decide)]; exact U 101 (by decide) (by decide) (by decide)) ⟨v0, by omega, ?_⟩
      rintro _ rfl
      refine nx (by omega) _ ⟨by omega, (us.up (by decide)).up (by decide), fun i i0 i1 => ?_⟩
      rw [zup_ne _ _ _ _ (by decide), zup_or, zup_or]
      by_cases e : i = v
      · rw [if_pos e, if_pos e]
        refine ⟨Or.inr rfl, fun _ => by rw [e]; exact q2, fun _ => ⟨rfl, ?_⟩⟩
        rw [e, sin v v0 (by omega) q2, iv v v0 (by omega) q2]
      · rw [if_neg e, if_neg e, zup_ne _ _ _ _ (by decide)]
        exact hI i i0 (by omega)
    · rintro _ rfl
      refine ⟨v0, by omega, by rw [zup_at]; decide, fun _ => ⟨v0, by omega, ?_⟩, fun q3 => absurd (zup_at _ _ _ _) q3⟩
      rintro _ rfl
      refine nx (by omega) _ ⟨by omega, (us.up (by decide)).up (by decide), fun i i0 i1 => ?_⟩
      rw [zup_ne _ _ _ _ (by decide), zup_or, zup_or]
      by_cases e : i = v
      · rw [if_pos e, if_pos e]
        exact ⟨Or.inl rfl, fun q3 => absurd q3 (by decide), fun q3 => absurd (by rw [← e]; exact q3) q2⟩
      · rw [if_neg e, if_neg e, zup_ne _ _ _ _ (by decide)]
        exact hI i i0 (by omega)
