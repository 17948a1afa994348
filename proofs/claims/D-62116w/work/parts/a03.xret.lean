/-! clockRetimed: CellMapper's side -/
def xret (σ υ : zS) (L : Gr) (s : Int → Int) : Prop := zsm [6, 54] σ υ ∧ (∀ i : Int, 0 ≤ i → i < L.length → υ 6 i = 0 ∨ υ 6 i = 1) ∧ (∀ i : Int, 0 ≤ i → i < L.length → (σ 11 i = 1 ∨ σ 1 i = 0) → υ 6 i = s i) ∧ ∀ k : Int, 0 ≤ k → k < 196 → υ 54 k = nxt σ s k
theorem sx_retend {σ τ : zS} {L : Gr} {pt : Int → Pat} {Q : Int → zS → Prop} {s : Int → Int} (h : BW σ L pt) (hm : MP σ L) (s01 : ∀ i, s i = 0 ∨ s i = 1) (ts : zsm [6] σ τ) (t01 : ∀ i : Int, 0 ≤ i → i < L.length → τ 6 i = 0 ∨ τ 6 i = 1) (tg : ∀ i : Int, 0 ≤ i → i < L.length → (σ 11 i = 1 ∨ σ 1 i = 0) → τ 6 i = s i) (hQ : ∀ υ, xret σ υ L s → Q (osum (fun k => arr σ s (192 + k)) (σ 40 4).toNat) υ) : bk_CX_clockRetimed_174 Q τ := by
  have o0 := h.o0
  have o1 := h.o1
  have e70 := h.e70
  have hl := h.len
  refine lp_for (lp := fun n v (a : Int) => lp_CX_clockRetimed_179 Q n a v τ) (fun v a => 0 ≤ v ∧ a = osum (fun k => arr σ s (192 + k)) v.toNat) (σ 40 4) (fun n v a hv hI nx => ?_) 0 0 o0 ⟨by omega, rfl⟩
  obtain ⟨v0, rfl⟩ := hI
  unfold lp_CX_clockRetimed_179
  rw [ts 40 (by decide)]
  refine ⟨by omega, by omega, fun q => ?_, fun q => ?_⟩
  · have : v = σ 40 4 := by omega
    subst this
    refine lp_for (lp := fun n v a => lp_CX_clockRetimed_216 Q n _ v a) (fun v υ => zsm [54] τ υ ∧ 0 ≤ v ∧ (∀ k : Int, 0 ≤ k → k < v → υ 54 k = nxt σ s k) ∧ (∀ k : Int, v ≤ k → υ 54 k = σ 54 k)) 196 (fun n v υ hv hI nx => ?_) 0 τ (by decide) ⟨zsm.rf, by omega, fun k k0 k1 => absurd k1 (by omega), fun k _ => by rw [ts 54 (by decide)]⟩
    obtain ⟨us, v0, hI, hJ⟩ := hI
    have E : ∀ f, f ≠ 54 → f ≠ 6 → υ f = σ f := fun f h1 h2 => (us f (by simp; omega)).trans (ts f (by simp; omega))
    unfold lp_CX_clockRetimed_216
    rw [E 52 (by decide) (by decide), E 51 (by decide) (by decide), E 70 (by decide) (by decide), us 6 (by decide)]
    refine ⟨by omega, fun q2 => hQ υ ⟨(ts.mono (by decide)).trans (us.mono (by decide)), fun i i0 i1 => by rw [us 6 (by decide)]; exact t01 i i0 i1, fun i i0 i1 hg => by rw [us 6 (by decide)]; exact tg i i0 i1 hg, fun k k0 k1 => hI k k0 (by omega)⟩, fun q2 => ⟨v0, by omega, ?_⟩⟩
    by_cases hk : lkX σ L.length v
    · obtain ⟨b1, b2, b3, b4, b5, b6, b7, b8, b9, -⟩ := hm.2.2.2.2.1 v v0 (by omega) hk
      refine ⟨by omega, fun q3 => nx (by omega) υ ⟨us, by omega, fun k k0 k1 => ?_, fun k hk => hJ k (by omega)⟩, fun q3 => ⟨b1, by omega, ?_, ?_⟩⟩
      · by_cases e : k = v
        · rw [e, hJ v (Int.le_refl _)]
          unfold nxt
          rw [if_neg (by omega)]
        · exact hI k k0 (by omega)
      · have := t01 _ b1 b2
        omega
      · rintro _ rfl
        rw [hJ v (Int.le_refl _), tg _ b1 b2 b3, nxt_z (by omega) b5 b8 b9 (s01 _)]
        refine nx (by omega) _ ⟨us.up (by decide), by omega, fun k k0 k1 => ?_, fun k hk => ?_⟩
        · rw [zup_or]
          by_cases e : k = v
          · rw [if_pos e, e]
            unfold nxt
            rw [if_pos (by omega)]
          · rw [if_neg e]
            exact hI k k0 (by omega)
        · rw [zup_ni _ _ _ (by omega)]
          exact hJ k (by omega)
    · obtain ⟨b1, b2, b3⟩ := hm.2.2.2.2.2.1 v v0 (by omega) hk
      refine ⟨by omega, fun q3 => nx (by omega) υ ⟨us, by omega, fun k k0 k1 => ?_, fun k hk => hJ k (by omega)⟩, fun q3 => absurd q3 (by omega)⟩
      by_cases e : k = v
      · rw [e, hJ v (Int.le_refl _)]
        unfold nxt
        rw [if_neg (by omega)]
      · exact hI k k0 (by omega)
  · have hk : lkX σ L.length (192 + v) := Or.inr (by omega)
    refine sx_arrives hm (by rw [ts 70 (by decide)]; exact e70) (ts 51 (by decide)) (ts 52 (by decide)) (ts 54 (by decide)) (by omega) (by omega) hk ?_
    rintro _ rfl
    have e : arr σ (τ 6) (192 + v) = arr σ s (192 + v) := by
      obtain ⟨b1, b2, b3, -⟩ := hm.2.2.2.2.1 (192 + v) (by omega) (by omega) hk
      unfold arr
      rw [tg _ b1 b2 b3]
    rw [e]
    exact nx (by omega) _ ⟨by omega, osum_step (f := fun k => arr σ s (192 + k)) v0 (by omega) (fun j _ _ => arr_01 s01 _)⟩
/-- one gate is worked out -/
theorem sx_gate1 {σ τ : zS} {L : Gr} {pt : Int → Pat} {Q : Int → zS → Prop} {J22 : Int → Int → zS → Prop} {J37 : Int → Int → Int → zS → Prop} {v2 v3 v4 n : Int} (h : BW σ L pt) (hm : MP σ L) (ts : zsm [6] σ τ) (t01 : ∀ i : Int, 0 ≤ i → i < L.length → τ 6 i = 0 ∨ τ 6 i = 1) (n0 : 0 ≤ n) (n1 : n < L.length) (hg : σ 11 n = 1) (h2 : v2 = 0 ∨ v2 = 1) (k : ∀ b, (b = 0 ∨ b = 1) → (b = 0 → v2 = 0 ∧ gv σ pt (τ 6) n = τ 6 n) → J37 b v3 (v4 + 1) (zup τ 6 n (gv σ pt (τ 6) n))) : ∃ u, lp_CX_clockRetimed_77 Q J22 J37 u v2 v3 v4 n 0 0 τ := by
  obtain ⟨d1, d2, -⟩ := hm.2.1 n n0 n1 hg
  have hpn := h.pins d1 d2
  have c3 := h.c3
  have e70 := h.e70
  obtain ⟨a1, a2, a3, a4, a5, a6⟩ := h.cpt _ d1 d2
  -- the values as a total function
  have S01 : ∀ p : Int, 0 ≤ p → p < σ 24 (σ 14 n) → arr σ (τ 6) (4 * n + p) = 0 ∨ arr σ (τ 6) (4 * n + p) = 1 := fun p p0 p1 => by
    obtain ⟨l0, l1, l2, lk⟩ := lk_pin h hm n0 n1 hg p0 p1
    obtain ⟨s0, s1, -⟩ := hm.2.2.2.2.1 _ l0 (by omega) lk
    unfold arr
    split
    · exact t01 _ s0 s1
    · omega
  refine lp_for (lp := fun m p (a : Int) => lp_CX_clockRetimed_77 Q J22 J37 m v2 v3 v4 n a p τ) (fun p a => 0 ≤ p ∧ a = osum (fun p => arr σ (τ 6) (4 * n + p)) p.toNat) (σ 24 (σ 14 n)) (fun m p a hp hI nx => ?_) 0 0 (by omega) ⟨by omega, rfl⟩
  obtain ⟨p0, rfl⟩ := hI
  unfold lp_CX_clockRetimed_77
  rw [ts 70 (by decide), ts 14 (by decide), ts 71 (by decide), ts 24 (by decide), ts 25 (by decide), ts 0 (by decide)]
  refine ⟨n0, by omega, d1, by omega, by omega, by omega, fun q => ?_, fun q => ?_⟩
  · have : p = σ 24 (σ 14 n) := by omega
    subst this
    have pr : prep τ (pt (σ 14 n)) (σ 25 (σ 14 n)) 0 := prep_ext (by rw [ts 72 (by decide)]; exact Int.le_refl _) (fun i _ _ => by rw [ts 30 (by decide), ts 31 (by decide), ts 32 (by decide)]; exact ⟨rfl, rfl, rfl⟩) _ _ _ a6
    refine sx_value _ 8 _ 0 _ a1 (by omega) pr ?_
    have ev : pval (pt (σ 14 n)) (pbit (osum (fun p => arr σ (τ 6) (4 * n + p)) (σ 24 (σ 14 n)).toNat)) 0 = gv σ pt (τ 6) n := by
      refine pval_congr _ _ (fun p q0 q1 => ?_)
      exact pbit_osum (by omega) (by omega) S01 q0 (by omega)
    have gv01 : gv σ pt (τ 6) n = 0 ∨ gv σ pt (τ 6) n = 1 := by
      rw [← ev]
      exact pval_01 (pbit_01 _) _ _
    rw [ev]
    have t6 := t01 n n0 n1
    refine ⟨by omega, fun q2 => ⟨n0, by rw [ts 70 (by decide)]; omega, by omega, by omega, fun q3 => ⟨n0, by rw [ts 70 (by decide)]; omega, ?_⟩, fun q3 => ⟨n0, by rw [ts 70 (by decide)]; omega, ?_⟩⟩, fun q2 => ⟨n0, by rw [ts 70 (by decide)]; omega, ?_⟩⟩
    · rintro _ rfl
      exact k 0 (Or.inl rfl) (fun _ => ⟨q2, q3⟩)
    · rintro _ rfl
      exact k 1 (Or.inr rfl) (fun q => absurd q (by decide))
    · rintro _ rfl
      exact k 1 (Or.inr rfl) (fun q => absurd q (by decide))
  · obtain ⟨l0, l1, l2, lk⟩ := lk_pin h hm n0 n1 hg p0 (by omega)
    rw [(h.nd n0 n1).2.2.2.2.1]
    refine sx_arrives hm (by rw [ts 70 (by decide)]; exact e70) (ts 51 (by decide)) (ts 52 (by decide)) (ts 54 (by decide)) l0 (by omega) lk ?_
    rintro _ rfl
    exact nx (by omega) _ ⟨by omega, osum_step (f := fun p => arr σ (τ 6) (4 * n + p)) p0 (by omega) (fun j j0 j1 => S01 j j0 (by omega))⟩
theorem sx_clockRetimed {σ : zS} {L : Gr} {pt : Int → Pat} {Q : Int → zS → Prop} {v1 : Int} (h : BW σ L pt) (hm : σ 56 0 = 1 → MP σ L) (h0 : σ 56 0 = 0 → Q (-6) σ) (h1 : σ 56 0 = 1 → ∀ inp : Int → Int, (∀ i, inp i = 0 ∨ inp i = 1) → (∀ i : Int, 0 ≤ i → i < L.length → σ 1 i = 0 → inp i = zand (zshr v1 (σ 4 i)) 1) → ∀ υ, xret σ υ L (sg σ L pt inp) → Q (osum (fun k => arr σ (sg σ L pt inp) (192 + k)) (σ 40 4).toNat) υ) : wp_CX_clockRetimed Q v1 σ := by
  have hmp := h.mp
  refine ⟨by omega, h0, fun q => ?_⟩
  have hm := hm (by omega)
  obtain ⟨inp, i01, iv⟩ : ∃ inp : Int → Int, (∀ i, inp i = 0 ∨ inp i = 1) ∧ ∀ i : Int, 0 ≤ i → i < L.length → σ 1 i = 0 → inp i = zand (zshr v1 (σ 4 i)) 1 := ⟨fun i => zand (zshr v1 (σ 4 i)) 1, fun i => bt_01 _ _, fun i _ _ _ => rfl⟩
  have h1 := h1 (by omega) inp i01 iv
  have ig : ∀ i : Int, 0 ≤ i → i < L.length → σ 1 i = 0 → σ 11 i ≠ 1 := fun i i0 i1 i2 q => by
    have := (hm.2.1 i i0 i1 q).2.2.2.2
    omega
  have e40 := h.e40
  have e70 := h.e70
  have hl := h.len
  obtain ⟨key, hk⟩ := hm.2.2.2.2.2.2
  refine sx_feed h (fun τ0 f1 f2 f3 => ?_)
  have IN : ∀ i : Int, 0 ≤ i → i < L.length → σ 1 i = 0 → τ0 6 i = inp i := fun i i0 i1 i2 => by
    rw [iv i i0 i1 i2]
    exact f2 i i0 i1 i2
  have V0 : ∀ i : Int, 0 ≤ i → i < L.length → τ0 6 i = 0 ∨ τ0 6 i = 1 := fun i i0 i1 => by
    by_cases e : σ 1 i = 0
    · rw [f2 i i0 i1 e]
      exact bt_01 _ _
    · rw [f3 i (fun q => e q.2.2)]
      exact h.val i i0 i1
  have s01 := sg_01 (σ := σ) (L := L) (pt := pt) i01
  generalize hsg : sg σ L pt inp = s at h1 s01
  have sgate : ∀ n : Int, 0 ≤ n → n < L.length → σ 11 n = 1 → s n = gv σ pt s n := fun n n0 n1 hg => by rw [← hsg]; exact sg_gate h hm n0 n1 hg
  have sin : ∀ n : Int, 0 ≤ n → n < L.length → σ 1 n = 0 → s n = inp n := fun n n0 n1 h1 => by rw [← hsg]; exact sg_in (ig n n0 n1 h1)
  -- the end
  have fin : ∀ τ, zsm [6] σ τ → (∀ i : Int, 0 ≤ i → i < L.length → τ 6 i = 0 ∨ τ 6 i = 1) → (∀ i : Int, 0 ≤ i → i < L.length → σ 1 i = 0 → τ 6 i = inp i) → (∀ n : Int, 0 ≤ n → n < L.length → σ 11 n = 1 → τ 6 n = s n) → bk_CX_clockRetimed_174 Q τ := fun τ ts t01 tin tg => sx_retend h hm s01 ts t01 (fun i i0 i1 hg => by
    rcases hg with hg | hg
    · exact tg i i0 i1 hg
    · rw [tin i i0 i1 hg, sin i i0 i1 hg]) h1
  refine lp_for (lp := fun n t (a : Int × zS) => lp_CX_clockRetimed_22 Q n a.1 t a.2) (fun t a => 0 ≤ t ∧ (a.1 = 0 ∨ a.1 = 1) ∧ zsm [6] σ a.2 ∧ (∀ i : Int, 0 ≤ i → i < L.length → a.2 6 i = 0 ∨ a.2 6 i = 1) ∧ (∀ i : Int, 0 ≤ i → i < L.length → σ 1 i = 0 → a.2 6 i = inp i) ∧ (∀ n : Int, 0 ≤ n → n < L.length → σ 11 n = 1 → rk σ L key n < t → a.2 6 n = s n) ∧ (a.1 = 0 → ∀ n : Int, 0 ≤ n → n < L.length → σ 11 n = 1 → a.2 6 n = s n)) 49 (fun f t a ht hI nx => ?_) 0 (1, τ0) (by decide) ⟨by omega, Or.inr rfl, f1, V0, IN, fun n n0 n1 _ hr => ?_, fun q => absurd q (show ¬ (1 : Int) = 0 by decide)⟩
  · obtain ⟨more, τ⟩ := a
    obtain ⟨t0, hmo, ts, t01, tin, tg, tend⟩ := hI
    dsimp only at hmo ts t01 tin tg tend
    unfold lp_CX_clockRetimed_22
    dsimp only
    refine ⟨by omega, fun q2 => fin τ ts t01 tin (tend q2), fun q2 => ⟨by omega, fun q3 => fin τ ts t01 tin (fun n n0 n1 hg => tg n n0 n1 hg (by have := (rk_b (σ := σ) (key := key) hl n0 n1).2; omega)), fun q3 => ?_⟩⟩
    -- one turn
    refine lp_for (lp := fun n v (a : Int × zS) => lp_CX_clockRetimed_37 Q (lp_CX_clockRetimed_22 Q f) n a.1 t v a.2) (fun v a => 0 ≤ v ∧ (a.1 = 0 ∨ a.1 = 1) ∧ zsm [6] σ a.2 ∧ (∀ i : Int, 0 ≤ i → i < L.length → a.2 6 i = 0 ∨ a.2 6 i = 1) ∧ (∀ i : Int, 0 ≤ i → i < L.length → σ 1 i = 0 → a.2 6 i = inp i) ∧ (∀ n : Int, 0 ≤ n → n < L.length → σ 11 n = 1 → rk σ L key n < t → a.2 6 n = s n) ∧ (∀ n : Int, 0 ≤ n → n < v → n < L.length → σ 11 n = 1 → rk σ L key n < t + 1 → a.2 6 n = s n) ∧ (a.1 = 0 → ∀ n : Int, 0 ≤ n → n < v → n < L.length → σ 11 n = 1 → a.2 6 n = gv σ pt (a.2 6) n)) (L.length : Int) (fun m v a hv hJ nx2 => ?_) 0 (0, τ) (by omega) ⟨by omega, Or.inl rfl, ts, t01, tin, tg, fun n n0 n1 => absurd n1 (by omega), fun _ n n0 n1 => absurd n1 (by omega)⟩
    obtain ⟨mo, υ⟩ := a
    obtain ⟨v0, hmo2, us, u01, uin, ug, uv, ue⟩ := hJ
    dsimp only at hmo2 us u01 uin ug uv ue
    unfold lp_CX_clockRetimed_37
    dsimp only
    rw [us 40 (by decide), us 41 (by decide), us 70 (by decide), us 11 (by decide)]
    refine ⟨by omega, by omega, fun q4 => ?_, fun q4 => ?_⟩
    · refine nx (by omega) (mo, υ) ⟨by omega, hmo2, us, u01, uin, fun n n0 n1 hg hr => uv n n0 (by omega) n1 hg hr, fun q5 => ?_⟩
      have := sg_uniq h hm uin (fun n n0 n1 hg => ue q5 n n0 (by omega) n1 hg)
      rw [hsg] at this
      exact this
    · have hn := h.nd v0 (show v < L.length by omega)
      rw [hn.2.2.2.1]
      refine ⟨v0, by omega, v0, by omega, ?_⟩
      intro y hy
      rw [hy]
      have hg01 := (hm.1 v v0 (by omega)).1
      refine ⟨by omega, fun q5 => nx2 (by omega) (mo, υ) ⟨by omega, hmo2, us, u01, uin, ug, fun n n0 n1 n2 hg hr => ?_, fun q6 n n0 n1 n2 hg => ?_⟩, fun q5 => ?_⟩
      · by_cases e : n = v
        · rw [e] at hg; omega
        · exact uv n n0 (by omega) n2 hg hr
      · by_cases e : n = v
        · rw [e] at hg; omega
        · exact ue q6 n n0 (by omega) n2 hg
      · have hg : σ 11 v = 1 := by omega
        refine sx_gate1 h hm us u01 v0 (by omega) hg hmo2 (fun b hb hb0 => ?_)
        have gst : rk σ L key v < t + 1 → gv σ pt (υ 6) v = s v := fun hr => by
          rw [sgate v v0 (by omega) hg]
          refine gv_congr h hm v0 (by omega) hg (fun p p0 p1 e => ?_)
          obtain ⟨l0, l1, l2, lk⟩ := lk_pin h hm v0 (by omega) hg p0 p1
          obtain ⟨s0, s1, s2, -⟩ := hm.2.2.2.2.1 _ l0 (by omega) lk
          by_cases hg2 : σ 11 (σ 51 (4 * v + p)) = 1
          · have := hk _ l0 l1 lk e hg2
            rw [l2] at this
            have := rk_lt (σ := σ) s0 s1 hg2 this
            exact ug _ s0 s1 hg2 (by omega)
          · rw [uin _ s0 s1 (by omega), sin _ s0 s1 (by omega)]
        have g01 : gv σ pt (υ 6) v = 0 ∨ gv σ pt (υ 6) v = 1 := by
          have : ∀ s : Int → Int, (∀ i : Int, 0 ≤ i → i < L.length → s i = 0 ∨ s i = 1) → gv σ pt s v = 0 ∨ gv σ pt s v = 1 := fun s hs => by
            have e : gv σ pt s v = gv σ pt (fun i => if 0 ≤ i ∧ i < L.length then s i else 0) v := gv_congr h hm v0 (by omega) hg (fun p p0 p1 e => by
              obtain ⟨l0, l1, l2, lk⟩ := lk_pin h hm v0 (by omega) hg p0 p1
              obtain ⟨s0, s1, s2, -⟩ := hm.2.2.2.2.1 _ l0 (by omega) lk
              rw [if_pos ⟨s0, s1⟩])
            rw [e]
            refine pval_01 (fun p => arr_01 (fun i => ?_) _) _ _
            split
            · rename_i hh
              exact hs i hh.1 hh.2
            · exact Or.inl rfl
          exact this _ u01
        refine nx2 (by omega) (b, _) ⟨by omega, hb, us.up (by decide), fun i i0 i1 => ?_, fun i i0 i1 i2 => ?_, fun n n0 n1 hg' hr => ?_, fun n n0 n1 n2 hg' hr => ?_, fun q6 n n0 n1 n2 hg' => ?_⟩
        · show zup υ 6 v _ 6 i = 0 ∨ zup υ 6 v _ 6 i = 1
          rw [zup_or]
          split
          · exact g01
          · exact u01 i i0 i1
        · show zup υ 6 v _ 6 i = _
          rw [zup_or, if_neg (fun e => ig i i0 i1 i2 (by rw [e]; exact hg))]
          exact uin i i0 i1 i2
        · show zup υ 6 v _ 6 n = _
          rw [zup_or]
          by_cases e : n = v
          · rw [if_pos e, e]
            exact gst (by rw [← e]; omega)
          · rw [if_neg e]
            exact ug n n0 n1 hg' hr
        · show zup υ 6 v _ 6 n = _
          rw [zup_or]
          by_cases e : n = v
          · rw [if_pos e, e]
            exact gst (by rw [← e]; omega)
          · rw [if_neg e]
            exact uv n n0 (by omega) n2 hg' hr
        · obtain ⟨b1, b2⟩ := hb0 q6
          have same : zup υ 6 v (gv σ pt (υ 6) v) 6 = υ 6 := by
            funext i
            rw [zup_or]
            split
            · rename_i e
              rw [b2, e]
            · rfl
          show zup υ 6 v _ 6 n = gv σ pt (zup υ 6 v _ 6) n
          rw [same]
          by_cases e : n = v
          · rw [e, b2]
          · exact ue b1 n n0 (by omega) n2 hg'
  · have := (rk_b (σ := σ) (key := key) hl n0 n1).1
    omega
