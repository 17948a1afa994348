/-! BW again when only what is worked out changes (printed by gen/ops3.py) -/
def wks : List Nat := [6, 7, 9, 10, 11, 12, 13, 14, 15, 16, 17, 50, 51, 52, 53, 54, 56, 57, 58, 59, 60, 104, 110, 124, 125, 126, 127, 128, 129, 130, 131, 132, 133, 134, 135, 136, 137, 138, 139, 140, 141, 142, 143, 144, 145, 146, 147, 148, 149, 150]
theorem BW_fr {σ υ : zS} {L : Gr} {pt : Int → Pat} (h : BW σ L pt) (hs : zsm [6, 7, 9, 10, 11, 12, 13, 14, 15, 16, 17, 50, 51, 52, 53, 54, 56, 57, 58, 59, 60, 104, 110, 124, 125, 126, 127, 128, 129, 130, 131, 132, 133, 134, 135, 136, 137, 138, 139, 140, 141, 142, 143, 144, 145, 146, 147, 148, 149, 150] σ υ) (hw : zWf υ) (hval : ∀ i : Int, 0 ≤ i → i < L.length → υ 6 i = 0 ∨ υ 6 i = 1) (hlan : ∀ i : Int, 0 ≤ i → i < L.length → σ 1 i = 1 → (υ 7 i = 0 ∨ υ 7 i = 1) ∧ υ 104 (σ 117 i) = υ 7 i) (hmp : υ 56 0 = 0 ∨ υ 56 0 = 1) (hmq : υ 124 0 = υ 56 0) : BW υ L pt := by
  have e0 : υ 0 = σ 0 := hs 0 (by decide)
  have e1 : υ 1 = σ 1 := hs 1 (by decide)
  have e2 : υ 2 = σ 2 := hs 2 (by decide)
  have e3 : υ 3 = σ 3 := hs 3 (by decide)
  have e4 : υ 4 = σ 4 := hs 4 (by decide)
  have e5 : υ 5 = σ 5 := hs 5 (by decide)
  have e8 : υ 8 = σ 8 := hs 8 (by decide)
  have e20 : υ 20 = σ 20 := hs 20 (by decide)
  have e21 : υ 21 = σ 21 := hs 21 (by decide)
  have e22 : υ 22 = σ 22 := hs 22 (by decide)
  have e23 : υ 23 = σ 23 := hs 23 (by decide)
  have e24 : υ 24 = σ 24 := hs 24 (by decide)
  have e25 : υ 25 = σ 25 := hs 25 (by decide)
  have e30 : υ 30 = σ 30 := hs 30 (by decide)
  have e31 : υ 31 = σ 31 := hs 31 (by decide)
  have e32 : υ 32 = σ 32 := hs 32 (by decide)
  have e40 : υ 40 = σ 40 := hs 40 (by decide)
  have e41 : υ 41 = σ 41 := hs 41 (by decide)
  have e42 : υ 42 = σ 42 := hs 42 (by decide)
  have e43 : υ 43 = σ 43 := hs 43 (by decide)
  have e44 : υ 44 = σ 44 := hs 44 (by decide)
  have e45 : υ 45 = σ 45 := hs 45 (by decide)
  have e46 : υ 46 = σ 46 := hs 46 (by decide)
  have e70 : υ 70 = σ 70 := hs 70 (by decide)
  have e71 : υ 71 = σ 71 := hs 71 (by decide)
  have e72 : υ 72 = σ 72 := hs 72 (by decide)
  have e100 : υ 100 = σ 100 := hs 100 (by decide)
  have e101 : υ 101 = σ 101 := hs 101 (by decide)
  have e102 : υ 102 = σ 102 := hs 102 (by decide)
  have e103 : υ 103 = σ 103 := hs 103 (by decide)
  have e105 : υ 105 = σ 105 := hs 105 (by decide)
  have e106 : υ 106 = σ 106 := hs 106 (by decide)
  have e107 : υ 107 = σ 107 := hs 107 (by decide)
  have e108 : υ 108 = σ 108 := hs 108 (by decide)
  have e109 : υ 109 = σ 109 := hs 109 (by decide)
  have e111 : υ 111 = σ 111 := hs 111 (by decide)
  have e112 : υ 112 = σ 112 := hs 112 (by decide)
  have e113 : υ 113 = σ 113 := hs 113 (by decide)
  have e114 : υ 114 = σ 114 := hs 114 (by decide)
  have e115 : υ 115 = σ 115 := hs 115 (by decide)
  have e116 : υ 116 = σ 116 := hs 116 (by decide)
  have e117 : υ 117 = σ 117 := hs 117 (by decide)
  have e118 : υ 118 = σ 118 := hs 118 (by decide)
  have e119 : υ 119 = σ 119 := hs 119 (by decide)
  have e120 : υ 120 = σ 120 := hs 120 (by decide)
  have e121 : υ 121 = σ 121 := hs 121 (by decide)
  have e122 : υ 122 = σ 122 := hs 122 (by decide)
  have e123 : υ 123 = σ 123 := hs 123 (by decide)
  refine BW.mk ?xg_ ?mg_ ?len_ ?n0_ ?n1_ ?n2_ ?net_ ?leaf_ ?lnet_ ?i0_ ?i1_ ?i2_ ?inp_ ?ino_ ?icn_ ?l0_ ?l1_ ?l2_ ?lat_ ?lan_ ?o0_ ?o1_ ?o2_ ?out_ ?c0_ ?c1_ ?c2_ ?c3_ ?c4_ ?cel_ ?cpt_ ?val_ ?fnc_ ?mp_ ?mq_
  case xg_ => exact h.xg.sm (by rw [e40]) (by rw [e70]) (by rw [e41]) (by rw [e0]) (by rw [e1]) (by rw [e2]) (by rw [e3]) hw
  case mg_ => exact h.mg.sm (by rw [e113]) e114 e115 e116
  case len_ => exact h.len
  case n0_ =>
    simp only [e40]
    exact h.n0
  case n1_ =>
    simp only [e40]
    exact h.n1
  case n2_ =>
    simp only [e40, e100]
    exact h.n2
  case net_ =>
    simp only [e40, e42, e101, e102]
    exact h.net
  case leaf_ =>
    simp only [e1, e40, e42, e101, e117]
    exact h.leaf
  case lnet_ =>
    simp only [e1, e40, e42, e101, e117]
    exact h.lnet
  case i0_ =>
    simp only [e40]
    exact h.i0
  case i1_ =>
    simp only [e40]
    exact h.i1
  case i2_ =>
    simp only [e40, e111]
    exact h.i2
  case inp_ =>
    simp only [e1, e4, e40, e43]
    exact h.inp
  case ino_ =>
    simp only [e1, e4, e40, e43, e101, e117]
    exact h.ino
  case icn_ =>
    simp only [e40, e101]
    exact h.icn
  case l0_ =>
    simp only [e40]
    exact h.l0
  case l1_ =>
    simp only [e40]
    exact h.l1
  case l2_ =>
    simp only [e40, e112]
    exact h.l2
  case lat_ =>
    simp only [e1, e40, e44]
    exact h.lat
  case lan_ =>
    intro i i0 i1 hk
    rw [e1] at hk
    obtain ⟨r1, r2, r3, r4, r5, r6, r7⟩ := h.lan i i0 i1 hk
    simp only [e40, e44, e8, e117, e103, e4, e42, e5, e105]
    exact ⟨r1, r2, r3, r4, (hlan i i0 i1 hk).1, (hlan i i0 i1 hk).2, r7⟩
  case o0_ =>
    simp only [e40]
    exact h.o0
  case o1_ =>
    simp only [e40]
    exact h.o1
  case o2_ =>
    simp only [e40, e118]
    exact h.o2
  case out_ =>
    simp only [e40, e42, e45, e119]
    exact h.out
  case c0_ =>
    simp only [e40]
    exact h.c0
  case c1_ =>
    simp only [e40]
    exact h.c1
  case c2_ =>
    simp only [e40, e120]
    exact h.c2
  case c3_ =>
    simp only [e40, e71]
    exact h.c3
  case c4_ =>
    simp only [e72]
    exact h.c4
  case cel_ =>
    simp only [e20, e21, e22, e23, e40, e46, e121, e122, e123]
    exact h.cel
  case cpt_ =>
    intro c c0 c1
    rw [e40] at c1
    obtain ⟨a1, a2, a3, a4, a5, a6⟩ := h.cpt c c0 c1
    rw [e21, e24, e25]
    exact ⟨a1, a2, a3, a4, a5, prep_ext (by rw [e72]; exact Int.le_refl _) (fun i _ _ => by rw [e30, e31, e32]; exact ⟨rfl, rfl, rfl⟩) _ _ _ a6⟩
  case val_ =>
    exact hval
  case fnc_ =>
    have hf : ∀ v j, fidx υ v j = fidx σ v j := fun v j => by unfold fidx; rw [e42, e106, e107, e108]
    simp only [hf, e40, e42, e101, e106, e107, e108, e109]
    exact h.fnc
  case mp_ =>
    exact hmp
  case mq_ =>
    exact hmq
theorem op_clock {σ : zS} {L : Gr} {pt : Int → Pat} {Q : zS → Prop} {a : Int} (h : BW σ L pt) (hQ : Q σ) (hQ2 : ∀ υ, BW υ L pt → zsm [6, 7, 104, 110] σ υ → Q υ) : wp_CX_clock (fun r τ => wp_MM_clock (fun r' υ => r' = r ∧ Q υ) a τ) a σ := by
  refine sx_clock h (fun hu => ?_) (fun hu τ υ hx hs hc => ?_)
  · exact sm_undriven h rfl rfl rfl (fun _ => ⟨by decide, fun q => absurd q (by decide), fun _ => ⟨rfl, hQ⟩⟩) (fun q => absurd hu q)
  · have hx' := hx
    obtain ⟨x1, x2, x3, x4, x5⟩ := hx
    refine sm_clock h hu hx' (fun f hf => (hs f (by simp; omega)).trans (x1 f (by simp; omega))) (fun ω ho hn => ⟨rfl, ?_⟩)
    have W : zsm [6, 7, 104, 110] σ ω := ((x1.mono (by decide)).trans (hs.mono (by decide))).trans (ho.mono (by decide))
    have w6 : ω 6 = τ 6 := (ho 6 (by decide)).trans (hs 6 (by decide))
    have w7 : ω 7 = υ 7 := ho 7 (by decide)
    refine hQ2 ω (BW_fr h (W.mono (by decide)) (h.wf.sm (fun f hf => W f (fun q => ?_))) (fun i i0 i1 => by rw [w6]; exact x5 i i0 i1) (fun i i0 i1 hk => ?_) (by rw [W 56 (by decide)]; exact h.mp) (by rw [W 56 (by decide), W 124 (by decide)]; exact h.mq)) W
    · simp only [List.mem_cons, List.not_mem_nil, or_false] at hf q
      omega
    · have hl := h.lnet i i0 i1 (by omega)
      have hd : 0 ≤ σ 5 i ∧ σ 5 i < L.length ∧ σ 5 i = σ 42 (σ 105 (σ 117 i)) := by
        rcases (h.lan i i0 i1 hk).2.2.2.2.2.2 with ⟨a1, a2⟩ | ⟨a1, a2, a3⟩
        · exact absurd ⟨i, i0, i1, hk, by omega⟩ hu
        · rw [a3]
          exact ⟨(h.net _ a1 a2).1, (h.net _ a1 a2).2.1, rfl⟩
      have u6 : υ 6 = τ 6 := hs 6 (by decide)
      rw [w7, hc.1 i i0 i1 hk, u6, hn _ hl.1 hl.2.1 (by omega), ← hd.2.2]
      exact ⟨x5 _ hd.1 hd.2.1, rfl⟩
/-- reset: x's side -/
theorem sx_reset {σ : zS} {L : Gr} {pt : Int → Pat} {Q : zS → Prop} (h : BW σ L pt) (hQ : ∀ τ, zsm [7, 54] σ τ → (∀ i : Int, 0 ≤ i → i < L.length → σ 1 i = 1 → τ 7 i = σ 4 i) → (∀ k : Int, 0 ≤ k → k < 196 → σ 56 0 = 1 → τ 54 k = σ 53 k) → Q τ) : wp_CX_reset Q σ := by
  have l0 := h.l0
  have l1 := h.l1
  have e70 := h.e70
  have hmp := h.mp
  refine lp_for (lp := fun n v a => lp_CX_reset_2 Q n v a) (fun v τ => zsm [7] σ τ ∧ 0 ≤ v ∧ ∀ k : Int, 0 ≤ k → k < v → τ 7 (σ 44 k) = σ 4 (σ 44 k)) (σ 40 3) (fun n v τ hv hI nx => ?_) 0 σ l0 ⟨zsm.rf, by omega, fun k k0 k1 => absurd k1 (by omega)⟩
  obtain ⟨ts, v0, hI⟩ := hI
  unfold lp_CX_reset_2
  rw [ts 40 (by decide), ts 44 (by decide), ts 70 (by decide), ts 4 (by decide), ts 56 (by decide)]
  have L7 : v = σ 40 3 → ∀ i : Int, 0 ≤ i → i < L.length → σ 1 i = 1 → τ 7 i = σ 4 i := fun q i i0 i1 hk => by
    obtain ⟨k, k0, k1, k2⟩ := (h.lan i i0 i1 hk).1
    have := hI k k0 (by omega)
    rw [k2] at this
    exact this
  refine ⟨by omega, by omega, fun q => ⟨by omega, fun q2 => hQ τ (ts.mono (by decide)) (L7 (by omega)) (fun k _ _ q3 => absurd q3 (by omega)), fun q2 => ?_⟩, fun q => ?_⟩
  · rintro _ rfl
    refine hQ (zcopy τ) (fun f hf => ?_) (fun i i0 i1 hk => ?_) (fun k k0 k1 _ => ?_)
    · simp only [List.mem_cons, List.not_mem_nil, or_false, not_or] at hf
      funext i
      unfold zcopy
      rw [if_neg hf.2, ts f (by simp; omega)]
    · unfold zcopy
      rw [if_neg (by decide)]
      exact L7 (by omega) i i0 i1 hk
    · unfold zcopy
      rw [if_pos rfl, if_pos ⟨k0, k1⟩, ts 53 (by decide)]
  · have hl := h.lat v v0 (by omega)
    refine ⟨v0, by omega, hl.1, by omega, ?_⟩
    rintro _ rfl _ rfl
    refine nx (by omega) _ ⟨ts.up (by decide), by omega, fun k k0 k1 => ?_⟩
    rw [zup_or]
    by_cases e : σ 44 k = σ 44 v
    · rw [if_pos e, e]
    · rw [if_neg e]
      refine hI k k0 ?_
      by_cases e2 : k = v
      · rw [e2] at e; exact absurd rfl e
      · omega
theorem sm_reset {σ : zS} {Q : zS → Prop} (n0 : 0 ≤ σ 100 0) (n1 : σ 100 0 ≤ 40) (hQ : ∀ τ, zsm [104, 140] σ τ → (∀ j : Int, 0 ≤ j → j < σ 100 0 → τ 104 j = σ 103 j) → (∀ k : Int, 0 ≤ k → k < 196 → τ 140 k = σ 139 k) → Q τ) : wp_MM_reset Q σ := by
  refine lp_for (lp := fun n v a => lp_MM_reset_2 Q n v a) (fun v τ => zsm [104] σ τ ∧ 0 ≤ v ∧ ∀ k : Int, 0 ≤ k → k < v → τ 104 k = σ 103 k) (σ 100 0) (fun n v τ hv hI nx => ?_) 0 σ n0 ⟨zsm.rf, by omega, fun k k0 k1 => absurd k1 (by omega)⟩
  obtain ⟨ts, v0, hI⟩ := hI
  unfold lp_MM_reset_2
  rw [ts 100 (by decide), ts 103 (by decide)]
  refine ⟨by omega, by omega, fun q => ?_, fun q => ⟨v0, by omega, ?_⟩⟩
  · refine lp_for (lp := fun n v a => lp_MM_reset_30 Q n v a) (fun v υ => zsm [140] τ υ ∧ 0 ≤ v ∧ ∀ k : Int, 0 ≤ k → k < v → υ 140 k = σ 139 k) 196 (fun n v υ hv hI2 nx => ?_) 0 τ (by decide) ⟨zsm.rf, by omega, fun k k0 k1 => absurd k1 (by omega)⟩
    obtain ⟨us, v0, hI2⟩ := hI2
    refine ⟨by omega, fun q2 => hQ υ ((ts.mono (by decide)).trans (us.mono (by decide))) (fun j j0 j1 => by rw [us 104 (by decide)]; exact hI j j0 (by omega)) (fun k k0 k1 => hI2 k k0 (by omega)), fun q2 => ⟨v0, by omega, ?_⟩⟩
    rintro _ rfl
    refine nx (by omega) _ ⟨us.up (by decide), by omega, fun k k0 k1 => ?_⟩
    rw [zup_or]
    by_cases e : k = v
    · rw [if_pos e, e, us 139 (by decide), ts 139 (by decide)]
    · rw [if_neg e]
      exact hI2 k k0 (by omega)
  · rintro _ rfl
    refine nx (by omega) _ ⟨ts.up (by decide), by omega, fun k k0 k1 => ?_⟩
    rw [zup_or]
    by_cases e : k = v
    · rw [if_pos e, e]
    · rw [if_neg e]
      exact hI k k0 (by omega)
theorem op_reset {σ : zS} {L : Gr} {pt : Int → Pat} {Q : zS → Prop} (h : BW σ L pt) (hQ2 : ∀ υ, BW υ L pt → zsm [7, 54, 104, 140] σ υ → (σ 56 0 = 1 → ∀ k : Int, 0 ≤ k → k < 196 → υ 54 k = σ 53 k ∧ υ 140 k = σ 139 k) → Q υ) : wp_CX_reset (fun τ => wp_MM_reset Q τ) σ := by
  have n0 := h.n0
  have n1 := h.n1
  have n2 := h.n2
  refine sx_reset h (fun τ ts t7 t54 => ?_)
  have t100 : τ 100 0 = σ 40 1 := by rw [ts 100 (by decide)]; exact n2
  refine sm_reset (by omega) (by omega) (fun υ us u104 u140 => ?_)
  have W : zsm [7, 54, 104, 140] σ υ := (ts.mono (by decide)).trans (us.mono (by decide))
  refine hQ2 υ (BW_fr h (W.mono (by decide)) (h.wf.sm (fun f hf => W f (fun q => ?_))) (fun i i0 i1 => by rw [W 6 (by decide)]; exact h.val i i0 i1) (fun i i0 i1 hk => ?_) (by rw [W 56 (by decide)]; exact h.mp) (by rw [W 56 (by decide), W 124 (by decide)]; exact h.mq)) W (fun q k k0 k1 => ⟨by rw [us 54 (by decide)]; exact t54 k k0 k1 q, by rw [u140 k k0 k1, ts 139 (by decide)]⟩)
  · simp only [List.mem_cons, List.not_mem_nil, or_false] at hf q
    omega
  · have hl := h.lnet i i0 i1 (by omega)
    have ha := h.lan i i0 i1 hk
    rw [us 7 (by decide), t7 i i0 i1 hk, u104 _ hl.1 (by omega), ts 103 (by decide)]
    exact ⟨ha.2.2.2.1, ha.2.2.1⟩
