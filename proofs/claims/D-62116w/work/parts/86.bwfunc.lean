/-! BW after a function -/
theorem BW_func {σ τ υ : zS} {L R : Gr} {pt : Int → Pat} {r a b c t : Int} (h : BW σ L pt) (hp : L <+: R) (hlR : R.length ≤ 48) (hN : σ 40 1 < 40) (hr : 0 ≤ r ∧ r < R.length) (ha : 0 ≤ a ∧ a < σ 40 1) (hb : b = -1 ∨ (0 ≤ b ∧ b < σ 40 1)) (hcc : c = -1 ∨ (0 ≤ c ∧ c < σ 40 1)) (ht : 0 < t ∧ t < 255) (hval : ∀ v, gval R v → v r = tb t (v (σ 42 a) + (if 0 ≤ b then 2 * v (σ 42 b) else 0) + (if 0 ≤ c then 4 * v (σ 42 c) else 0))) (hx : xfun σ τ L R r) (hm : mfun τ υ L R (σ 40 1) r a b c t) : BW υ R pt := by
  obtain ⟨x1, x2, x3, x4, x40, x42, x56, x7⟩ := hx
  obtain ⟨m1, m2, m117, m100, m101, m102, m103, m105, m106, m107, m108, m109, m124, m104⟩ := hm
  have n0 := h.n0
  have n2 := h.n2
  have hLR := hp.length_le
  have X : ∀ f, f < 100 → υ f = τ f := fun f hf => m1 f (by simp [mfunk]; omega)
  have S : ∀ f, f < 100 → f ∉ xfunk → υ f = σ f := fun f hf h2 => (X f hf).trans (x1 f h2)
  have Y : ∀ f, 100 ≤ f → f ∉ mfunk → υ f = σ f := fun f hf h2 => (m1 f h2).trans (x1 f (by simp [xfunk]; omega))
  have T : ∀ f, 100 ≤ f → τ f = σ f := fun f hf => x1 f (by simp [xfunk]; omega)
  have N : ∀ f, f < 18 → f ≠ 7 → ∀ i : Int, i < L.length → υ f i = σ f i := fun f hf h7 i hi => by rw [X f (by omega), x3 f hf h7 i hi]
  have xg : xG υ R := x2.sm (by rw [X 40 (by decide)]) (by rw [X 70 (by decide)]) (X 41 (by decide)) (X 0 (by decide)) (X 1 (by decide)) (X 2 (by decide)) (X 3 (by decide)) (x2.2.2.2.1.sm (fun f hf => X f (by simp only [List.mem_cons, List.not_mem_nil, or_false] at hf; omega)))
  have k1 : ∀ i : Int, (L.length : Int) ≤ i → i < R.length → 2 ≤ υ 1 i := fun i i0 i1 => by rw [X 1 (by decide)]; exact (x4 i i0 i1).2.2
  have v40 : ∀ j : Int, υ 40 j = if j = 0 then (R.length : Int) else if j = 1 then σ 40 1 + 1 else σ 40 j := fun j => by rw [X 40 (by decide)]; exact x40 j
  have v42 : ∀ j : Int, υ 42 j = if j = σ 40 1 then r else σ 42 j := fun j => by rw [X 42 (by decide)]; exact x42 j
  have v1 : υ 40 1 = σ 40 1 + 1 := by rw [v40]; rfl
  have v2 : υ 40 2 = σ 40 2 := by rw [v40]; rfl
  have v3 : υ 40 3 = σ 40 3 := by rw [v40]; rfl
  have v4 : υ 40 4 = σ 40 4 := by rw [v40]; rfl
  have v5 : υ 40 5 = σ 40 5 := by rw [v40]; rfl
  have w42 : ∀ j : Int, j < σ 40 1 → υ 42 j = σ 42 j := fun j hj => by rw [v42, if_neg (by omega)]
  have w101 : ∀ j : Int, j < σ 40 1 → υ 101 j = σ 101 j := fun j hj => by rw [m101, if_neg (by omega), T 101 (by decide)]
  have w102 : ∀ j : Int, j < σ 40 1 → υ 102 j = σ 102 j := fun j hj => by rw [m102, if_neg (by omega), T 102 (by decide)]
  have w103 : ∀ j : Int, j < σ 40 1 → υ 103 j = σ 103 j := fun j hj => by rw [m103, if_neg (by omega), T 103 (by decide)]
  have w105 : ∀ j : Int, j < σ 40 1 → υ 105 j = σ 105 j := fun j hj => by rw [m105, if_neg (by omega), T 105 (by decide)]
  have w106 : ∀ j : Int, j < σ 40 1 → υ 106 j = σ 106 j := fun j hj => by rw [m106, if_neg (by omega), T 106 (by decide)]
  have w107 : ∀ j : Int, j < σ 40 1 → υ 107 j = σ 107 j := fun j hj => by rw [m107, if_neg (by omega), T 107 (by decide)]
  have w108 : ∀ j : Int, j < σ 40 1 → υ 108 j = σ 108 j := fun j hj => by rw [m108, if_neg (by omega), T 108 (by decide)]
  have w109 : ∀ j : Int, j < σ 40 1 → υ 109 j = σ 109 j := fun j hj => by rw [m109, if_neg (by omega), T 109 (by decide)]
  have w117 : ∀ i : Int, i < L.length → υ 117 i = σ 117 i := fun i hi => by rw [m117 i hi, T 117 (by decide)]
  have z42 : υ 42 (σ 40 1) = r := by rw [v42, if_pos rfl]
  have z101 : υ 101 (σ 40 1) = 2 := by rw [m101, if_pos rfl]
  have z102 : υ 102 (σ 40 1) = r := by rw [m102, if_pos rfl]
  have z106 : υ 106 (σ 40 1) = a := by rw [m106, if_pos rfl]
  have z107 : υ 107 (σ 40 1) = b := by rw [m107, if_pos rfl]
  have z108 : υ 108 (σ 40 1) = c := by rw [m108, if_pos rfl]
  have z109 : υ 109 (σ 40 1) = t := by rw [m109, if_pos rfl]
  have cn : cnt (fun j => υ 101 j = 0) (σ 40 1).toNat = σ 40 2 := by
    rw [← h.icn]
    exact cnt_congr _ (fun i i0 i1 => by rw [w101 i (by omega)])
  have cni : ∀ i : Int, 0 ≤ i → i < L.length → σ 1 i ≤ 1 → cnt (fun j => υ 101 j = 0) (υ 117 i).toNat = cnt (fun j => σ 101 j = 0) (σ 117 i).toNat := fun i i0 i1 hi => by
    have hl := h.lnet i i0 i1 hi
    rw [w117 i i1]
    exact cnt_congr _ (fun j j0 j1 => by rw [w101 j (by omega)])
  have old : ∀ i : Int, i < R.length → υ 1 i ≤ 1 → i < L.length := fun i i1 hi => Classical.byContradiction fun q => by
    have := k1 i (by omega) i1
    omega
  have lt7 : ∀ i : Int, 0 ≤ i → i < L.length → σ 1 i = 1 → υ 7 i = σ 4 i := fun i i0 i1 hk => by
    rw [X 7 (by decide), x7 i i1 (h.lan i i0 i1 hk).1]
  refine BW.mk xg m2 hlR (by rw [v1]; omega) (by rw [v1]; omega) (by rw [v1, m100]) ?net_ ?leaf_ ?lnet_ (by rw [v2]; exact h.i0) (by rw [v2]; exact h.i1) (by rw [v2, Y 111 (by decide) (by decide)]; exact h.i2) ?inp_ ?ino_ ?icn_ (by rw [v3]; exact h.l0) (by rw [v3]; exact h.l1) (by rw [v3, Y 112 (by decide) (by decide)]; exact h.l2) ?lat_ ?lan_ (by rw [v4]; exact h.o0) (by rw [v4]; exact h.o1) (by rw [v4, Y 118 (by decide) (by decide)]; exact h.o2) ?out_ (by rw [v5]; exact h.c0) (by rw [v5]; exact h.c1) (by rw [v5, Y 120 (by decide) (by decide)]; exact h.c2) (by rw [v5, S 71 (by decide) (by decide)]; exact h.c3) (by rw [S 72 (by decide) (by decide)]; exact h.c4) ?cel_ ?cpt_ ?val_ ?fnc_ (Or.inl (by rw [X 56 (by decide)]; exact x56)) (by rw [m124, X 56 (by decide)]; exact x56.symm)
  case net_ =>
    intro j j0 j1
    rw [v1] at j1
    by_cases e : j = σ 40 1
    · rw [e, z42, z102, z101]
      omega
    · have hh := h.net j j0 (by omega)
      rw [w42 j (by omega), w102 j (by omega), w101 j (by omega)]
      omega
  case leaf_ =>
    intro j j0 j1 hs
    rw [v1] at j1
    by_cases e : j = σ 40 1
    · rw [e, z101] at hs
      omega
    · rw [w101 j (by omega)] at hs
      have hh := h.net j j0 (by omega)
      have hl := h.leaf j j0 (by omega) hs
      rw [w42 j (by omega), w101 j (by omega), w117 _ hh.2.1, N 1 (by decide) (by decide) _ hh.2.1]
      exact hl
  case lnet_ =>
    intro i i0 i1 hs
    have i2 := old i i1 hs
    rw [v1]
    rw [N 1 (by decide) (by decide) i i2] at hs
    have hl := h.lnet i i0 i2 hs
    rw [w117 i i2, w42 _ hl.2.1, w101 _ hl.2.1, N 1 (by decide) (by decide) i i2]
    omega
  case out_ =>
    intro k k0 k1
    rw [v4] at k1
    have ho := h.out k k0 k1
    rw [Y 119 (by decide) (by decide), v1, S 45 (by decide) (by decide), w42 _ ho.2.1]
    exact ⟨ho.1, by omega, ho.2.2⟩
  case cel_ =>
    rw [v5, S 46 (by decide) (by decide), S 20 (by decide) (by decide), S 21 (by decide) (by decide), S 22 (by decide) (by decide), S 23 (by decide) (by decide), Y 121 (by decide) (by decide), Y 122 (by decide) (by decide), Y 123 (by decide) (by decide)]
    exact h.cel
  case cpt_ =>
    intro c c0 c1
    rw [v5] at c1
    obtain ⟨a1, a2, a3, a4, a5, a6⟩ := h.cpt c c0 c1
    rw [S 21 (by decide) (by decide), S 24 (by decide) (by decide), S 25 (by decide) (by decide)]
    exact ⟨a1, a2, a3, a4, a5, prep_ext (by rw [S 72 (by decide) (by decide)]; exact Int.le_refl _) (fun i _ _ => by rw [S 30 (by decide) (by decide), S 31 (by decide) (by decide), S 32 (by decide) (by decide)]; exact ⟨rfl, rfl, rfl⟩) _ _ _ a6⟩
  case val_ =>
    intro i i0 i1
    by_cases e : i < L.length
    · rw [N 6 (by decide) (by decide) i e]
      exact h.val i i0 e
    · rw [X 6 (by decide)]
      exact Or.inl (x4 i (by omega) i1).2.1
  case fnc_ =>
    intro j j0 j1 hs
    rw [v1] at j1
    by_cases e : j = σ 40 1
    · have hf : ∀ v, fidx υ v (σ 40 1) = v (σ 42 a) + (if 0 ≤ b then 2 * v (σ 42 b) else 0) + (if 0 ≤ c then 4 * v (σ 42 c) else 0) := fun v => by
        unfold fidx
        rw [z106, z107, z108, w42 _ ha.2]
        congr 1
        · congr 1
          by_cases q : 0 ≤ b
          · rw [if_pos q, if_pos q, w42 _ (by omega)]
          · rw [if_neg q, if_neg q]
        · by_cases q : 0 ≤ c
          · rw [if_pos q, if_pos q, w42 _ (by omega)]
          · rw [if_neg q, if_neg q]
      rw [e, z106, z107, z108, z109, z42]
      exact ⟨ha.1, ha.2, hb, hcc, ht.1, ht.2, fun v hv => by rw [hf]; exact hval v hv⟩
    · have j2 : j < σ 40 1 := by omega
      rw [w101 j j2] at hs
      obtain ⟨a1, a2, a3, a4, a5, a6, a7⟩ := h.fnc j j0 j2 hs
      rw [w106 j j2, w107 j j2, w108 j j2, w109 j j2]
      refine ⟨a1, a2, a3, a4, a5, a6, fun v hv => ?_⟩
      have hf : fidx υ v j = fidx σ v j := by
        unfold fidx
        rw [w106 j j2, w107 j j2, w108 j j2, w42 _ (by omega)]
        congr 1
        · congr 1
          by_cases q : 0 ≤ σ 107 j
          · rw [if_pos q, if_pos q, w42 _ (by omega)]
          · rw [if_neg q, if_neg q]
        · by_cases q : 0 ≤ σ 108 j
          · rw [if_pos q, if_pos q, w42 _ (by omega)]
          · rw [if_neg q, if_neg q]
      rw [w42 j j2, hf]
      exact a7 v (hv.pre hp)
  case inp_ =>
    intro k k0 k1'
    rw [v2] at k1'
    have hh := h.inp k k0 k1'
    rw [S 43 (by decide) (by decide), N 1 (by decide) (by decide) _ hh.2.1, N 4 (by decide) (by decide) _ hh.2.1]
    omega
  case ino_ =>
    intro i i0 i1 hs
    have i2 := old i i1 (by omega)
    rw [v2]
    rw [N 1 (by decide) (by decide) i i2] at hs
    obtain ⟨a1, a2, a3, a4⟩ := h.ino i i0 i2 hs
    rw [cni i i0 i2 (by omega), N 4 (by decide) (by decide) i i2, S 43 (by decide) (by decide)]
    exact ⟨a1, a2, a3, a4⟩
  case icn_ =>
    rw [v1, v2, show (σ 40 1 + 1).toNat = (σ 40 1).toNat + 1 by omega]
    show cnt (fun j => υ 101 j = 0) (σ 40 1).toNat + ind (υ 101 ((σ 40 1).toNat : Int) = 0) = _
    rw [cn, show (((σ 40 1).toNat : Nat) : Int) = σ 40 1 by omega, z101, ind_f (by decide)]
    omega
  case lat_ =>
    intro k k0 k1'
    rw [v3] at k1'
    have hh := h.lat k k0 k1'
    rw [S 44 (by decide) (by decide), N 1 (by decide) (by decide) _ hh.2.1]
    omega
  case lan_ =>
    intro i i0 i1 hs
    have i2 := old i i1 (by omega)
    rw [N 1 (by decide) (by decide) i i2] at hs
    obtain ⟨a1, a2, a3, a4, a5, a6, a7⟩ := h.lan i i0 i2 hs
    have hl := h.lnet i i0 i2 (by omega)
    rw [v3, S 44 (by decide) (by decide), N 8 (by decide) (by decide) i i2, w117 i i2, w103 _ hl.2.1, N 4 (by decide) (by decide) i i2, lt7 i i0 i2 hs, m104 _ hl.1 (by omega), w103 _ hl.2.1, w105 _ hl.2.1, N 5 (by decide) (by decide) i i2, v1]
    refine ⟨a1, a2, a3, a4, a4, a3, ?_⟩
    rcases a7 with q | q
    · exact Or.inl q
    · rw [w42 _ q.2.1]
      exact Or.inr ⟨q.1, by omega, q.2.2⟩
