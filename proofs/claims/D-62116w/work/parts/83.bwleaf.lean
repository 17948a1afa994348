/-! BW after an input, a latch (printed by gen/bwleaf.py) -/
theorem BW_input {σ τ υ : zS} {L : Gr} {pt : Int → Pat} (h : BW σ L pt) (hn : (L.length : Int) < 48) (hN : σ 40 1 < 40) (hk : σ 40 2 < 6) (hx : xleaf σ τ L 0 (σ 40 2) 2) (hm : mleaf τ υ L 111 0 0) : BW υ (L ++ [(0, -1, -1)]) pt := by
  obtain ⟨x1, x2, x3, x4, x5, x6, x8, x40, x42, xl, x56, x7⟩ := hx
  obtain ⟨m1, m2, mc, m117, m100, m101, m102, m103, m105, m124, m104⟩ := hm
  have xl : ∀ j : Int, τ 43 j = if j = σ 40 2 then (L.length : Int) else σ 43 j := xl
  have x40 : ∀ j : Int, τ 40 j = if j = 0 ∨ j = 1 ∨ j = 2 then σ 40 j + 1 else σ 40 j := x40
  have n0 := h.n0
  have n2 := h.n2
  have hlen : ((L ++ [((0 : Int), (-1 : Int), (-1 : Int))]).length : Int) = L.length + 1 := by simp
  have t100 : τ 100 0 = σ 40 1 := by rw [x1 100 (by decide)]; exact n2
  rw [t100] at m117 m100 m101 m102 m103 m105 m104
  have X : ∀ f, f < 100 → υ f = τ f := fun f hf => m1 f (by simp; omega)
  have S : ∀ f, f < 100 → f ∉ xleafk 2 → υ f = σ f := fun f hf h2 => (X f hf).trans (x1 f h2)
  have Y : ∀ f, 100 ≤ f → f ∉ [111, 100, 101, 102, 103, 104, 105, 113, 114, 115, 116, 117, 124] → υ f = σ f := fun f hf h2 => (m1 f h2).trans (x1 f (by simp [xleafk]; omega))
  have T : ∀ f, 100 ≤ f → τ f = σ f := fun f hf => x1 f (by simp [xleafk]; omega)
  have N : ∀ f, f < 18 → f ≠ 7 → ∀ i : Int, i ≠ L.length → υ f i = σ f i := fun f hf h7 i hi => by rw [X f (by omega), x3 f hf h7 i hi]
  have xg : xG υ (L ++ [(0, -1, -1)]) := x2.sm (by rw [X 40 (by decide)]) (by rw [X 70 (by decide)]) (X 41 (by decide)) (X 0 (by decide)) (X 1 (by decide)) (X 2 (by decide)) (X 3 (by decide)) (x2.2.2.2.1.sm (fun f hf => X f (by simp only [List.mem_cons, List.not_mem_nil, or_false] at hf; omega)))
  have k1 : υ 1 L.length = 0 := (xg.2.2.2.2.2 L.length 0 (-1) (-1) (by simp)).1
  have v40 : ∀ j : Int, υ 40 j = if j = 0 ∨ j = 1 ∨ j = 2 then σ 40 j + 1 else σ 40 j := fun j => by rw [X 40 (by decide)]; exact x40 j
  have v42 : ∀ j : Int, υ 42 j = if j = σ 40 1 then (L.length : Int) else σ 42 j := fun j => by rw [X 42 (by decide)]; exact x42 j
  have v1 : υ 40 1 = σ 40 1 + 1 := by rw [v40]; rfl
  have vl : υ 40 2 = σ 40 2 + 1 := by rw [v40]; rfl
  have vo : υ 40 3 = σ 40 3 := by rw [v40]; rfl
  have v4 : υ 40 4 = σ 40 4 := by rw [v40]; rfl
  have v5 : υ 40 5 = σ 40 5 := by rw [v40]; rfl
  have w42 : ∀ j : Int, j < σ 40 1 → υ 42 j = σ 42 j := fun j hj => by rw [v42, if_neg (by omega)]
  have w101 : ∀ j : Int, j < σ 40 1 → υ 101 j = σ 101 j := fun j hj => by rw [m101, if_neg (by omega), T 101 (by decide)]
  have w102 : ∀ j : Int, j < σ 40 1 → υ 102 j = σ 102 j := fun j hj => by rw [m102, if_neg (by omega), T 102 (by decide)]
  have w103 : ∀ j : Int, j < σ 40 1 → υ 103 j = σ 103 j := fun j hj => by rw [m103, if_neg (by omega), T 103 (by decide)]
  have w105 : ∀ j : Int, j < σ 40 1 → υ 105 j = σ 105 j := fun j hj => by rw [m105, if_neg (by omega), T 105 (by decide)]
  have w117 : ∀ i : Int, i < L.length → υ 117 i = σ 117 i := fun i hi => by rw [m117, if_neg (by omega), T 117 (by decide)]
  have z117 : υ 117 L.length = σ 40 1 := by rw [m117, if_pos rfl]
  have z42 : υ 42 (σ 40 1) = L.length := by rw [v42, if_pos rfl]
  have z101 : υ 101 (σ 40 1) = 0 := by rw [m101, if_pos rfl]
  have z102 : υ 102 (σ 40 1) = L.length := by rw [m102, if_pos rfl]
  have z103 : υ 103 (σ 40 1) = 0 := by rw [m103, if_pos rfl]
  have z105 : υ 105 (σ 40 1) = -1 := by rw [m105, if_pos rfl]
  have cn : cnt (fun j => υ 101 j = 0) (σ 40 1).toNat = σ 40 2 := by
    rw [← h.icn]
    exact cnt_congr _ (fun i i0 i1 => by rw [w101 i (by omega)])
  have cni : ∀ i : Int, 0 ≤ i → i < L.length → σ 1 i ≤ 1 → cnt (fun j => υ 101 j = 0) (υ 117 i).toNat = cnt (fun j => σ 101 j = 0) (σ 117 i).toNat := fun i i0 i1 hi => by
    have hl := h.lnet i i0 i1 hi
    rw [w117 i i1]
    exact cnt_congr _ (fun j j0 j1 => by rw [w101 j (by omega)])
  have lt7 : ∀ i : Int, 0 ≤ i → i < L.length → σ 1 i = 1 → υ 7 i = σ 4 i := fun i i0 i1 hk => by
    obtain ⟨q, q0, q1, q2⟩ := (h.lan i i0 i1 hk).1
    rw [X 7 (by decide), x7 i i0 (by omega) ⟨q, q0, ?_, ?_⟩, x3 4 (by decide) (by decide) i (by omega)]
    · rw [x40]
      split <;> omega
    · rw [x1 44 (by decide)]
      exact q2
  refine BW.mk xg m2 (by simp; omega) (by rw [v1]; omega) (by rw [v1]; omega) (by rw [v1, m100]) ?net_ ?leaf_ ?lnet_ ?i0_ ?i1_ ?i2_ ?inp_ ?ino_ ?icn_ ?l0_ ?l1_ ?l2_ ?lat_ ?lan_ (by rw [v4]; exact h.o0) (by rw [v4]; exact h.o1) (by rw [v4, Y 118 (by decide) (by decide)]; exact h.o2) ?out_ (by rw [v5]; exact h.c0) (by rw [v5]; exact h.c1) (by rw [v5, Y 120 (by decide) (by decide)]; exact h.c2) (by rw [v5, S 71 (by decide) (by decide)]; exact h.c3) (by rw [S 72 (by decide) (by decide)]; exact h.c4) ?cel_ ?cpt_ ?val_ ?fnc_ (Or.inl (by rw [X 56 (by decide)]; exact x56)) (by rw [m124, X 56 (by decide)]; exact x56.symm)
  case net_ =>
    intro j j0 j1
    rw [v1] at j1
    rw [hlen]
    by_cases e : j = σ 40 1
    · rw [e, z42, z102, z101]
      omega
    · have hh := h.net j j0 (by omega)
      rw [w42 j (by omega), w102 j (by omega), w101 j (by omega)]
      omega
  case leaf_ =>
    intro j j0 j1 hs
    rw [v1] at j1
    by_cases e : j = σ 40 1
    · rw [e, z42, z117, z101, k1]
      exact ⟨rfl, rfl⟩
    · rw [w101 j (by omega)] at hs
      have hh := h.net j j0 (by omega)
      have hl := h.leaf j j0 (by omega) hs
      rw [w42 j (by omega), w101 j (by omega), w117 _ hh.2.1, N 1 (by decide) (by decide) _ (by omega)]
      exact hl
  case lnet_ =>
    intro i i0 i1 hs
    rw [hlen] at i1
    rw [v1]
    by_cases e : i = L.length
    · rw [e, z117, z42, z101, k1]
      omega
    · rw [N 1 (by decide) (by decide) i e] at hs
      have hl := h.lnet i i0 (by omega) hs
      rw [w117 i (by omega), w42 _ hl.2.1, w101 _ hl.2.1, N 1 (by decide) (by decide) i e]
      omega
  case out_ =>
    intro k k0 k1
    rw [v4] at k1
    have ho := h.out k k0 k1
    rw [Y 119 (by decide) (by decide), v1, S 45 (by decide) (by decide), w42 _ ho.2.1]
    exact ⟨ho.1, by omega, ho.2.2⟩
  case cel_ =>
    rw [v5, S 46 (by decide) (by decide), S 20 (by decide) (by decide), S 21 (by decide) (by decide), S 22 (by decide) (by decide), S 23 (by decide) (by decide), Y 121 (by decide) (by decide), Y 122 (by decide) (by decide), Y 123 (by decide) (by decide)]
    exact h.cel
  case cpt_ =>
    intro c c0 c1
    rw [v5] at c1
    obtain ⟨a1, a2, a3, a4, a5, a6⟩ := h.cpt c c0 c1
    rw [S 21 (by decide) (by decide), S 24 (by decide) (by decide), S 25 (by decide) (by decide)]
    exact ⟨a1, a2, a3, a4, a5, prep_ext (by rw [S 72 (by decide) (by decide)]; exact Int.le_refl _) (fun i _ _ => by rw [S 30 (by decide) (by decide), S 31 (by decide) (by decide), S 32 (by decide) (by decide)]; exact ⟨rfl, rfl, rfl⟩) _ _ _ a6⟩
  case val_ =>
    intro i i0 i1
    rw [hlen] at i1
    by_cases e : i = L.length
    · rw [e, X 6 (by decide), x6]
      exact Or.inl rfl
    · rw [N 6 (by decide) (by decide) i e]
      exact h.val i i0 (by omega)
  case fnc_ =>
    intro j j0 j1 hs
    rw [v1] at j1
    by_cases e : j = σ 40 1
    · rw [e, z101] at hs
      omega
    · rw [w101 j (by omega)] at hs
      obtain ⟨a1, a2, a3, a4, a5, a6, a7⟩ := h.fnc j j0 (by omega) hs
      rw [Y 106 (by decide) (by decide), Y 107 (by decide) (by decide), Y 108 (by decide) (by decide), Y 109 (by decide) (by decide)]
      refine ⟨a1, a2, a3, a4, a5, a6, fun v hv => ?_⟩
      have hf : fidx υ v j = fidx σ v j := by
        unfold fidx
        rw [Y 106 (by decide) (by decide), Y 107 (by decide) (by decide), Y 108 (by decide) (by decide), w42 _ (by omega)]
        congr 1
        · congr 1
          by_cases q : 0 ≤ σ 107 j
          · rw [if_pos q, if_pos q, w42 _ (by omega)]
          · rw [if_neg q, if_neg q]
        · by_cases q : 0 ≤ σ 108 j
          · rw [if_pos q, if_pos q, w42 _ (by omega)]
          · rw [if_neg q, if_neg q]
      rw [w42 j (by omega), hf]
      exact a7 v (hv.pre (List.prefix_append _ _))
  case i0_ => rw [vl]; have := h.i0; omega
  case i1_ => rw [vl]; omega
  case i2_ => rw [vl, mc, T 111 (by decide), h.i2]
  case inp_ =>
    intro k k0 k1'
    rw [vl] at k1'
    rw [hlen, X 43 (by decide), xl]
    by_cases e : k = σ 40 2
    · rw [if_pos e, k1, X 4 (by decide), x4]
      omega
    · have hh := h.inp k k0 (by omega)
      rw [if_neg e, N 1 (by decide) (by decide) _ (by omega), N 4 (by decide) (by decide) _ (by omega)]
      omega
  case ino_ =>
    intro i i0 i1 hs
    rw [hlen] at i1
    rw [vl]
    by_cases e : i = L.length
    · rw [e, X 4 (by decide), x4, X 43 (by decide), xl, if_pos rfl, m117, if_pos rfl, cn]
      have := h.i0
      omega
    · rw [N 1 (by decide) (by decide) i e] at hs
      obtain ⟨a1, a2, a3, a4⟩ := h.ino i i0 (by omega) hs
      rw [cni i i0 (by omega) (by omega), N 4 (by decide) (by decide) i e, X 43 (by decide), xl, if_neg (by show ¬ σ 4 i = σ 40 2; omega)]
      exact ⟨a1, by omega, a3, a4⟩
  case icn_ =>
    rw [v1, vl, show (σ 40 1 + 1).toNat = (σ 40 1).toNat + 1 by omega]
    show cnt (fun j => υ 101 j = 0) (σ 40 1).toNat + ind (υ 101 ((σ 40 1).toNat : Int) = 0) = _
    rw [cn, show (((σ 40 1).toNat : Nat) : Int) = σ 40 1 by omega, z101, ind_t rfl]
  case l0_ => rw [vo]; exact h.l0
  case l1_ => rw [vo]; exact h.l1
  case l2_ => rw [vo, Y 112 (by decide) (by decide)]; exact h.l2
  case lat_ =>
    intro k k0 k1'
    rw [vo] at k1'
    have hh := h.lat k k0 k1'
    rw [hlen, S 44 (by decide) (by decide), N 1 (by decide) (by decide) _ (by omega)]
    omega
  case lan_ =>
    intro i i0 i1 hs
    rw [hlen] at i1
    by_cases e : i = L.length
    · rw [e, k1] at hs
      omega
    · rw [N 1 (by decide) (by decide) i e] at hs
      have i2 : i < L.length := by omega
      obtain ⟨a1, a2, a3, a4, a5, a6, a7⟩ := h.lan i i0 i2 hs
      have hl := h.lnet i i0 i2 (by omega)
      rw [vo, S 44 (by decide) (by decide), N 8 (by decide) (by decide) i e, w117 i i2, w103 _ hl.2.1, N 4 (by decide) (by decide) i e, lt7 i i0 i2 hs, m104 _ hl.1 (by omega), w103 _ hl.2.1, w105 _ hl.2.1, N 5 (by decide) (by decide) i e, v1]
      refine ⟨a1, a2, a3, a4, a4, a3, ?_⟩
      rcases a7 with q | q
      · exact Or.inl q
      · rw [w42 _ q.2.1]
        exact Or.inr ⟨q.1, by omega, q.2.2⟩
theorem BW_latch {σ τ υ : zS} {L : Gr} {pt : Int → Pat} {d : Int} (h : BW σ L pt) (hn : (L.length : Int) < 48) (hN : σ 40 1 < 40) (hk : σ 40 3 < 6) (hd : d = 0 ∨ d = 1) (hx : xleaf σ τ L 1 d 3) (hm : mleaf τ υ L 112 1 d) : BW υ (L ++ [(1, -1, -1)]) pt := by
  obtain ⟨x1, x2, x3, x4, x5, x6, x8, x40, x42, xl, x56, x7⟩ := hx
  obtain ⟨m1, m2, mc, m117, m100, m101, m102, m103, m105, m124, m104⟩ := hm
  have xl : ∀ j : Int, τ 44 j = if j = σ 40 3 then (L.length : Int) else σ 44 j := xl
  have x40 : ∀ j : Int, τ 40 j = if j = 0 ∨ j = 1 ∨ j = 3 then σ 40 j + 1 else σ 40 j := x40
  have n0 := h.n0
  have n2 := h.n2
  have hlen : ((L ++ [((1 : Int), (-1 : Int), (-1 : Int))]).length : Int) = L.length + 1 := by simp
  have t100 : τ 100 0 = σ 40 1 := by rw [x1 100 (by decide)]; exact n2
  rw [t100] at m117 m100 m101 m102 m103 m105 m104
  have X : ∀ f, f < 100 → υ f = τ f := fun f hf => m1 f (by simp; omega)
  have S : ∀ f, f < 100 → f ∉ xleafk 3 → υ f = σ f := fun f hf h2 => (X f hf).trans (x1 f h2)
  have Y : ∀ f, 100 ≤ f → f ∉ [112, 100, 101, 102, 103, 104, 105, 113, 114, 115, 116, 117, 124] → υ f = σ f := fun f hf h2 => (m1 f h2).trans (x1 f (by simp [xleafk]; omega))
  have T : ∀ f, 100 ≤ f → τ f = σ f := fun f hf => x1 f (by simp [xleafk]; omega)
  have N : ∀ f, f < 18 → f ≠ 7 → ∀ i : Int, i ≠ L.length → υ f i = σ f i := fun f hf h7 i hi => by rw [X f (by omega), x3 f hf h7 i hi]
  have xg : xG υ (L ++ [(1, -1, -1)]) := x2.sm (by rw [X 40 (by decide)]) (by rw [X 70 (by decide)]) (X 41 (by decide)) (X 0 (by decide)) (X 1 (by decide)) (X 2 (by decide)) (X 3 (by decide)) (x2.2.2.2.1.sm (fun f hf => X f (by simp only [List.mem_cons, List.not_mem_nil, or_false] at hf; omega)))
  have k1 : υ 1 L.length = 1 := (xg.2.2.2.2.2 L.length 1 (-1) (-1) (by simp)).1
  have v40 : ∀ j : Int, υ 40 j = if j = 0 ∨ j = 1 ∨ j = 3 then σ 40 j + 1 else σ 40 j := fun j => by rw [X 40 (by decide)]; exact x40 j
  have v42 : ∀ j : Int, υ 42 j = if j = σ 40 1 then (L.length : Int) else σ 42 j := fun j => by rw [X 42 (by decide)]; exact x42 j
  have v1 : υ 40 1 = σ 40 1 + 1 := by rw [v40]; rfl
  have vl : υ 40 3 = σ 40 3 + 1 := by rw [v40]; rfl
  have vo : υ 40 2 = σ 40 2 := by rw [v40]; rfl
  have v4 : υ 40 4 = σ 40 4 := by rw [v40]; rfl
  have v5 : υ 40 5 = σ 40 5 := by rw [v40]; rfl
  have w42 : ∀ j : Int, j < σ 40 1 → υ 42 j = σ 42 j := fun j hj => by rw [v42, if_neg (by omega)]
  have w101 : ∀ j : Int, j < σ 40 1 → υ 101 j = σ 101 j := fun j hj => by rw [m101, if_neg (by omega), T 101 (by decide)]
  have w102 : ∀ j : Int, j < σ 40 1 → υ 102 j = σ 102 j := fun j hj => by rw [m102, if_neg (by omega), T 102 (by decide)]
  have w103 : ∀ j : Int, j < σ 40 1 → υ 103 j = σ 103 j := fun j hj => by rw [m103, if_neg (by omega), T 103 (by decide)]
  have w105 : ∀ j : Int, j < σ 40 1 → υ 105 j = σ 105 j := fun j hj => by rw [m105, if_neg (by omega), T 105 (by decide)]
  have w117 : ∀ i : Int, i < L.length → υ 117 i = σ 117 i := fun i hi => by rw [m117, if_neg (by omega), T 117 (by decide)]
  have z117 : υ 117 L.length = σ 40 1 := by rw [m117, if_pos rfl]
  have z42 : υ 42 (σ 40 1) = L.length := by rw [v42, if_pos rfl]
  have z101 : υ 101 (σ 40 1) = 1 := by rw [m101, if_pos rfl]
  have z102 : υ 102 (σ 40 1) = L.length := by rw [m102, if_pos rfl]
  have z103 : υ 103 (σ 40 1) = d := by rw [m103, if_pos rfl]
  have z105 : υ 105 (σ 40 1) = -1 := by rw [m105, if_pos rfl]
  have cn : cnt (fun j => υ 101 j = 0) (σ 40 1).toNat = σ 40 2 := by
    rw [← h.icn]
    exact cnt_congr _ (fun i i0 i1 => by rw [w101 i (by omega)])
  have cni : ∀ i : Int, 0 ≤ i → i < L.length → σ 1 i ≤ 1 → cnt (fun j => υ 101 j = 0) (υ 117 i).toNat = cnt (fun j => σ 101 j = 0) (σ 117 i).toNat := fun i i0 i1 hi => by
    have hl := h.lnet i i0 i1 hi
    rw [w117 i i1]
    exact cnt_congr _ (fun j j0 j1 => by rw [w101 j (by omega)])
  have lt7 : ∀ i : Int, 0 ≤ i → i < L.length → σ 1 i = 1 → υ 7 i = σ 4 i := fun i i0 i1 hk => by
    obtain ⟨q, q0, q1, q2⟩ := (h.lan i i0 i1 hk).1
    rw [X 7 (by decide), x7 i i0 (by omega) ⟨q, q0, ?_, ?_⟩, x3 4 (by decide) (by decide) i (by omega)]
    · rw [x40]
      split <;> omega
    · rw [xl, if_neg (by show ¬ q = σ 40 3; omega)]
      exact q2
  refine BW.mk xg m2 (by simp; omega) (by rw [v1]; omega) (by rw [v1]; omega) (by rw [v1, m100]) ?net_ ?leaf_ ?lnet_ ?i0_ ?i1_ ?i2_ ?inp_ ?ino_ ?icn_ ?l0_ ?l1_ ?l2_ ?lat_ ?lan_ (by rw [v4]; exact h.o0) (by rw [v4]; exact h.o1) (by rw [v4, Y 118 (by decide) (by decide)]; exact h.o2) ?out_ (by rw [v5]; exact h.c0) (by rw [v5]; exact h.c1) (by rw [v5, Y 120 (by decide) (by decide)]; exact h.c2) (by rw [v5, S 71 (by decide) (by decide)]; exact h.c3) (by rw [S 72 (by decide) (by decide)]; exact h.c4) ?cel_ ?cpt_ ?val_ ?fnc_ (Or.inl (by rw [X 56 (by decide)]; exact x56)) (by rw [m124, X 56 (by decide)]; exact x56.symm)
  case net_ =>
    intro j j0 j1
    rw [v1] at j1
    rw [hlen]
    by_cases e : j = σ 40 1
    · rw [e, z42, z102, z101]
      omega
    · have hh := h.net j j0 (by omega)
      rw [w42 j (by omega), w102 j (by omega), w101 j (by omega)]
      omega
  case leaf_ =>
    intro j j0 j1 hs
    rw [v1] at j1
    by_cases e : j = σ 40 1
    · rw [e, z42, z117, z101, k1]
      exact ⟨rfl, rfl⟩
    · rw [w101 j (by omega)] at hs
      have hh := h.net j j0 (by omega)
      have hl := h.leaf j j0 (by omega) hs
      rw [w42 j (by omega), w101 j (by omega), w117 _ hh.2.1, N 1 (by decide) (by decide) _ (by omega)]
      exact hl
  case lnet_ =>
    intro i i0 i1 hs
    rw [hlen] at i1
    rw [v1]
    by_cases e : i = L.length
    · rw [e, z117, z42, z101, k1]
      omega
    · rw [N 1 (by decide) (by decide) i e] at hs
      have hl := h.lnet i i0 (by omega) hs
      rw [w117 i (by omega), w42 _ hl.2.1, w101 _ hl.2.1, N 1 (by decide) (by decide) i e]
      omega
  case out_ =>
    intro k k0 k1
    rw [v4] at k1
    have ho := h.out k k0 k1
    rw [Y 119 (by decide) (by decide), v1, S 45 (by decide) (by decide), w42 _ ho.2.1]
    exact ⟨ho.1, by omega, ho.2.2⟩
  case cel_ =>
    rw [v5, S 46 (by decide) (by decide), S 20 (by decide) (by decide), S 21 (by decide) (by decide), S 22 (by decide) (by decide), S 23 (by decide) (by decide), Y 121 (by decide) (by decide), Y 122 (by decide) (by decide), Y 123 (by decide) (by decide)]
    exact h.cel
  case cpt_ =>
    intro c c0 c1
    rw [v5] at c1
    obtain ⟨a1, a2, a3, a4, a5, a6⟩ := h.cpt c c0 c1
    rw [S 21 (by decide) (by decide), S 24 (by decide) (by decide), S 25 (by decide) (by decide)]
    exact ⟨a1, a2, a3, a4, a5, prep_ext (by rw [S 72 (by decide) (by decide)]; exact Int.le_refl _) (fun i _ _ => by rw [S 30 (by decide) (by decide), S 31 (by decide) (by decide), S 32 (by decide) (by decide)]; exact ⟨rfl, rfl, rfl⟩) _ _ _ a6⟩
  case val_ =>
    intro i i0 i1
    rw [hlen] at i1
    by_cases e : i = L.length
    · rw [e, X 6 (by decide), x6]
      exact Or.inl rfl
    · rw [N 6 (by decide) (by decide) i e]
      exact h.val i i0 (by omega)
  case fnc_ =>
    intro j j0 j1 hs
    rw [v1] at j1
    by_cases e : j = σ 40 1
    · rw [e, z101] at hs
      omega
    · rw [w101 j (by omega)] at hs
      obtain ⟨a1, a2, a3, a4, a5, a6, a7⟩ := h.fnc j j0 (by omega) hs
      rw [Y 106 (by decide) (by decide), Y 107 (by decide) (by decide), Y 108 (by decide) (by decide), Y 109 (by decide) (by decide)]
      refine ⟨a1, a2, a3, a4, a5, a6, fun v hv => ?_⟩
      have hf : fidx υ v j = fidx σ v j := by
        unfold fidx
        rw [Y 106 (by decide) (by decide), Y 107 (by decide) (by decide), Y 108 (by decide) (by decide), w42 _ (by omega)]
        congr 1
        · congr 1
          by_cases q : 0 ≤ σ 107 j
          · rw [if_pos q, if_pos q, w42 _ (by omega)]
          · rw [if_neg q, if_neg q]
        · by_cases q : 0 ≤ σ 108 j
          · rw [if_pos q, if_pos q, w42 _ (by omega)]
          · rw [if_neg q, if_neg q]
      rw [w42 j (by omega), hf]
      exact a7 v (hv.pre (List.prefix_append _ _))
  case i0_ => rw [vo]; exact h.i0
  case i1_ => rw [vo]; exact h.i1
  case i2_ => rw [vo, Y 111 (by decide) (by decide)]; exact h.i2
  case inp_ =>
    intro k k0 k1'
    rw [vo] at k1'
    have hh := h.inp k k0 k1'
    rw [hlen, S 43 (by decide) (by decide), N 1 (by decide) (by decide) _ (by omega), N 4 (by decide) (by decide) _ (by omega)]
    omega
  case ino_ =>
    intro i i0 i1 hs
    rw [hlen] at i1
    rw [vo]
    by_cases e : i = L.length
    · rw [e, k1] at hs
      omega
    · rw [N 1 (by decide) (by decide) i e] at hs
      obtain ⟨a1, a2, a3, a4⟩ := h.ino i i0 (by omega) hs
      rw [cni i i0 (by omega) (by omega), N 4 (by decide) (by decide) i e, S 43 (by decide) (by decide)]
      exact ⟨a1, by omega, a3, a4⟩
  case icn_ =>
    rw [v1, vo, show (σ 40 1 + 1).toNat = (σ 40 1).toNat + 1 by omega]
    show cnt (fun j => υ 101 j = 0) (σ 40 1).toNat + ind (υ 101 ((σ 40 1).toNat : Int) = 0) = _
    rw [cn, show (((σ 40 1).toNat : Nat) : Int) = σ 40 1 by omega, z101, ind_f (by decide)]
    omega
  case l0_ => rw [vl]; have := h.l0; omega
  case l1_ => rw [vl]; omega
  case l2_ => rw [vl, mc, T 112 (by decide), h.l2]
  case lat_ =>
    intro k k0 k1'
    rw [vl] at k1'
    rw [hlen, X 44 (by decide), xl]
    by_cases e : k = σ 40 3
    · rw [if_pos e, k1]
      omega
    · have hh := h.lat k k0 (by omega)
      rw [if_neg e, N 1 (by decide) (by decide) _ (by omega)]
      omega
  case lan_ =>
    intro i i0 i1 hs
    rw [hlen] at i1
    by_cases e : i = L.length
    · have u7 : υ 7 L.length = d := by
        rw [X 7 (by decide), x7 _ (by omega) (Int.le_refl _) ⟨σ 40 3, h.l0, ?_, ?_⟩, x4]
        · rw [x40, if_pos (Or.inr (Or.inr rfl))]; omega
        · rw [xl, if_pos rfl]
      rw [e, z117, z103, X 8 (by decide), x8 rfl, X 4 (by decide), x4, u7, m104 _ n0 (by omega), z103, z105, X 5 (by decide), x5]
      refine ⟨⟨σ 40 3, h.l0, by rw [vl]; omega, by rw [X 44 (by decide), xl, if_pos rfl]⟩, rfl, rfl, hd, hd, rfl, Or.inl ⟨rfl, rfl⟩⟩
    · rw [N 1 (by decide) (by decide) i e] at hs
      have i2 : i < L.length := by omega
      obtain ⟨⟨q, q0, q1, q2⟩, a2, a3, a4, a5, a6, a7⟩ := h.lan i i0 i2 hs
      have hl := h.lnet i i0 i2 (by omega)
      rw [N 8 (by decide) (by decide) i e, w117 i i2, w103 _ hl.2.1, N 4 (by decide) (by decide) i e, lt7 i i0 i2 hs, m104 _ hl.1 (by omega), w103 _ hl.2.1, w105 _ hl.2.1, N 5 (by decide) (by decide) i e, v1]
      refine ⟨⟨q, q0, by rw [vl]; omega, by rw [X 44 (by decide), xl, if_neg (by show ¬ q = σ 40 3; omega)]; exact q2⟩, a2, a3, a4, a4, a3, ?_⟩
      rcases a7 with q | q
      · exact Or.inl q
      · rw [w42 _ q.2.1]
        exact Or.inr ⟨q.1, by omega, q.2.2⟩
