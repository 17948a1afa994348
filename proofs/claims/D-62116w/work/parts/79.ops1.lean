/-! drive, output (BW again: printed by gen/ops1.py) -/
theorem xG.sm {σ υ : zS} {L : Gr} (h : xG σ L) (e40 : υ 40 0 = σ 40 0) (e70 : υ 70 0 = σ 70 0) (e41 : υ 41 = σ 41) (e0 : υ 0 = σ 0) (e1 : υ 1 = σ 1) (e2 : υ 2 = σ 2) (e3 : υ 3 = σ 3) (hw : zWf υ) : xG υ L := by
  obtain ⟨g1, g2, g3, g4, g5, g6⟩ := h
  exact ⟨e40.trans g1, e70.trans g2, g3, hw, by rw [e41, e0]; exact g5, by rw [e1, e2, e3]; exact g6⟩
theorem mG.sm {σ υ : zS} {L : Gr} (h : mG σ L) (e113 : υ 113 0 = σ 113 0) (e1 : υ 114 = σ 114) (e2 : υ 115 = σ 115) (e3 : υ 116 = σ 116) : mG υ L := by
  obtain ⟨g1, g2, g3⟩ := h
  exact ⟨e113.trans g1, g2, by rw [e1, e2, e3]; exact g3⟩
theorem zWf.sm {σ υ : zS} (h : zWf σ) (hs : ∀ k ∈ [2, 3, 5, 14, 25, 30, 31, 32, 40, 41, 42, 43, 44, 45, 46, 50, 51, 70, 71, 72], υ k = σ k) : zWf υ := by
  obtain ⟨w1, w2, w3, w4, w5, w6⟩ := h
  have e2 := hs 2 (by decide)
  have e3 := hs 3 (by decide)
  have e5 := hs 5 (by decide)
  have e14 := hs 14 (by decide)
  have e25 := hs 25 (by decide)
  have e30 := hs 30 (by decide)
  have e31 := hs 31 (by decide)
  have e32 := hs 32 (by decide)
  have e40 := hs 40 (by decide)
  have e46 := hs 46 (by decide)
  have e50 := hs 50 (by decide)
  have e51 := hs 51 (by decide)
  have e70 := hs 70 (by decide)
  have e71 := hs 71 (by decide)
  have e72 := hs 72 (by decide)
  refine ⟨?_, fun l hl => ?_, ?_, ?_, ?_, ?_⟩
  · simp only [zvn, zvc, e2, e3, e5, e14, e70, e71]
    exact w1
  · have el : υ (41 + l) = σ (41 + l) := hs (41 + l) (by
      rcases (show l = 0 ∨ l = 1 ∨ l = 2 ∨ l = 3 ∨ l = 4 by omega) with rfl | rfl | rfl | rfl | rfl <;> decide)
    simp only [zvn, el, e40, e70]
    exact w2 l hl
  · simp only [zvc, e46, e40, e71]
    exact w3
  · simp only [zvn, e50, e51, e70]
    exact w4
  · simp only [zvp, e25, e71, e72]
    exact w5
  · simp only [zvp, e30, e31, e32, e72]
    exact w6
theorem BW_drive {σ υ : zS} {L : Gr} {pt : Int → Pat} (h : BW σ L pt) (hs : zsm [5, 7, 56, 104, 105, 124] σ υ) {a b : Int} (hw : zWf υ) (a0 : 0 ≤ a) (a1 : a < σ 40 1) (hsa : σ 101 a = 1) (b0 : 0 ≤ b) (b1 : b < σ 40 1) (h5 : ∀ i : Int, υ 5 i = if i = σ 42 a then σ 42 b else σ 5 i) (h105 : ∀ j : Int, υ 105 j = if j = a then b else σ 105 j) (h7 : ∀ i : Int, 0 ≤ i → i < L.length → σ 1 i = 1 → υ 7 i = σ 4 i) (h104 : ∀ j : Int, 0 ≤ j → j < σ 40 1 → υ 104 j = σ 103 j) (h56 : υ 56 0 = 0) (h124 : υ 124 0 = 0) : BW υ L pt := by
  have e0 : υ 0 = σ 0 := hs 0 (by decide)
  have e1 : υ 1 = σ 1 := hs 1 (by decide)
  have e2 : υ 2 = σ 2 := hs 2 (by decide)
  have e3 : υ 3 = σ 3 := hs 3 (by decide)
  have e4 : υ 4 = σ 4 := hs 4 (by decide)
  have e6 : υ 6 = σ 6 := hs 6 (by decide)
  have e8 : υ 8 = σ 8 := hs 8 (by decide)
  have e20 : υ 20 = σ 20 := hs 20 (by decide)
  have e21 : υ 21 = σ 21 := hs 21 (by decide)
  have e22 : υ 22 = σ 22 := hs 22 (by decide)
  have e23 : υ 23 = σ 23 := hs 23 (by decide)
  have e24 : υ 24 = σ 24 := hs 24 (by decide)
  have e25 : υ 25 = σ 25 := hs 25 (by decide)
  have e30 : υ 30 = σ 30 := hs 30 (by decide)
  have e31 : υ 31 = σ 31 := hs 31 (by decide)
  have e32 : υ 32 = σ 32 := hs 32 (by decide)
  have e40 : υ 40 = σ 40 := hs 40 (by decide)
  have e41 : υ 41 = σ 41 := hs 41 (by decide)
  have e42 : υ 42 = σ 42 := hs 42 (by decide)
  have e43 : υ 43 = σ 43 := hs 43 (by decide)
  have e44 : υ 44 = σ 44 := hs 44 (by decide)
  have e45 : υ 45 = σ 45 := hs 45 (by decide)
  have e46 : υ 46 = σ 46 := hs 46 (by decide)
  have e70 : υ 70 = σ 70 := hs 70 (by decide)
  have e71 : υ 71 = σ 71 := hs 71 (by decide)
  have e72 : υ 72 = σ 72 := hs 72 (by decide)
  have e100 : υ 100 = σ 100 := hs 100 (by decide)
  have e101 : υ 101 = σ 101 := hs 101 (by decide)
  have e102 : υ 102 = σ 102 := hs 102 (by decide)
  have e103 : υ 103 = σ 103 := hs 103 (by decide)
  have e106 : υ 106 = σ 106 := hs 106 (by decide)
  have e107 : υ 107 = σ 107 := hs 107 (by decide)
  have e108 : υ 108 = σ 108 := hs 108 (by decide)
  have e109 : υ 109 = σ 109 := hs 109 (by decide)
  have e111 : υ 111 = σ 111 := hs 111 (by decide)
  have e112 : υ 112 = σ 112 := hs 112 (by decide)
  have e113 : υ 113 = σ 113 := hs 113 (by decide)
  have e114 : υ 114 = σ 114 := hs 114 (by decide)
  have e115 : υ 115 = σ 115 := hs 115 (by decide)
  have e116 : υ 116 = σ 116 := hs 116 (by decide)
  have e117 : υ 117 = σ 117 := hs 117 (by decide)
  have e118 : υ 118 = σ 118 := hs 118 (by decide)
  have e119 : υ 119 = σ 119 := hs 119 (by decide)
  have e120 : υ 120 = σ 120 := hs 120 (by decide)
  have e121 : υ 121 = σ 121 := hs 121 (by decide)
  have e122 : υ 122 = σ 122 := hs 122 (by decide)
  have e123 : υ 123 = σ 123 := hs 123 (by decide)
  refine BW.mk ?xg_ ?mg_ ?len_ ?n0_ ?n1_ ?n2_ ?net_ ?leaf_ ?lnet_ ?i0_ ?i1_ ?i2_ ?inp_ ?ino_ ?icn_ ?l0_ ?l1_ ?l2_ ?lat_ ?lan_ ?o0_ ?o1_ ?o2_ ?out_ ?c0_ ?c1_ ?c2_ ?c3_ ?c4_ ?cel_ ?cpt_ ?val_ ?fnc_ ?mp_ ?mq_
  case xg_ => exact h.xg.sm (by rw [e40]) (by rw [e70]) (by rw [e41]) (by rw [e0]) (by rw [e1]) (by rw [e2]) (by rw [e3]) hw
  case mg_ => exact h.mg.sm (by rw [e113]) e114 e115 e116
  case len_ => exact h.len
  case n0_ =>
    simp only [e40]
    exact h.n0
  case n1_ =>
    simp only [e40]
    exact h.n1
  case n2_ =>
    simp only [e40, e100]
    exact h.n2
  case net_ =>
    simp only [e40, e42, e101, e102]
    exact h.net
  case leaf_ =>
    simp only [e1, e40, e42, e101, e117]
    exact h.leaf
  case lnet_ =>
    simp only [e1, e40, e42, e101, e117]
    exact h.lnet
  case i0_ =>
    simp only [e40]
    exact h.i0
  case i1_ =>
    simp only [e40]
    exact h.i1
  case i2_ =>
    simp only [e40, e111]
    exact h.i2
  case inp_ =>
    simp only [e1, e4, e40, e43]
    exact h.inp
  case ino_ =>
    simp only [e1, e4, e40, e43, e101, e117]
    exact h.ino
  case icn_ =>
    simp only [e40, e101]
    exact h.icn
  case l0_ =>
    simp only [e40]
    exact h.l0
  case l1_ =>
    simp only [e40]
    exact h.l1
  case l2_ =>
    simp only [e40, e112]
    exact h.l2
  case lat_ =>
    simp only [e1, e40, e44]
    exact h.lat
  case lan_ =>
    intro i i0 i1 hk
    rw [e1] at hk
    obtain ⟨r1, r2, r3, r4, r5, r6, r7⟩ := h.lan i i0 i1 hk
    have hl := h.lnet i i0 i1 (by omega)
    simp only [e40, e44, e8, e117, e103, e4, e42]
    refine ⟨r1, r2, r3, r4, by rw [h7 i i0 i1 hk]; exact r4, ?_, ?_⟩
    · rw [h104 _ hl.1 hl.2.1, r3, h7 i i0 i1 hk]
    · have la := h.leaf a a0 a1 (by omega)
      rw [h5, h105]
      by_cases e : i = σ 42 a
      · have e2 : σ 117 i = a := by rw [e]; exact la.1
        rw [if_pos e, if_pos e2]
        exact Or.inr ⟨b0, b1, rfl⟩
      · have e2 : ¬ σ 117 i = a := fun q => e (by rw [← q]; exact hl.2.2.1.symm)
        rw [if_neg e, if_neg e2]
        exact r7
  case o0_ =>
    simp only [e40]
    exact h.o0
  case o1_ =>
    simp only [e40]
    exact h.o1
  case o2_ =>
    simp only [e40, e118]
    exact h.o2
  case out_ =>
    simp only [e40, e42, e45, e119]
    exact h.out
  case c0_ =>
    simp only [e40]
    exact h.c0
  case c1_ =>
    simp only [e40]
    exact h.c1
  case c2_ =>
    simp only [e40, e120]
    exact h.c2
  case c3_ =>
    simp only [e40, e71]
    exact h.c3
  case c4_ =>
    simp only [e72]
    exact h.c4
  case cel_ =>
    simp only [e20, e21, e22, e23, e40, e46, e121, e122, e123]
    exact h.cel
  case cpt_ =>
    intro c c0 c1
    rw [e40] at c1
    obtain ⟨a1, a2, a3, a4, a5, a6⟩ := h.cpt c c0 c1
    rw [e21, e24, e25]
    exact ⟨a1, a2, a3, a4, a5, prep_ext (by rw [e72]; exact Int.le_refl _) (fun i _ _ => by rw [e30, e31, e32]; exact ⟨rfl, rfl, rfl⟩) _ _ _ a6⟩
  case val_ =>
    simp only [e6]
    exact h.val
  case fnc_ =>
    have hf : ∀ v j, fidx υ v j = fidx σ v j := fun v j => by unfold fidx; rw [e42, e106, e107, e108]
    simp only [hf, e40, e42, e101, e106, e107, e108, e109]
    exact h.fnc
  case mp_ =>
    exact Or.inl h56
  case mq_ =>
    rw [h56, h124]
theorem BW_out {σ υ : zS} {L : Gr} {pt : Int → Pat} (h : BW σ L pt) (hs : zsm [7, 40, 45, 47, 48, 56, 104, 118, 119, 124] σ υ) {a : Int} (hw : zWf υ) (a0 : 0 ≤ a) (a1 : a < σ 40 1) (ho : σ 40 4 < 4) (h40 : ∀ l : Int, υ 40 l = if l = 4 then σ 40 4 + 1 else σ 40 l) (h45 : ∀ k : Int, υ 45 k = if k = σ 40 4 then σ 42 a else σ 45 k) (h118 : υ 118 0 = σ 118 0 + 1) (h119 : ∀ k : Int, υ 119 k = if k = σ 40 4 then a else σ 119 k) (h7 : ∀ i : Int, 0 ≤ i → i < L.length → σ 1 i = 1 → υ 7 i = σ 4 i) (h104 : ∀ j : Int, 0 ≤ j → j < σ 40 1 → υ 104 j = σ 103 j) (h56 : υ 56 0 = 0) (h124 : υ 124 0 = 0) : BW υ L pt := by
  have e0 : υ 0 = σ 0 := hs 0 (by decide)
  have e1 : υ 1 = σ 1 := hs 1 (by decide)
  have e2 : υ 2 = σ 2 := hs 2 (by decide)
  have e3 : υ 3 = σ 3 := hs 3 (by decide)
  have e4 : υ 4 = σ 4 := hs 4 (by decide)
  have e5 : υ 5 = σ 5 := hs 5 (by decide)
  have e6 : υ 6 = σ 6 := hs 6 (by decide)
  have e8 : υ 8 = σ 8 := hs 8 (by decide)
  have e20 : υ 20 = σ 20 := hs 20 (by decide)
  have e21 : υ 21 = σ 21 := hs 21 (by decide)
  have e22 : υ 22 = σ 22 := hs 22 (by decide)
  have e23 : υ 23 = σ 23 := hs 23 (by decide)
  have e24 : υ 24 = σ 24 := hs 24 (by decide)
  have e25 : υ 25 = σ 25 := hs 25 (by decide)
  have e30 : υ 30 = σ 30 := hs 30 (by decide)
  have e31 : υ 31 = σ 31 := hs 31 (by decide)
  have e32 : υ 32 = σ 32 := hs 32 (by decide)
  have e41 : υ 41 = σ 41 := hs 41 (by decide)
  have e42 : υ 42 = σ 42 := hs 42 (by decide)
  have e43 : υ 43 = σ 43 := hs 43 (by decide)
  have e44 : υ 44 = σ 44 := hs 44 (by decide)
  have e46 : υ 46 = σ 46 := hs 46 (by decide)
  have e70 : υ 70 = σ 70 := hs 70 (by decide)
  have e71 : υ 71 = σ 71 := hs 71 (by decide)
  have e72 : υ 72 = σ 72 := hs 72 (by decide)
  have e100 : υ 100 = σ 100 := hs 100 (by decide)
  have e101 : υ 101 = σ 101 := hs 101 (by decide)
  have e102 : υ 102 = σ 102 := hs 102 (by decide)
  have e103 : υ 103 = σ 103 := hs 103 (by decide)
  have e105 : υ 105 = σ 105 := hs 105 (by decide)
  have e106 : υ 106 = σ 106 := hs 106 (by decide)
  have e107 : υ 107 = σ 107 := hs 107 (by decide)
  have e108 : υ 108 = σ 108 := hs 108 (by decide)
  have e109 : υ 109 = σ 109 := hs 109 (by decide)
  have e111 : υ 111 = σ 111 := hs 111 (by decide)
  have e112 : υ 112 = σ 112 := hs 112 (by decide)
  have e113 : υ 113 = σ 113 := hs 113 (by decide)
  have e114 : υ 114 = σ 114 := hs 114 (by decide)
  have e115 : υ 115 = σ 115 := hs 115 (by decide)
  have e116 : υ 116 = σ 116 := hs 116 (by decide)
  have e117 : υ 117 = σ 117 := hs 117 (by decide)
  have e120 : υ 120 = σ 120 := hs 120 (by decide)
  have e121 : υ 121 = σ 121 := hs 121 (by decide)
  have e122 : υ 122 = σ 122 := hs 122 (by decide)
  have e123 : υ 123 = σ 123 := hs 123 (by decide)
  have q0 : υ 40 0 = σ 40 0 := by rw [h40, if_neg (by decide)]
  have q1 : υ 40 1 = σ 40 1 := by rw [h40, if_neg (by decide)]
  have q2 : υ 40 2 = σ 40 2 := by rw [h40, if_neg (by decide)]
  have q3 : υ 40 3 = σ 40 3 := by rw [h40, if_neg (by decide)]
  have q4 : υ 40 4 = σ 40 4 + 1 := by rw [h40, if_pos rfl]
  have q5 : υ 40 5 = σ 40 5 := by rw [h40, if_neg (by decide)]
  refine BW.mk ?xg_ ?mg_ ?len_ ?n0_ ?n1_ ?n2_ ?net_ ?leaf_ ?lnet_ ?i0_ ?i1_ ?i2_ ?inp_ ?ino_ ?icn_ ?l0_ ?l1_ ?l2_ ?lat_ ?lan_ ?o0_ ?o1_ ?o2_ ?out_ ?c0_ ?c1_ ?c2_ ?c3_ ?c4_ ?cel_ ?cpt_ ?val_ ?fnc_ ?mp_ ?mq_
  case xg_ =>
    exact h.xg.sm q0 (by rw [e70]) (by rw [e41]) (by rw [e0]) (by rw [e1]) (by rw [e2]) (by rw [e3]) hw
  case mg_ => exact h.mg.sm (by rw [e113]) e114 e115 e116
  case len_ => exact h.len
  case n0_ =>
    rw [q1]; exact h.n0
  case n1_ =>
    rw [q1]; exact h.n1
  case n2_ =>
    rw [q1, e100]; exact h.n2
  case net_ =>
    rw [q1]
    simp only [e42, e101, e102]
    exact h.net
  case leaf_ =>
    rw [q1]
    simp only [e42, e101, e117, e1]
    exact h.leaf
  case lnet_ =>
    rw [q1]
    simp only [e42, e101, e117, e1]
    exact h.lnet
  case i0_ =>
    rw [q2]; exact h.i0
  case i1_ =>
    rw [q2]; exact h.i1
  case i2_ =>
    rw [q2, e111]; exact h.i2
  case inp_ =>
    rw [q2]
    simp only [e43, e1, e4]
    exact h.inp
  case ino_ =>
    rw [q2]
    simp only [e43, e1, e4, e101, e117]
    exact h.ino
  case icn_ =>
    rw [q1, q2]
    simp only [e101]
    exact h.icn
  case l0_ =>
    rw [q3]; exact h.l0
  case l1_ =>
    rw [q3]; exact h.l1
  case l2_ =>
    rw [q3, e112]; exact h.l2
  case lat_ =>
    rw [q3]
    simp only [e44, e1]
    exact h.lat
  case lan_ =>
    intro i i0 i1 hk
    rw [e1] at hk
    obtain ⟨a1, a2, a3, a4, a5, a6, a7⟩ := h.lan i i0 i1 hk
    have hl := h.lnet i i0 i1 (by omega)
    rw [q1, q3]
    simp only [e44, e8, e117, e103, e4, e42, e5, e105]
    refine ⟨a1, a2, a3, a4, by rw [h7 i i0 i1 hk]; exact a4, ?_, a7⟩
    rw [h104 _ hl.1 hl.2.1, a3, h7 i i0 i1 hk]
  case o0_ =>
    rw [q4]; have := h.o0; omega
  case o1_ =>
    rw [q4]; omega
  case o2_ =>
    rw [q4, h118, h.o2]
  case out_ =>
    intro k k0 k1
    rw [q4] at k1
    rw [q1, h45, h119, e42]
    by_cases e : k = σ 40 4
    · rw [if_pos e, if_pos e]
      exact ⟨a0, a1, rfl⟩
    · rw [if_neg e, if_neg e]
      exact h.out k k0 (by omega)
  case c0_ =>
    rw [q5]; exact h.c0
  case c1_ =>
    rw [q5]; exact h.c1
  case c2_ =>
    rw [q5, e120]; exact h.c2
  case c3_ =>
    rw [q5, e71]; exact h.c3
  case c4_ =>
    simp only [e72]
    exact h.c4
  case cel_ =>
    rw [q5]
    simp only [e46, e20, e21, e22, e23, e121, e122, e123]
    exact h.cel
  case cpt_ =>
    intro c c0 c1
    rw [q5] at c1
    obtain ⟨a1, a2, a3, a4, a5, a6⟩ := h.cpt c c0 c1
    rw [e21, e24, e25]
    exact ⟨a1, a2, a3, a4, a5, prep_ext (by rw [e72]; exact Int.le_refl _) (fun i _ _ => by rw [e30, e31, e32]; exact ⟨rfl, rfl, rfl⟩) _ _ _ a6⟩
  case val_ =>
    simp only [e6]
    exact h.val
  case fnc_ =>
    have hf : ∀ v j, fidx υ v j = fidx σ v j := fun v j => by unfold fidx; rw [e42, e106, e107, e108]
    rw [q1]
    simp only [hf, e42, e101, e106, e107, e108, e109]
    exact h.fnc
  case mp_ =>
    exact Or.inl h56
  case mq_ =>
    rw [h56, h124]
theorem op_output {σ : zS} {L : Gr} {pt : Int → Pat} {Q : zS → Prop} {a : Int} (h : BW σ L pt) (ha : zc a) (hQ : Q σ) (hQ2 : ∀ υ, BW υ L pt → υ 56 0 = 0 → Q υ) : wp_CX_output (fun r τ => wp_MM_output (fun r' υ => r' = r ∧ Q υ) a τ) a σ := by
  have n0 := h.n0
  have n1 := h.n1
  have n2 := h.n2
  have o0 := h.o0
  have o1 := h.o1
  have o2 := h.o2
  have l0 := h.l0
  have l1 := h.l1
  refine sx_at ha (by omega) h.net7 ⟨⟨Int.le_refl _, Int.le_refl _, Int.le_refl _⟩, fun q => ?_, fun q => ⟨by omega, fun q2 => ?_, fun q2 => ?_⟩⟩
  · have hn : ¬ (0 ≤ a ∧ a < σ 40 1) := fun hn => by
      have e : atN σ a = σ 42 a := by unfold atN; rw [if_neg (by omega), if_pos hn.2]
      have := (h.net a hn.1 hn.2).1
      omega
    exact sm_isNet ha (by omega) ⟨fun q => absurd (by rw [← n2]; exact q) hn, fun _ => ⟨by omega, fun _ => ⟨rfl, hQ⟩, fun q => absurd rfl q⟩⟩
  · have hn : 0 ≤ a ∧ a < σ 40 1 := by
      unfold atN at q
      split at q
      · omega
      · split at q <;> omega
    have e : atN σ a = σ 42 a := by unfold atN; rw [if_neg (by omega), if_pos hn.2]
    rw [e]
    have hh := h.net a hn.1 hn.2
    have hz : zel σ 4 (σ 42 a) := ⟨hh.1, by rw [if_neg (by decide), h.e70]; exact hh.2.1⟩
    refine ⟨h.wf, hz, by show σ 40 (4 : Nat) < 60; have : σ 40 (4 : Nat) = σ 40 4 := rfl; omega, fun c m => ?_⟩
    have o : ∀ (f : Nat) (i : Int), f ≠ 40 → f ≠ 45 → f ≠ 47 → f ≠ 48 → zadd σ 4 (σ 42 a) c m f i = σ f i := fun f i a b c' d => by rw [zadd_ap, if_neg (by omega), if_neg (by omega), if_neg (by omega), if_neg (by omega)]
    have of : ∀ (f : Nat), f ≠ 40 → f ≠ 45 → f ≠ 47 → f ≠ 48 → zadd σ 4 (σ 42 a) c m f = σ f := fun f a b c' d => funext fun i => o f i a b c' d
    have o40 : ∀ l : Int, zadd σ 4 (σ 42 a) c m 40 l = if l = 4 then σ 40 4 + 1 else σ 40 l := fun l => by
      rw [zadd_ap]
      by_cases e : l = 4
      · rw [if_pos ⟨rfl, e⟩, if_pos e]; rfl
      · rw [if_neg (fun q => e q.2), if_neg (by omega), if_neg (by omega), if_neg (by omega), if_neg e]
    have hwz := zadd_wf (c := c) (m := m) h.wf (by decide) hz
    have q3 : zadd σ 4 (σ 42 a) c m 40 3 = σ 40 3 := by rw [o40, if_neg (by decide)]
    refine sx_changed (by rw [q3]; omega) (by rw [q3]; omega) (fun k k0 k1 => ?_) (fun τ ht => ?_)
    · rw [q3] at k1
      rw [of 44 (by decide) (by decide) (by decide) (by decide), o 70 0 (by decide) (by decide) (by decide) (by decide)]
      exact h.lat7 k k0 k1
    · obtain ⟨t1, t2, t3, t4⟩ := ht
      have t40 := t1 40 (by decide)
      refine ⟨⟨by rw [t1 70 (by decide)]; exact Int.le_refl _, by rw [t1 71 (by decide)]; exact Int.le_refl _, by rw [t1 72 (by decide)]; exact Int.le_refl _⟩, ?_⟩
      have r1 : τ 40 4 - 1 = σ 40 4 := by rw [t40, o40, if_pos rfl]; omega
      have tk : ∀ f, f ≠ 7 → f ≠ 56 → f ≠ 40 → f ≠ 45 → f ≠ 47 → f ≠ 48 → τ f = σ f := fun f a b c' d e g => by
        rw [t1 f (by simp [a, b]), of f c' d e g]
      have e100 := tk 100 (by decide) (by decide) (by decide) (by decide) (by decide) (by decide)
      have e118 := tk 118 (by decide) (by decide) (by decide) (by decide) (by decide) (by decide)
      rw [r1]
      refine sm_isNet ha (by rw [e100]; omega) ⟨fun _ => ⟨by omega, fun q => absurd q (by decide), fun _ => ⟨by rw [e118]; omega, fun _ => ⟨by rw [e118]; omega, by rw [e118]; omega, ?_⟩, fun q => absurd q (by rw [e118]; omega)⟩⟩, fun q => absurd (by rw [e100, n2]; exact hn) q⟩
      rintro _ rfl _ rfl
      have e119 : zup τ 119 (τ 118 0) a 118 0 = σ 118 0 := by rw [zup_ne _ _ _ _ (by decide), e118]
      refine sm_changed (by rw [zup_ne _ _ _ _ (by decide), zup_ne _ _ _ _ (by decide), e100]; omega) (by rw [zup_ne _ _ _ _ (by decide), zup_ne _ _ _ _ (by decide), e100]; omega) (fun υ hu => ?_)
      obtain ⟨u1, u2, u3⟩ := hu
      have u118 : υ 118 0 = σ 118 0 + 1 := by rw [u1 118 (by decide), zup_at, e119]
      refine ⟨by rw [u118]; omega, hQ2 υ ?_ ?_⟩
      · have uk : ∀ f, f ≠ 104 → f ≠ 124 → f ≠ 118 → f ≠ 119 → υ f = τ f := fun f a b c' d => by
          rw [u1 f (by simp [a, b]), zup_f _ _ _ c', zup_f _ _ _ d]
        refine BW_out (a := a) h (fun f hf => ?_) ?_ hn.1 hn.2 q2 ?_ ?_ u118 ?_ ?_ ?_ ?_ u2
        · simp only [List.mem_cons, List.not_mem_nil, or_false, not_or] at hf
          rw [uk f (by omega) (by omega) (by omega) (by omega), tk f (by omega) (by omega) (by omega) (by omega) (by omega) (by omega)]
        · refine hwz.sm (fun k hk => ?_)
          have : k ≠ 104 ∧ k ≠ 124 ∧ k ≠ 118 ∧ k ≠ 119 ∧ k ≠ 7 ∧ k ≠ 56 := by
            simp only [List.mem_cons, List.not_mem_nil, or_false] at hk
            omega
          rw [uk k this.1 this.2.1 this.2.2.1 this.2.2.2.1, t1 k (by simp [this.2.2.2.2.1, this.2.2.2.2.2])]
        · intro l
          rw [uk 40 (by decide) (by decide) (by decide) (by decide), t40, o40]
        · intro k
          rw [uk 45 (by decide) (by decide) (by decide) (by decide), t1 45 (by decide), zadd_ap, if_neg (by omega)]
          by_cases e : k = σ 40 4
          · rw [if_pos ⟨rfl, e⟩, if_pos e]
          · rw [if_neg (fun q => e q.2), if_neg (by omega), if_neg (by omega), if_neg e]
        · intro k
          rw [u1 119 (by decide), zup_f _ _ _ (by decide), zup_or, e118, o2, tk 119 (by decide) (by decide) (by decide) (by decide) (by decide) (by decide)]
        · intro i i0 i1 hk
          rw [uk 7 (by decide) (by decide) (by decide) (by decide)]
          obtain ⟨k, k0, k1, k2⟩ := (h.lan i i0 i1 hk).1
          rw [t3 i ⟨k, k0, by rw [q3]; exact k1, by rw [of 44 (by decide) (by decide) (by decide) (by decide)]; exact k2⟩, of 4 (by decide) (by decide) (by decide) (by decide)]
        · intro j j0 j1
          have := u3 j j0 (by rw [zup_f _ _ _ (by decide), zup_f _ _ _ (by decide), e100]; omega)
          rw [this, zup_f _ _ _ (by decide), zup_f _ _ _ (by decide), tk 103 (by decide) (by decide) (by decide) (by decide) (by decide) (by decide)]
        · rw [uk 56 (by decide) (by decide) (by decide) (by decide)]
          exact t2
      · rw [u1 56 (by decide), zup_f _ _ _ (by decide), zup_f _ _ _ (by decide)]
        exact t2
  · have hn : 0 ≤ a ∧ a < σ 40 1 := by
      unfold atN at q
      split at q
      · omega
      · split at q <;> omega
    exact sm_isNet ha (by omega) ⟨fun _ => ⟨by omega, fun q => absurd q (by decide), fun _ => ⟨by omega, fun q => absurd q (by omega), fun _ => ⟨rfl, hQ⟩⟩⟩, fun q => absurd (by rw [n2]; exact hn) q⟩
