/-! cell: BW again, both sides (printed by gen/ops2.py) -/
theorem BW_cell {σ υ : zS} {L : Gr} {pt : Int → Pat} (h : BW σ L pt) (hs : zsm [7, 20, 21, 22, 23, 24, 25, 30, 31, 32, 40, 46, 47, 48, 56, 61, 62, 71, 72, 104, 120, 121, 122, 123, 124] σ υ) {P : Pat} {code area delay : Int} (hw : zWf υ) (p1 : pok P) (p2 : P ≠ .var 0) (p3 : (pdig P).length ≤ 7) (p4 : code = dval (pdig P)) (ha : 1 ≤ area ∧ area ≤ 1000) (hd : 0 ≤ delay ∧ delay ≤ 1000) (hc : σ 40 5 < 8) (h72 : σ 72 0 ≤ υ 72 0) (hpk : ∀ i : Int, 0 ≤ i → i < σ 72 0 → υ 30 i = σ 30 i ∧ υ 31 i = σ 31 i ∧ υ 32 i = σ 32 i) (h71 : υ 71 0 = σ 71 0 + 1) (h40 : ∀ l : Int, υ 40 l = if l = 5 then σ 40 5 + 1 else σ 40 l) (h46 : ∀ c : Int, υ 46 c = if c = σ 40 5 then σ 71 0 else σ 46 c) (hcf : ∀ c : Int, c ≠ σ 71 0 → υ 20 c = σ 20 c ∧ υ 21 c = σ 21 c ∧ υ 22 c = σ 22 c ∧ υ 23 c = σ 23 c ∧ υ 24 c = σ 24 c ∧ υ 25 c = σ 25 c) (hcn : υ 20 (σ 71 0) = σ 40 5 ∧ υ 21 (σ 71 0) = code ∧ υ 22 (σ 71 0) = area ∧ υ 23 (σ 71 0) = delay ∧ υ 24 (σ 71 0) = ppins P ∧ prep υ P (υ 25 (σ 71 0)) 0) (h120 : υ 120 0 = σ 120 0 + 1) (h121 : ∀ c : Int, υ 121 c = if c = σ 40 5 then code else σ 121 c) (h122 : ∀ c : Int, υ 122 c = if c = σ 40 5 then area else σ 122 c) (h123 : ∀ c : Int, υ 123 c = if c = σ 40 5 then delay else σ 123 c) (h7 : ∀ i : Int, 0 ≤ i → i < L.length → σ 1 i = 1 → υ 7 i = σ 4 i) (h104 : ∀ j : Int, 0 ≤ j → j < σ 40 1 → υ 104 j = σ 103 j) (h56 : υ 56 0 = 0) (h124 : υ 124 0 = 0) : BW υ L (fun c => if c = σ 40 5 then P else pt c) := by
  have e0 : υ 0 = σ 0 := hs 0 (by decide)
  have e1 : υ 1 = σ 1 := hs 1 (by decide)
  have e2 : υ 2 = σ 2 := hs 2 (by decide)
  have e3 : υ 3 = σ 3 := hs 3 (by decide)
  have e4 : υ 4 = σ 4 := hs 4 (by decide)
  have e5 : υ 5 = σ 5 := hs 5 (by decide)
  have e6 : υ 6 = σ 6 := hs 6 (by decide)
  have e8 : υ 8 = σ 8 := hs 8 (by decide)
  have e41 : υ 41 = σ 41 := hs 41 (by decide)
  have e42 : υ 42 = σ 42 := hs 42 (by decide)
  have e43 : υ 43 = σ 43 := hs 43 (by decide)
  have e44 : υ 44 = σ 44 := hs 44 (by decide)
  have e45 : υ 45 = σ 45 := hs 45 (by decide)
  have e70 : υ 70 = σ 70 := hs 70 (by decide)
  have e100 : υ 100 = σ 100 := hs 100 (by decide)
  have e101 : υ 101 = σ 101 := hs 101 (by decide)
  have e102 : υ 102 = σ 102 := hs 102 (by decide)
  have e103 : υ 103 = σ 103 := hs 103 (by decide)
  have e105 : υ 105 = σ 105 := hs 105 (by decide)
  have e106 : υ 106 = σ 106 := hs 106 (by decide)
  have e107 : υ 107 = σ 107 := hs 107 (by decide)
  have e108 : υ 108 = σ 108 := hs 108 (by decide)
  have e109 : υ 109 = σ 109 := hs 109 (by decide)
  have e111 : υ 111 = σ 111 := hs 111 (by decide)
  have e112 : υ 112 = σ 112 := hs 112 (by decide)
  have e113 : υ 113 = σ 113 := hs 113 (by decide)
  have e114 : υ 114 = σ 114 := hs 114 (by decide)
  have e115 : υ 115 = σ 115 := hs 115 (by decide)
  have e116 : υ 116 = σ 116 := hs 116 (by decide)
  have e117 : υ 117 = σ 117 := hs 117 (by decide)
  have e118 : υ 118 = σ 118 := hs 118 (by decide)
  have e119 : υ 119 = σ 119 := hs 119 (by decide)
  have q0 : υ 40 0 = σ 40 0 := by rw [h40, if_neg (by decide)]
  have q1 : υ 40 1 = σ 40 1 := by rw [h40, if_neg (by decide)]
  have q2 : υ 40 2 = σ 40 2 := by rw [h40, if_neg (by decide)]
  have q3 : υ 40 3 = σ 40 3 := by rw [h40, if_neg (by decide)]
  have q4 : υ 40 4 = σ 40 4 := by rw [h40, if_neg (by decide)]
  have q5 : υ 40 5 = σ 40 5 + 1 := by rw [h40, if_pos rfl]
  refine BW.mk ?xg_ ?mg_ ?len_ ?n0_ ?n1_ ?n2_ ?net_ ?leaf_ ?lnet_ ?i0_ ?i1_ ?i2_ ?inp_ ?ino_ ?icn_ ?l0_ ?l1_ ?l2_ ?lat_ ?lan_ ?o0_ ?o1_ ?o2_ ?out_ ?c0_ ?c1_ ?c2_ ?c3_ ?c4_ ?cel_ ?cpt_ ?val_ ?fnc_ ?mp_ ?mq_
  case xg_ =>
    exact h.xg.sm q0 (by rw [e70]) (by rw [e41]) (by rw [e0]) (by rw [e1]) (by rw [e2]) (by rw [e3]) hw
  case mg_ => exact h.mg.sm (by rw [e113]) e114 e115 e116
  case len_ => exact h.len
  case n0_ =>
    rw [q1]; exact h.n0
  case n1_ =>
    rw [q1]; exact h.n1
  case n2_ =>
    rw [q1, e100]; exact h.n2
  case net_ =>
    rw [q1]
    simp only [e42, e101, e102]
    exact h.net
  case leaf_ =>
    rw [q1]
    simp only [e42, e101, e117, e1]
    exact h.leaf
  case lnet_ =>
    rw [q1]
    simp only [e42, e101, e117, e1]
    exact h.lnet
  case i0_ =>
    rw [q2]; exact h.i0
  case i1_ =>
    rw [q2]; exact h.i1
  case i2_ =>
    rw [q2, e111]; exact h.i2
  case inp_ =>
    rw [q2]
    simp only [e43, e1, e4]
    exact h.inp
  case ino_ =>
    rw [q2]
    simp only [e43, e1, e4, e101, e117]
    exact h.ino
  case icn_ =>
    rw [q1, q2]
    simp only [e101]
    exact h.icn
  case l0_ =>
    rw [q3]; exact h.l0
  case l1_ =>
    rw [q3]; exact h.l1
  case l2_ =>
    rw [q3, e112]; exact h.l2
  case lat_ =>
    rw [q3]
    simp only [e44, e1]
    exact h.lat
  case lan_ =>
    intro i i0 i1 hk
    rw [e1] at hk
    obtain ⟨a1, a2, a3, a4, a5, a6, a7⟩ := h.lan i i0 i1 hk
    have hl := h.lnet i i0 i1 (by omega)
    rw [q1, q3]
    simp only [e44, e8, e117, e103, e4, e42, e5, e105]
    refine ⟨a1, a2, a3, a4, by rw [h7 i i0 i1 hk]; exact a4, ?_, a7⟩
    rw [h104 _ hl.1 hl.2.1, a3, h7 i i0 i1 hk]
  case o0_ =>
    rw [q4]; exact h.o0
  case o1_ =>
    rw [q4]; exact h.o1
  case o2_ =>
    rw [q4, e118]; exact h.o2
  case out_ =>
    rw [q4, q1]
    simp only [e119, e45, e42]
    exact h.out
  case c0_ =>
    rw [q5]; have := h.c0; omega
  case c1_ =>
    rw [q5]; omega
  case c2_ =>
    rw [q5, h120, h.c2]
  case c3_ =>
    rw [q5, h71, h.c3]
  case c4_ =>
    have := h.c4; omega
  case cel_ =>
    intro c c0 c1
    rw [q5] at c1
    rw [h46, h121, h122, h123]
    by_cases e : c = σ 40 5
    · rw [if_pos e, if_pos e, if_pos e, if_pos e, e, ← h.c3]
      obtain ⟨b1, b2, b3, b4, b5, b6⟩ := hcn
      rw [b1, b2, b3, b4, h.c3]
      exact ⟨rfl, rfl, rfl, rfl, rfl, ha.1, ha.2, hd.1, hd.2⟩
    · obtain ⟨b1, b2, b3, b4, b5, b6⟩ := hcf c (by rw [h.c3]; exact e)
      rw [if_neg e, if_neg e, if_neg e, if_neg e, b1, b2, b3, b4]
      exact h.cel c c0 (by omega)
  case cpt_ =>
    intro c c0 c1
    rw [q5] at c1
    by_cases e : c = σ 40 5
    · obtain ⟨b1, b2, b3, b4, b5, b6⟩ := hcn
      rw [h.c3] at b2 b5 b6
      rw [if_pos e, e, b2, b5]
      exact ⟨p1, p2, p3, p4, rfl, b6⟩
    · obtain ⟨b1, b2, b3, b4, b5, b6⟩ := hcf c (by rw [h.c3]; exact e)
      rw [if_neg e, b2, b5, b6]
      obtain ⟨a1, a2, a3, a4, a5, a6⟩ := h.cpt c c0 (by omega)
      exact ⟨a1, a2, a3, a4, a5, prep_ext h72 hpk _ _ _ a6⟩
  case val_ =>
    simp only [e6]
    exact h.val
  case fnc_ =>
    have hf : ∀ v j, fidx υ v j = fidx σ v j := fun v j => by unfold fidx; rw [e42, e106, e107, e108]
    rw [q1]
    simp only [hf, e42, e101, e106, e107, e108, e109]
    exact h.fnc
  case mp_ =>
    exact Or.inl h56
  case mq_ =>
    rw [h56, h124]
theorem op_cell {σ : zS} {L : Gr} {pt : Int → Pat} {Q : zS → Prop} {a b c : Int} (h : BW σ L pt) (ha : zc a) (hb : zc b) (hc : zc c) (hQ : Q σ) (hQ2 : ∀ υ L' pt', BW υ L' pt' → υ 56 0 = 0 → Q υ) : wp_CX_cell (fun r τ => wp_MM_cell (fun r' υ => r' = r ∧ Q υ) a b c τ) a b c σ := by
  have n0 := h.n0
  have n1 := h.n1
  have n2 := h.n2
  have c0 := h.c0
  have c1 := h.c1
  have c2 := h.c2
  refine sx_cell h.wf h.c4 h.c3 c0 c1 h.l0 h.l1 h.lat7 ha hb hc (fun hB => ?_) (fun hG hF => ?_) (fun P τ p1 p2 p3 p4 hp a1 a2 d1 d2 c8 hx => ?_)
  · exact sm_isPattern ha (fun hp => ⟨by decide, fun q => absurd q (by decide), fun _ => ⟨hb, fun _ => ⟨rfl, hQ⟩, fun q1 => ⟨fun _ => ⟨rfl, hQ⟩, fun q2 => ⟨hc, fun _ => ⟨rfl, hQ⟩, fun q3 => ⟨fun q4 => absurd ⟨hp, by omega, by omega, by omega, by omega⟩ hB, fun _ => ⟨rfl, hQ⟩⟩⟩⟩⟩⟩) (fun hp => ⟨by decide, fun _ => ⟨rfl, hQ⟩, fun q => absurd rfl q⟩)
  · exact sm_isPattern ha (fun hp => ⟨by decide, fun q => absurd q (by decide), fun _ => ⟨hb, fun q => absurd q (by omega), fun q1 => ⟨fun q => absurd q (by omega), fun q2 => ⟨hc, fun q => absurd q (by omega), fun q3 => ⟨fun q4 => ⟨by omega, fun q => absurd q (by omega), fun _ => ⟨rfl, hQ⟩⟩, fun q => absurd q (by omega)⟩⟩⟩⟩⟩) (fun hp => absurd hG.1 hp)
  · obtain ⟨x1, x2, x3, x4, x5, x6, x7, x8, x9, x10, x11⟩ := hx
    have T : ∀ f, 100 ≤ f → τ f = σ f := fun f hf => x1 f (by simp [xcellk]; omega)
    have t100 : τ 100 0 = σ 40 1 := by rw [T 100 (by decide)]; exact n2
    have t120 : τ 120 0 = σ 40 5 := by rw [T 120 (by decide)]; exact c2
    refine sm_isPattern ha (fun _ => ⟨by decide, fun q => absurd q (by decide), fun _ => ⟨hb, fun q => absurd q (by omega), fun q1 => ⟨fun q => absurd q (by omega), fun q2 => ⟨hc, fun q => absurd q (by omega), fun q3 => ⟨fun q4 => ⟨by omega, fun q => ⟨by omega, by omega, ?_⟩, fun q => absurd q (by omega)⟩, fun q => absurd q (by omega)⟩⟩⟩⟩⟩) (fun q => absurd hp q)
    rintro _ rfl
    rw [zup_ne τ _ _ 0 (by decide)]
    refine ⟨by omega, by omega, ?_⟩
    rintro _ rfl
    rw [zup_ne _ _ _ 0 (by decide), zup_ne τ _ _ 0 (by decide)]
    refine ⟨by omega, by omega, ?_⟩
    rintro _ rfl
    rw [zup_ne _ _ _ 0 (by decide), zup_ne _ _ _ 0 (by decide), zup_ne τ _ _ 0 (by decide)]
    rintro _ rfl
    have V : ∀ f i, zup (zup (zup (zup τ 121 (τ 120 0) a) 122 (τ 120 0) b) 123 (τ 120 0) c) 120 0 (τ 120 0 + 1) f i = if f = 121 ∧ i = σ 40 5 then a else if f = 122 ∧ i = σ 40 5 then b else if f = 123 ∧ i = σ 40 5 then c else if f = 120 ∧ i = 0 then σ 40 5 + 1 else τ f i := by
      intro f i
      rw [t120]
      simp only [zup]
      by_cases f1 : f = 120
      · subst f1
        by_cases i1 : i = 0 <;> simp [i1]
      · by_cases f2 : f = 121
        · subst f2
          by_cases i1 : i = σ 40 5 <;> simp [i1]
        · by_cases f3 : f = 122
          · subst f3
            by_cases i1 : i = σ 40 5 <;> simp [i1]
          · by_cases f4 : f = 123
            · subst f4
              by_cases i1 : i = σ 40 5 <;> simp [i1]
            · simp [f1, f2, f3, f4]
    generalize zup (zup (zup (zup τ 121 (τ 120 0) a) 122 (τ 120 0) b) 123 (τ 120 0) c) 120 0 (τ 120 0 + 1) = ξ at V
    have x100 : ξ 100 0 = σ 40 1 := by rw [V]; simpa using t100
    refine sm_changed (by omega) (by omega) (fun υ hu => ?_)
    obtain ⟨u1, u2, u3⟩ := hu
    have W : ∀ f, f ≠ 104 → f ≠ 124 → f ≠ 120 → f ≠ 121 → f ≠ 122 → f ≠ 123 → υ f = τ f := fun f h1 h2 h3 h4 h5 h6 => by
      rw [u1 f (by simp; omega)]
      funext i
      rw [V, if_neg (by omega), if_neg (by omega), if_neg (by omega), if_neg (by omega)]
    have w120 : υ 120 0 = σ 40 5 + 1 := by rw [u1 120 (by decide), V]; simp
    have X : ∀ f, f < 100 → υ f = τ f := fun f hf => W f (by omega) (by omega) (by omega) (by omega) (by omega) (by omega)
    refine ⟨by omega, hQ2 υ L _ (BW_cell (P := P) (code := a) (area := b) (delay := c) h (fun f hf => ?_) ?_ p1 p2 p3 p4 ⟨a1, a2⟩ ⟨d1, d2⟩ c8 ?_ ?_ ?_ ?_ ?_ ?_ ?_ ?_ ?_ ?_ ?_ ?_ ?_ ?_ u2) ?_⟩
    · simp only [List.mem_cons, List.not_mem_nil, or_false, not_or] at hf
      rw [W f (by omega) (by omega) (by omega) (by omega) (by omega) (by omega)]
      exact x1 f (by simp [xcellk]; omega)
    · exact x2.sm (fun f hf => X f (by simp only [List.mem_cons, List.not_mem_nil, or_false] at hf; omega))
    · rw [X 72 (by decide)]
      exact x3
    · rw [X 30 (by decide), X 31 (by decide), X 32 (by decide)]
      exact x4
    · rw [X 71 (by decide)]
      exact x5
    · rw [X 40 (by decide)]
      exact x6
    · rw [X 46 (by decide)]
      exact x7
    · rw [X 20 (by decide), X 21 (by decide), X 22 (by decide), X 23 (by decide), X 24 (by decide), X 25 (by decide)]
      exact x8
    · rw [X 20 (by decide), X 21 (by decide), X 22 (by decide), X 23 (by decide), X 24 (by decide), X 25 (by decide)]
      refine ⟨x9.1, x9.2.1, x9.2.2.1, x9.2.2.2.1, x9.2.2.2.2.1, prep_ext (by rw [X 72 (by decide)]; exact Int.le_refl _) (fun i _ _ => by rw [X 30 (by decide), X 31 (by decide), X 32 (by decide)]; exact ⟨rfl, rfl, rfl⟩) _ _ _ x9.2.2.2.2.2⟩
    · rw [w120, c2]
    · intro i
      rw [u1 121 (by decide), V, T 121 (by decide)]
      simp
    · intro i
      rw [u1 122 (by decide), V, T 122 (by decide)]
      simp
    · intro i
      rw [u1 123 (by decide), V, T 123 (by decide)]
      simp
    · intro i i0 i1 hk
      rw [X 7 (by decide)]
      exact x11 i (h.lan i i0 i1 hk).1
    · intro j j0 j1
      rw [u3 j j0 (by omega), V]
      simp [T 103 (by decide)]
    · rw [X 56 (by decide)]
      exact x10
    · rw [X 56 (by decide)]
      exact x10
