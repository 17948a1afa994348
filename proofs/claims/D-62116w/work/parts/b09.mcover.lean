/-! the model's choose, connect and cover -/
theorem lyo_b {K X Y ro C : Int → Int} {D : Int → Prop} {B : Int} (B0 : 0 ≤ B) (hd : ∀ n, D n → dpt K X Y D n) (hC : ∀ n, D n → 2 ≤ K n → ro n = 0 → 0 ≤ C n ∧ C n ≤ B) : ∀ (P : Pat) (n t s v : Int), pok P → D n ∨ (¬ isv P ∧ dpt K X Y D n) → lyo K X Y ro C P n t s = some v → 0 ≤ v ∧ v ≤ ppins P * B
  | .var i, n, t, s, v, _, h, hv => by
    have hn : D n := h.elim id (fun q => absurd trivial q.1)
    simp only [lyo, Option.some.injEq] at hv
    simp only [ppins]
    have : ((1 : Nat) : Int) * B = B := by omega
    rw [this]
    split at hv
    · rename_i hc
      have := hC n hn hc.1 hc.2
      omega
    · omega
  | .num _, n, t, s, v, h, _, _ => h.elim
  | .sub _ _, n, t, s, v, h, _, _ => h.elim
  | .mulL _ _, n, t, s, v, h, _, _ => h.elim
  | .mulR _ _, n, t, s, v, h, _, _ => h.elim
  | .neg p, n, t, s, v, hp, h, hv => by
    have hn : dpt K X Y D n := h.elim (hd n) (fun q => q.2)
    simp only [lyo] at hv
    split at hv
    · rename_i hc
      exact lyo_b B0 hd hC p _ _ _ _ hp (Or.inl (hn.2 hc.1)) hv
    · simp at hv
  | .add p q, n, t, s, v, hp, h, hv => by
    have hn : dpt K X Y D n := h.elim (hd n) (fun q => q.2)
    simp only [lyo] at hv
    split at hv
    · rename_i hc
      obtain ⟨dx, dy⟩ := hn.1 hc.1
      cases h1 : lyo K X Y ro C p (if s / 2 ^ (nn p + nn q) % 2 = 1 then Y n else X n) 0 (s / 2 ^ nn q) with
      | none => rw [h1] at hv; simp at hv
      | some a =>
        cases h2 : lyo K X Y ro C q (if s / 2 ^ (nn p + nn q) % 2 = 1 then X n else Y n) 0 s with
        | none => rw [h1, h2] at hv; simp at hv
        | some b =>
          rw [h1, h2] at hv
          simp only [Option.some.injEq] at hv
          have i1 := lyo_b B0 hd hC p _ _ _ _ hp.1 (Or.inl (by split; exact dy; exact dx)) h1
          have i2 := lyo_b B0 hd hC q _ _ _ _ hp.2 (Or.inl (by split; exact dx; exact dy)) h2
          simp only [ppins]
          rw [show ((ppins p + ppins q : Nat) : Int) = (ppins p : Int) + ppins q by omega, Int.add_mul]
          omega
    · simp at hv
abbrev lkS' : List Nat := [132, 133, 134]
theorem sm_lay {σ τ : zS} {L : Gr} {pt : Int → Pat} {D : Int → Prop} {c swap n : Int} {Q : Int → zS → Prop} (h : BW σ L pt) (hr : mr σ τ L) (hD : ∀ n, D n → 0 ≤ n ∧ n < L.length) (hd : ∀ n, D n → dpt (σ 1) (σ 2) (σ 3) D n) (c0 : 0 ≤ c) (c1 : c < σ 40 5) (sw0 : 0 ≤ swap) (sw1 : swap < 2147483648) (n0 : 0 ≤ n) (n1 : n < L.length) (hn : dpt (σ 1) (σ 2) (σ 3) D n) (kS : ∀ a υ, lyo (σ 1) (σ 2) (σ 3) (ro σ L) (τ 128) (pt c) n 1 swap = some a → zsm [132, 133, 134] τ υ → υ 134 0 = ppins (pt c) → (∀ p : Nat, p < ppins (pt c) → υ 133 p = (lyp (σ 2) (σ 3) (pt c) n swap).getD p 0) → Q (σ 22 c + a) υ) (kF : lyo (σ 1) (σ 2) (σ 3) (ro σ L) (τ 128) (pt c) n 1 swap = none → ∀ υ, zsm [132, 133, 134] τ υ → Q (-1) υ) : wp_MM_lay Q n c swap τ := by
  have hc8 := h.c1
  obtain ⟨p1, p2, p3, p4, p5, p6⟩ := h.cpt c c0 c1
  have ce := h.cel c c0 c1
  have pn := h.pins c0 c1
  have np := nn_pins _ p1
  have t121 : τ 121 c = dval (pdig (pt c)) := by rw [hr.1 121 (by decide) (by decide), ce.2.2.1, p4]
  have s121 : σ 121 c = dval (pdig (pt c)) := by rw [ce.2.2.1, p4]
  have dc := dval_c (pdig_13 _ p1) p3
  refine ⟨c0, by omega, ?_⟩
  rintro _ rfl
  refine sm_nands c0 (by omega) p1 p3 t121 ?_
  rintro _ rfl _ rfl _ rfl _ rfl
  have z121 : zup (zup τ 134 0 0) 132 0 n 121 c = dval (pdig (pt c)) := by rw [zup_ne _ _ _ _ (by decide), zup_ne _ _ _ _ (by decide)]; exact t121
  have z134 : zup (zup τ 134 0 0) 132 0 n 134 0 = 0 := by rw [zup_ne _ _ _ _ (by decide), zup_at]
  have zs : zsm [132, 133, 134] τ (zup (zup τ 134 0 0) 132 0 n) := (zsm_up (by decide)).up (by decide)
  have z0 : zup (zup τ 134 0 0) 132 0 n 132 (1 - 1) = n := zup_at _ _ _ _
  have t122 : τ 122 c = σ 22 c := by rw [hr.1 122 (by decide) (by decide)]; exact ce.2.2.2.1
  rw [z121, t122]
  generalize zup (zup τ 134 0 0) 132 0 n = τ2 at z134 zs z0
  have := sm_layP (σ := σ) (L := L) (c := c) (swap := swap) (Q := Q) (Cm := τ 128) h hD hd c0 (by omega) (by rw [s121]; omega) sw0 sw1 (pt c) 1 [] n 1 (σ 22 c) ((nn (pt c) : Int) - 1) 1 τ2 (hr.sm (fun f h1 h2 => zs f (by simp; omega))) (zs 128 (by decide)) p1 (fun d hd' => by simp at hd') (by simp; omega) n0 n1 (Or.inr ⟨isv_of p1 p2, hn⟩) ⟨fun _ => by rw [List.append_nil, s121], fun _ => by decide⟩ (by rw [List.append_nil, s121]; exact Int.le_refl _) (by decide) (by omega) (by rw [z134]; decide) (by rw [z134]; omega) (by omega) (by omega) z0 (fun a υ ha hla => ?_) (fun ha υ us => ?_)
  · rw [List.append_nil] at this
    exact ⟨_, this⟩
  · have e0 : ((nn (pt c) : Int) - 1 + 1 - nn (pt c)).toNat = 0 := by omega
    rw [e0, Int.pow_zero, Int.ediv_one] at ha hla
    obtain ⟨l1, l2, l3, l4, l5⟩ := hla
    rw [z134] at l3 l5
    refine ⟨by show zc 0; decide, fun _ => kS a υ ha (zs.trans l1) (by omega) (fun p hp => ?_), fun q => absurd rfl q⟩
    have := l5 p hp
    rw [Int.zero_add] at this
    exact this
  · have e0 : ((nn (pt c) : Int) - 1 + 1 - nn (pt c)).toNat = 0 := by omega
    rw [e0, Int.pow_zero, Int.ediv_one] at ha
    exact kF ha υ (zs.trans us)
noncomputable abbrev xsS (σ : zS) (L : Gr) (C : Int → Int) : Pat → Int → Int := xs (σ 1) (σ 2) (σ 3) (ro σ L) C
theorem sm_choose {σ τ : zS} {L : Gr} {pt : Int → Pat} {C cl : Int → Int} {Q : zS → Prop} {n : Int} (h : BW σ L pt) (hu : ¬ und σ L) (hr : mr σ τ L) (hch : chA σ L pt C cl) (n0 : 0 ≤ n) (n1 : n < L.length) (hn : LV σ L n) (hk : 2 ≤ σ 1 n) (hC : ∀ i : Int, LV σ L i → 0 ≤ i → i < n → 2 ≤ σ 1 i → τ 128 i = C i) (hQ : ∀ υ, zsm [128, 129, 130, 132, 133, 134] τ υ → (∀ i : Int, i ≠ n → υ 128 i = τ 128 i ∧ υ 129 i = τ 129 i ∧ υ 130 i = τ 130 i) → υ 128 n = C n → υ 129 n = cl n → υ 130 n = xsS σ L C (pt (cl n)) n → Q υ) : wp_MM_choose Q n τ := by
  have hl := h.len
  have c0 := h.c0
  have c1 := h.c1
  have c2 := h.c2
  obtain ⟨g1, g2, g3, g4, g5, g6, g7⟩ := hch n hn hk
  have LD := lvD h hu n
  have LC := lvC h hu hch n
  have LCb : ∀ i, (LV σ L i ∧ 0 ≤ i ∧ i < n) → 2 ≤ σ 1 i → ro σ L i = 0 → 0 ≤ C i ∧ C i ≤ 48000 := fun i hi k _ => by
    obtain ⟨a1, a2, -⟩ := hch i hi.1 k
    have := LV_b h hu hi.1
    omega
  have dn := lv_dpt h n0 n1 hn (Int.le_refl n)
  obtain ⟨p1', p2', p3', -⟩ := h.cpt _ g3 g4
  have hnv : ∀ c : Int, 0 ≤ c → c < σ 40 5 → (LV σ L n ∧ 0 ≤ n ∧ n < n) ∨ (¬ isv (pt c) ∧ dpt (σ 1) (σ 2) (σ 3) (fun i => LV σ L i ∧ 0 ≤ i ∧ i < n) n) := fun c q0 q1 => by
    obtain ⟨p1, p2, -⟩ := h.cpt c q0 q1
    exact Or.inr ⟨isv_of p1 p2, dn⟩
  have hxl := (ch_xl h hu hch hn hk).2.2
  -- the four facts
  have F1 : ∀ c s v : Int, 0 ≤ c → c < σ 40 5 → lyo (σ 1) (σ 2) (σ 3) (ro σ L) C (pt c) n 1 s = some v → C n ≤ σ 22 c + v := fun c s v q0 q1 hv => by
    have a1 := g6 c q0 q1
    have a2 : xlS σ L C (pt c) n 1 ≤ v := lyo_le _ _ _ _ _ hv
    omega
  have F2 : ∀ c s v : Int, 0 ≤ c → c < cl n → lyo (σ 1) (σ 2) (σ 3) (ro σ L) C (pt c) n 1 s = some v → C n < σ 22 c + v := fun c s v q0 q1 hv => by
    have a1 := g7 c q0 q1
    have a2 : xlS σ L C (pt c) n 1 ≤ v := lyo_le _ _ _ _ _ hv
    omega
  have F3 : ∀ s v : Int, 0 ≤ s → s < xsS σ L C (pt (cl n)) n → lyo (σ 1) (σ 2) (σ 3) (ro σ L) C (pt (cl n)) n 1 s = some v → C n < σ 22 (cl n) + v := fun s v s0 s1 hv => by
    have : xlS σ L C (pt (cl n)) n 1 < v := lyo_lt LD.2 LC (pt (cl n)) n 1 (hnv _ g3 g4) hxl s v s0 s1 hv
    omega
  have F4 : lyo (σ 1) (σ 2) (σ 3) (ro σ L) C (pt (cl n)) n 1 (xsS σ L C (pt (cl n)) n) = some (xlS σ L C (pt (cl n)) n 1) := lyo_xs LD.2 LC (pt (cl n)) n 1 (hnv _ g3 g4) hxl
  have sb := xs_b (K := σ 1) (X := σ 2) (Y := σ 3) (ro := ro σ L) (C := C) (pt (cl n)) n
  refine ⟨n0, by omega, ?_⟩
  rintro _ rfl
  -- the invariant: c and s are next
  refine lp_for (lp := fun m v a => lp_MM_choose_10 Q m n v a) (fun c υ => 0 ≤ c ∧ zsm [128, 129, 130, 132, 133, 134] τ υ ∧ (∀ i : Int, i ≠ n → υ 128 i = τ 128 i ∧ υ 129 i = τ 129 i ∧ υ 130 i = τ 130 i) ∧ (υ 128 n ≤ 1000000 ∧ 0 ≤ υ 128 n) ∧ (c ≤ cl n → C n < υ 128 n) ∧ (cl n < c → υ 128 n = C n ∧ υ 129 n = cl n ∧ υ 130 n = xsS σ L C (pt (cl n)) n)) (σ 40 5) (fun m c υ hv hI nx => ?_) 0 _ c0 ⟨by omega, zsm_up (by decide), fun i hi => ⟨zup_ni _ _ _ hi, zup_ne _ _ _ _ (by decide), zup_ne _ _ _ _ (by decide)⟩, by rw [zup_at]; omega, fun _ => by rw [zup_at]; omega, fun q => absurd q (by omega)⟩
  obtain ⟨v0, us, ui, ub, u1, u2⟩ := hI
  have U : ∀ f, 100 ≤ f → f < 127 → υ f = τ f := fun f h1 h2 => us f (by simp; omega)
  unfold lp_MM_choose_10
  rw [U 120 (by decide) (by decide), hr.1 120 (by decide) (by decide)]
  refine ⟨by omega, by omega, fun q => ?_, fun q => ?_⟩
  · obtain ⟨b1, b2, b3⟩ := u2 (by omega)
    exact hQ υ us ui b1 b2 b3
  · obtain ⟨p1, p2, p3, p4, p5, p6⟩ := h.cpt c v0 (by omega)
    have ce := h.cel c v0 (by omega)
    have pn := h.pins v0 (show c < σ 40 5 by omega)
    have np := nn_pins _ p1
    refine sm_nands v0 (by omega) p1 p3 (by rw [U 121 (by decide) (by decide), hr.1 121 (by decide) (by decide), ce.2.2.1, p4]) ?_
    rintro _ rfl
    rw [z_shl1 (nn (pt c)) (by omega)]
    have pow8 : (2 : Int) ^ nn (pt c) ≤ 8 := by
      have := Nat.pow_le_pow_right (n := 2) (by decide) (show nn (pt c) ≤ 3 by omega)
      exact_mod_cast this
    have powp : (0 : Int) < 2 ^ nn (pt c) := Int.pow_pos (by decide)
    refine lp_for (lp := fun m s a => lp_MM_choose_29 Q _ m n c (2 ^ nn (pt c)) s a) (fun s ω => 0 ≤ s ∧ zsm [128, 129, 130, 132, 133, 134] τ ω ∧ (∀ i : Int, i ≠ n → ω 128 i = τ 128 i ∧ ω 129 i = τ 129 i ∧ ω 130 i = τ 130 i) ∧ (ω 128 n ≤ 1000000 ∧ 0 ≤ ω 128 n) ∧ ((c < cl n ∨ (c = cl n ∧ s ≤ xsS σ L C (pt (cl n)) n)) → C n < ω 128 n) ∧ ((cl n < c ∨ (c = cl n ∧ xsS σ L C (pt (cl n)) n < s)) → ω 128 n = C n ∧ ω 129 n = cl n ∧ ω 130 n = xsS σ L C (pt (cl n)) n)) (2 ^ nn (pt c)) (fun m s ω hs hJ nx2 => ?_) 0 υ (by omega) ⟨by omega, us, ui, ub, fun q2 => u1 (by omega), fun q2 => u2 (by
      rcases q2 with q2 | q2
      · exact q2
      · exact absurd q2.2 (by have := sb.1; show ¬ xs (σ 1) (σ 2) (σ 3) (ro σ L) C (pt (cl n)) n < 0; omega))⟩
    obtain ⟨s0, ws, wi, wb, w1, w2⟩ := hJ
    have W : ∀ f, 100 ≤ f → f < 127 → ω f = τ f := fun f h1 h2 => ws f (by simp; omega)
    unfold lp_MM_choose_29
    refine ⟨by omega, by omega, fun q2 => nx (by omega) ω ⟨by omega, ws, wi, wb, fun q3 => w1 (by omega), fun q3 => w2 ?_⟩, fun q2 => ?_⟩
    · by_cases e : c = cl n
      · refine Or.inr ⟨e, ?_⟩
        have := sb.2
        rw [← e] at this ⊢
        show xs (σ 1) (σ 2) (σ 3) (ro σ L) C (pt c) n < s
        omega
      · exact Or.inl (by omega)
    · have hCw : ∀ i, (LV σ L i ∧ 0 ≤ i ∧ i < n) → 2 ≤ σ 1 i → ro σ L i = 0 → ω 128 i = C i := fun i hi k _ => by rw [(wi i (by omega)).1]; exact hC i hi.1 hi.2.1 hi.2.2 k
      have cg : lyo (σ 1) (σ 2) (σ 3) (ro σ L) (ω 128) (pt c) n 1 s = lyo (σ 1) (σ 2) (σ 3) (ro σ L) C (pt c) n 1 s := lyo_congr LD.2 hCw (pt c) n 1 s (hnv c v0 (by omega))
      refine sm_lay (D := fun i => LV σ L i ∧ 0 ≤ i ∧ i < n) h (hr.sm W) LD.1 LD.2 v0 (by omega) s0 (by omega) n0 n1 dn (fun a ξ ha xs' _ _ => ?_) (fun ha ξ xs' => ?_)
      · rw [cg] at ha
        have vb := lyo_b (by decide) LD.2 LCb (pt c) n 1 s a p1 (hnv c v0 (by omega)) ha
        have vb4 : (ppins (pt c) : Int) * 48000 ≤ 4 * 48000 := Int.mul_le_mul_of_nonneg_right (by omega) (by decide)
        have x128 : ξ 128 = ω 128 := xs' 128 (by decide)
        have zs' : zsm [128, 129, 130, 132, 133, 134] τ ξ := ws.trans (xs'.mono (by decide))
        have xi : ∀ i : Int, i ≠ n → ξ 128 i = τ 128 i ∧ ξ 129 i = τ 129 i ∧ ξ 130 i = τ 130 i := fun i hi => by rw [xs' 128 (by decide), xs' 129 (by decide), xs' 130 (by decide)]; exact wi i hi
        have f1 := F1 c s a v0 (by omega) ha
        refine ⟨by omega, fun q3 => absurd q3 (by omega), fun _ => ⟨n0, by omega, by rw [x128]; omega, fun q3 => ?_, fun q3 => ?_⟩⟩
        · refine nx2 (by omega) ξ ⟨by omega, zs', xi, by rw [x128]; exact wb, fun q4 => ?_, fun q4 => ?_⟩
          · rw [x128]
            exact w1 (by omega)
          · rw [x128, xs' 129 (by decide), xs' 130 (by decide)]
            refine w2 ?_
            rcases q4 with q4 | q4
            · exact Or.inl q4
            · by_cases e : s = xsS σ L C (pt (cl n)) n
              · exfalso
                have hw := w1 (Or.inr ⟨q4.1, by omega⟩)
                rw [e, q4.1, F4] at ha
                simp only [Option.some.injEq] at ha
                rw [x128] at q3
                rw [q4.1] at q3
                omega
              · exact Or.inr ⟨q4.1, by omega⟩
        · rw [x128] at q3
          rintro _ rfl _ rfl _ rfl
          have y128 : ∀ i : Int, zup (zup (zup ξ 128 n (σ 22 c + a)) 129 n c) 130 n s 128 i = if i = n then σ 22 c + a else ω 128 i := fun i => by rw [zup_ne _ _ _ _ (by decide), zup_ne _ _ _ _ (by decide), zup_or, x128]
          have y129 : ∀ i : Int, zup (zup (zup ξ 128 n (σ 22 c + a)) 129 n c) 130 n s 129 i = if i = n then c else ω 129 i := fun i => by rw [zup_ne _ _ _ _ (by decide), zup_or, zup_ne _ _ _ _ (by decide), xs' 129 (by decide)]
          have y130 : ∀ i : Int, zup (zup (zup ξ 128 n (σ 22 c + a)) 129 n c) 130 n s 130 i = if i = n then s else ω 130 i := fun i => by rw [zup_or, zup_ne _ _ _ _ (by decide), zup_ne _ _ _ _ (by decide), xs' 130 (by decide)]
          refine nx2 (by omega) _ ⟨by omega, ((zs'.up (by decide)).up (by decide)).up (by decide), fun i hi => by rw [y128, y129, y130, if_neg hi, if_neg hi, if_neg hi]; exact wi i hi, by rw [y128, if_pos rfl]; omega, fun q4 => ?_, fun q4 => ?_⟩
          · rw [y128, if_pos rfl]
            rcases q4 with q4 | q4
            · exact F2 c s a v0 q4 ha
            · rw [q4.1] at ha ⊢
              exact F3 s a s0 (by omega) ha
          · rw [y128, y129, y130, if_pos rfl, if_pos rfl, if_pos rfl]
            rcases q4 with q4 | q4
            · exfalso
              have := (w2 (Or.inl q4)).1
              omega
            · by_cases e : s = xsS σ L C (pt (cl n)) n
              · rw [e, q4.1, F4] at ha
                simp only [Option.some.injEq] at ha
                rw [q4.1]
                exact ⟨by omega, rfl, e⟩
              · exfalso
                have := (w2 (Or.inr ⟨q4.1, by omega⟩)).1
                omega
      · rw [cg] at ha
        have x128 : ξ 128 = ω 128 := xs' 128 (by decide)
        have zs' : zsm [128, 129, 130, 132, 133, 134] τ ξ := ws.trans (xs'.mono (by decide))
        refine ⟨by decide, fun _ => nx2 (by omega) ξ ⟨by omega, zs', fun i hi => by rw [xs' 128 (by decide), xs' 129 (by decide), xs' 130 (by decide)]; exact wi i hi, by rw [x128]; exact wb, fun q4 => by rw [x128]; exact w1 (by omega), fun q4 => ?_⟩, fun q3 => absurd q3 (by decide)⟩
        rw [x128, xs' 129 (by decide), xs' 130 (by decide)]
        refine w2 ?_
        rcases q4 with q4 | q4
        · exact Or.inl q4
        · by_cases e : s = xsS σ L C (pt (cl n)) n
          · exfalso
            rw [e, q4.1, F4] at ha
            cases ha
          · exact Or.inr ⟨q4.1, by omega⟩
theorem sm_connect {σ τ : zS} {L : Gr} {pt : Int → Pat} {Q : zS → Prop} {k e : Int} (h : BW σ L pt) (hu : ¬ und σ L) (ht : ∀ f, 100 ≤ f → f < 124 → τ f = σ f) (k0 : 0 ≤ k) (k1 : k < 196) (e0 : 0 ≤ e) (e1 : e < L.length) (hQ : ∀ υ, zsm [135, 136, 137] τ υ → (∀ i : Int, i ≠ k → υ 135 i = τ 135 i ∧ υ 136 i = τ 136 i ∧ υ 137 i = τ 137 i) → υ 135 k = tno σ 7 e → υ 136 k = twe σ 7 e → υ 137 k = tbi σ 7 0 e → Q υ) : wp_MM_connect Q k e τ := by
  have hl := h.len
  have n1' := h.n1
  generalize hR1 : tno σ 7 e = R1 at hQ
  generalize hR2 : twe σ 7 e = R2 at hQ
  generalize hR3 : tbi σ 7 0 e = R3 at hQ
  have loop : ∀ (j : Nat) (n w a : Int), j + w = 7 → 0 ≤ w → 0 ≤ n → n < L.length → 0 ≤ a → a < 2 ^ w.toNat → tno σ j n = R1 → w + twe σ j n = R2 → tbi σ j a n = R3 → lp_MM_connect_11 Q (j + 1) k n w a w τ := by
    intro j
    induction j with
    | zero =>
      intro n w a hj w0 n0 n1 a0 a1 r1 r2 r3
      refine ⟨by omega, fun _ => ⟨k0, k1, ?_⟩, fun q => absurd q (by omega)⟩
      rintro _ rfl _ rfl _ rfl
      simp only [tno, twe, tbi] at r1 r2 r3
      refine hQ _ (((zsm_up (by decide)).up (by decide)).up (by decide)) (fun i hi => ?_) ?_ ?_ ?_
      · simp [zup, hi]
      · simp [zup, r1]
      · simp [zup]; omega
      · simp [zup, r3]
    | succ j ih =>
      intro n w a hj w0 n0 n1 a0 a1 r1 r2 r3
      have nd := h.nd n0 n1
      unfold lp_MM_connect_11
      rw [ht 114 (by decide) (by decide), ht 117 (by decide) (by decide), ht 103 (by decide) (by decide), ht 105 (by decide) (by decide), ht 102 (by decide) (by decide), nd.1]
      refine ⟨by omega, fun q => absurd q (by omega), fun _ => ⟨n0, by omega, by omega, fun q => ?_, fun q => ⟨k0, k1, ?_⟩⟩⟩
      · have hln := h.lnet n n0 n1 (by omega)
        have hla := h.lan n n0 n1 q
        have hd := drv_b h hu n0 n1 q
        have hp : (2 : Int) ^ w.toNat ≤ 2 ^ 7 := by
          have := Nat.pow_le_pow_right (n := 2) (by decide) (show w.toNat ≤ 7 by omega)
          exact_mod_cast this
        have h7 : (2 : Int) ^ 7 = 128 := by decide
        have h61 : (2 : Int) ^ 61 = 2305843009213693952 := by decide
        have hdr : 0 ≤ σ 105 (σ 117 n) ∧ σ 105 (σ 117 n) < σ 40 1 ∧ σ 5 n = σ 42 (σ 105 (σ 117 n)) := by
          rcases hla.2.2.2.2.2.2 with ⟨b1, b2⟩ | b
          · omega
          · exact b
        intro y16 hy16
        rw [hy16]
        refine ⟨hln.1, by omega, by rw [hla.2.2.1]; have := hla.2.2.2.1; omega, ?_⟩
        rw [hla.2.2.1, z_lin a0 (by omega) hla.2.2.2.1]
        intro y20 hy20
        rw [hy20]
        refine ⟨hdr.1, by omega, ?_⟩
        intro y25 hy25
        rw [hy25, (h.net _ hdr.1 hdr.2.1).2.2.1, ← hdr.2.2]
        refine ih _ _ _ (by omega) (by omega) hd.1 hd.2 (by have := hla.2.2.2.1; omega) ?_ ?_ ?_ ?_
        · rw [show (w + 1).toNat = w.toNat + 1 by omega, Int.pow_succ]
          have := hla.2.2.2.1
          omega
        · rw [← r1]
          simp only [tno]
          rw [if_pos q]
        · rw [← r2]
          simp only [twe]
          rw [if_pos q]
          omega
        · rw [← r3]
          simp only [tbi]
          rw [if_pos q]
      · rintro _ rfl _ rfl _ rfl
        simp only [tno, twe, tbi] at r1 r2 r3
        rw [if_neg q] at r1 r2 r3
        refine hQ _ (((zsm_up (by decide)).up (by decide)).up (by decide)) (fun i hi => ?_) ?_ ?_ ?_
        · simp [zup, hi]
        · simp [zup, r1]
        · simp [zup]; omega
        · simp [zup, r3]
  exact ⟨8, loop 7 e 0 0 (by decide) (by decide) e0 e1 (by decide) (by decide) hR1 (by omega) hR3⟩
