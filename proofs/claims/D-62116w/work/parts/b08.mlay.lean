/-! the model's lay -/
def mr (σ τ : zS) (L : Gr) : Prop := (∀ f, 100 ≤ f → f < 124 → τ f = σ f) ∧ ∀ i : Int, 0 ≤ i → i < L.length → τ 125 i = ind (LV σ L i) ∧ τ 126 i = ro σ L i
theorem mr.sm {σ τ υ : zS} {L : Gr} (h : mr σ τ L) (hs : ∀ f, 100 ≤ f → f < 127 → υ f = τ f) : mr σ υ L := ⟨fun f h1 h2 => (hs f h1 (by omega)).trans (h.1 f h1 h2), fun i i0 i1 => by rw [hs 125 (by decide) (by decide), hs 126 (by decide) (by decide)]; exact h.2 i i0 i1⟩
theorem nn_pins : ∀ (P : Pat), pok P → nn P + 1 = ppins P
  | .var _, _ => rfl
  | .neg p, h => nn_pins p h
  | .add p q, h => by
    have h1 := nn_pins p h.1
    have h2 := nn_pins q h.2
    simp only [nn, ppins]
    omega
  | .num _, h => h.elim
  | .sub _ _, h => h.elim
  | .mulL _ _, h => h.elim
  | .mulR _ _, h => h.elim
def d3 : List Int → Int
  | [] => 0
  | d :: l => (if d = 3 then 1 else 0) + d3 l
theorem d3_app : ∀ (l m : List Int), d3 (l ++ m) = d3 l + d3 m
  | [], m => by simp [d3]
  | d :: l, m => by
    simp only [List.cons_append, d3, d3_app l m]
    omega
theorem d3_nn : ∀ (P : Pat), pok P → d3 (pdig P) = nn P
  | .var _, _ => by simp [pdig, d3, nn]
  | .neg p, h => by simp [pdig, d3, nn, d3_nn p h]
  | .add p q, h => by
    simp [pdig, d3, nn, d3_app, d3_nn p h.1, d3_nn q h.2]
    omega
  | .num _, h => h.elim
  | .sub _ _, h => h.elim
  | .mulL _ _, h => h.elim
  | .mulR _ _, h => h.elim
theorem sm_nands {σ : zS} {Q : Int → zS → Prop} {c : Int} {P : Pat} (c0 : 0 ≤ c) (c1 : c < 8) (hp : pok P) (hl : (pdig P).length ≤ 7) (hv : σ 121 c = dval (pdig P)) (h : Q (nn P) σ) : wp_MM_nands Q c σ := by
  refine ⟨c0, c1, ?_⟩
  rintro _ rfl
  rw [hv, ← d3_nn P hp] at *
  have h13 := pdig_13 P hp
  generalize pdig P = l at *
  refine ⟨l.length + 1, ?_⟩
  have loop : ∀ (l : List Int) (r : Int), (∀ d ∈ l, 1 ≤ d ∧ d ≤ 3) → l.length ≤ 7 → Q (r + d3 l) σ → lp_MM_nands_9 Q (l.length + 1) r (dval l) σ := by
    intro l
    induction l with
    | nil =>
      intro r _ _ hq
      exact ⟨by show zc 0; decide, fun _ => by simpa [d3] using hq, fun q => absurd rfl q⟩
    | cons d l ih =>
      intro r h13 hl hq
      have hc := dval_c h13 hl
      have hd := h13 d (List.mem_cons_self ..)
      have h13' : ∀ d ∈ l, 1 ≤ d ∧ d ≤ 3 := fun x hx => h13 x (List.mem_cons_of_mem _ hx)
      have hl' : l.length ≤ 7 := by simp only [List.length_cons] at hl; omega
      have hg := (dval_ge l h13').1
      have hz : zc (dval (d :: l)) := by omega
      have ev : dval (d :: l) = d + 4 * dval l := rfl
      have em : zand (dval (d :: l)) 3 = d := by rw [z_m3 hz]; omega
      have es : zshr (dval (d :: l)) 2 = dval l := by
        rw [show zshr (dval (d :: l)) 2 = dval (d :: l) / 4 from b_shr (k := 2) hz (by decide)]
        omega
      unfold lp_MM_nands_9
      refine ⟨hz, fun q => absurd q (by omega), fun _ => ?_⟩
      rw [em]
      refine ⟨fun q => ?_, fun q => ?_⟩
      · rintro _ rfl
        rw [es]
        refine ih _ h13' hl' ?_
        simp only [d3, if_pos q] at hq
        rw [Int.add_assoc]
        exact hq
      · rintro _ rfl
        rw [es]
        refine ih _ h13' hl' ?_
        simp only [d3, if_neg q, Int.zero_add] at hq
        exact hq
  exact loop l 0 h13 hl (by rw [Int.zero_add]; exact h)
/-- what a laying leaves behind -/
def laid (X Y : Int → Int) (τ υ : zS) (P : Pat) (n s v6 : Int) : Prop := zsm [132, 133, 134] τ υ ∧ (∀ i : Int, i < v6 - 1 → υ 132 i = τ 132 i) ∧ υ 134 0 = τ 134 0 + ppins P ∧ (∀ i : Int, i < τ 134 0 → υ 133 i = τ 133 i) ∧ ∀ p : Nat, p < ppins P → υ 133 (τ 134 0 + p) = (lyp X Y P n s).getD p 0
theorem lyp_len (X Y : Int → Int) : ∀ (P : Pat) (n s : Int), pok P → (lyp X Y P n s).length = ppins P
  | .var i, n, s, _ => rfl
  | .num _, n, s, h => h.elim
  | .sub _ _, n, s, h => h.elim
  | .mulL _ _, n, s, h => h.elim
  | .mulR _ _, n, s, h => h.elim
  | .neg p, n, s, h => by
    simp only [lyp, ppins]
    exact lyp_len X Y p _ s h
  | .add p q, n, s, h => by
    simp only [lyp, ppins]
    rw [List.length_append, lyp_len X Y p _ _ h.1, lyp_len X Y q _ _ h.2]
theorem sm_layP {σ : zS} {L : Gr} {pt : Int → Pat} {D : Int → Prop} {c swap : Int} {Q : Int → zS → Prop} {Cm : Int → Int} (h : BW σ L pt) (hD : ∀ n, D n → 0 ≤ n ∧ n < L.length) (hd : ∀ n, D n → dpt (σ 1) (σ 2) (σ 3) D n) (c0 : 0 ≤ c) (c1 : c < 8) (hz : zc (σ 121 c)) (sw0 : 0 ≤ swap) (sw1 : swap < 2147483648) : ∀ (P : Pat) (m : Nat) (ds : List Int) (n t v4 v5 v6 : Int) (τ : zS), mr σ τ L → τ 128 = Cm → pok P → (∀ d ∈ ds, 1 ≤ d ∧ d ≤ 3) → (pdig P).length + ds.length ≤ 7 → 0 ≤ n → n < L.length → D n ∨ (¬ isv P ∧ dpt (σ 1) (σ 2) (σ 3) D n) → (t ≠ 0 ↔ dval (pdig P ++ ds) = σ 121 c) → dval (pdig P ++ ds) ≤ σ 121 c → 1 ≤ v6 → v6 + nn P ≤ 8 → 0 ≤ τ 134 0 → τ 134 0 + ppins P ≤ 4 → (nn P : Int) ≤ v5 + 1 → v5 < 30 → τ 132 (v6 - 1) = n → (∀ a υ, lyo (σ 1) (σ 2) (σ 3) (ro σ L) Cm P n t (swap / 2 ^ (v5 + 1 - nn P).toNat) = some a → laid (σ 2) (σ 3) τ υ P n (swap / 2 ^ (v5 + 1 - nn P).toNat) v6 → lp_MM_lay_40 Q m c swap (v4 + a) (v5 - nn P) (v6 - 1) (dval ds) υ) → (lyo (σ 1) (σ 2) (σ 3) (ro σ L) Cm P n t (swap / 2 ^ (v5 + 1 - nn P).toNat) = none → ∀ υ, zsm [132, 133, 134] τ υ → Q (-1) υ) → lp_MM_lay_40 Q (m + (pdig P).length) c swap v4 v5 v6 (dval (pdig P ++ ds)) τ
  | .num _, _, _, _, _, _, _, _, _, _, _, hp, _, _, _, _, _, _, _, _, _, _, _, _, _, _, _, _ => hp.elim
  | .sub _ _, _, _, _, _, _, _, _, _, _, _, hp, _, _, _, _, _, _, _, _, _, _, _, _, _, _, _, _ => hp.elim
  | .mulL _ _, _, _, _, _, _, _, _, _, _, _, hp, _, _, _, _, _, _, _, _, _, _, _, _, _, _, _, _ => hp.elim
  | .mulR _ _, _, _, _, _, _, _, _, _, _, _, hp, _, _, _, _, _, _, _, _, _, _, _, _, _, _, _, _ => hp.elim
  | .var i, m, ds, n, t, v4, v5, v6, τ, hr, hCm, hp, hds, hlen, n0, n1, hn, ht, hle, v60, v68, p0, p4, hv5, hv30, h132, kS, kF => by
    have hl := h.len
    have nd := h.nd n0 n1
    have dge := (dval_ge ds hds).1
    have dlt := dval_c hds (by omega)
    have ev : dval (pdig (.var i : Pat) ++ ds) = 1 + 4 * dval ds := rfl
    rw [ev] at hle ⊢
    have hzc : zc (1 + 4 * dval ds) := by omega
    have em : zand (1 + 4 * dval ds) 3 = 1 := by rw [z_m3 hzc]; omega
    have es : zshr (1 + 4 * dval ds) 2 = dval ds := by
      rw [show zshr (1 + 4 * dval ds) 2 = (1 + 4 * dval ds) / 4 from b_shr (k := 2) hzc (by decide)]
      omega
    simp only [ppins] at p4
    show lp_MM_lay_40 Q (m + 1) c swap v4 v5 v6 _ τ
    unfold lp_MM_lay_40
    refine ⟨hzc, fun q => absurd q (by omega), fun _ => ⟨by omega, by simp only [nn] at v68; omega, ?_⟩⟩
    rw [show v6 + -1 = v6 - 1 by omega, h132]
    intro y hy
    rw [hy, em]
    refine ⟨fun _ => ⟨p0, by omega, ?_⟩, fun q => absurd rfl q⟩
    rintro _ rfl
    rw [zup_ne τ _ _ 0 (by decide)]
    rintro _ rfl
    have hs : zsm [132, 133, 134] τ (zup (zup τ 133 (τ 134 0) n) 134 0 (τ 134 0 + 1)) := (zsm_up (by decide)).up (by decide)
    have la : laid (σ 2) (σ 3) τ (zup (zup τ 133 (τ 134 0) n) 134 0 (τ 134 0 + 1)) (.var i) n (swap / 2 ^ (v5 + 1 - nn (.var i : Pat)).toNat) v6 := by
      refine ⟨hs, fun j hj => by rw [zup_ne _ _ _ _ (by decide), zup_ne _ _ _ _ (by decide)], by rw [zup_at]; rfl, fun j hj => by rw [zup_ne _ _ _ _ (by decide), zup_ni _ _ _ (by omega)], fun p hp2 => ?_⟩
      simp only [ppins] at hp2
      have : p = 0 := by omega
      subst this
      rw [zup_ne _ _ _ _ (by decide)]
      show zup τ 133 (τ 134 0) n 133 (τ 134 0 + ((0 : Nat) : Int)) = _
      rw [show τ 134 0 + ((0 : Nat) : Int) = τ 134 0 by omega, zup_at]
      rfl
    have go : ∀ z, z = v4 + (if 2 ≤ σ 1 n ∧ ro σ L n = 0 then Cm n else 0) → bk_MM_lay_285 Q (lp_MM_lay_40 Q m) c swap z v5 (v6 - 1) (1 + 4 * dval ds) (zup (zup τ 133 (τ 134 0) n) 134 0 (τ 134 0 + 1)) := by
      rintro z rfl
      rintro _ rfl
      rw [es]
      have := kS _ _ rfl la
      simp only [nn] at this
      have e5 : v5 - ((0 : Nat) : Int) = v5 := by omega
      rw [e5] at this
      exact this
    have k126 : zup (zup τ 133 (τ 134 0) n) 134 0 (τ 134 0 + 1) 126 n = ro σ L n := by rw [zup_ne _ _ _ _ (by decide), zup_ne _ _ _ _ (by decide)]; exact (hr.2 n n0 n1).2
    have k128 : zup (zup τ 133 (τ 134 0) n) 134 0 (τ 134 0 + 1) 128 n = Cm n := by rw [zup_ne _ _ _ _ (by decide), zup_ne _ _ _ _ (by decide), hCm]
    have r01 := ro_01 σ L n
    refine sm_logic n0 (by omega) (k := σ 1 n) (by rw [zup_ne _ _ _ _ (by decide), zup_ne _ _ _ _ (by decide), hr.1 114 (by decide) (by decide)]; exact nd.1) (by omega) (by omega) (fun q => ⟨by decide, fun _ => go _ ?_, fun q2 => absurd rfl q2⟩) (fun q => ⟨by decide, fun q2 => absurd q2 (by decide), fun _ => ⟨n0, by omega, ?_⟩⟩)
    · rw [if_neg (by omega), Int.add_zero]
    · rw [k126, k128]
      refine ⟨by omega, fun q2 => go _ ?_, fun q2 => go _ ?_⟩
      · rw [if_pos ⟨q, q2⟩]
      · rw [if_neg (fun q3 => q2 q3.2), Int.add_zero]
  | .neg p, m, ds, n, t, v4, v5, v6, τ, hr, hCm, hp, hds, hlen, n0, n1, hn, ht, hle, v60, v68, p0, p4, hv5, hv30, h132, kS, kF => by
    have hl := h.len
    have nd := h.nd n0 n1
    have hn' : dpt (σ 1) (σ 2) (σ 3) D n := hn.elim (hd n) (fun q => q.2)
    have hl13 : ∀ d ∈ pdig p ++ ds, 1 ≤ d ∧ d ≤ 3 := fun d hd' => (List.mem_append.mp hd').elim (pdig_13 p hp d) (hds d)
    have hlen' : (pdig p).length + 1 + ds.length ≤ 7 := by simpa [pdig] using hlen
    have dge := (dval_ge _ hl13).1
    have dlt := dval_c hl13 (by rw [List.length_append]; omega)
    have ev : dval (pdig (.neg p : Pat) ++ ds) = 2 + 4 * dval (pdig p ++ ds) := rfl
    rw [ev] at ht hle ⊢
    have hzc : zc (2 + 4 * dval (pdig p ++ ds)) := by omega
    have em : zand (2 + 4 * dval (pdig p ++ ds)) 3 = 2 := by rw [z_m3 hzc]; omega
    have es : zshr (2 + 4 * dval (pdig p ++ ds)) 2 = dval (pdig p ++ ds) := by
      rw [show zshr (2 + 4 * dval (pdig p ++ ds)) 2 = (2 + 4 * dval (pdig p ++ ds)) / 4 from b_shr (k := 2) hzc (by decide)]
      omega
    simp only [nn] at v68 hv5 kS kF
    simp only [ppins] at p4
    have r01 := ro_01 σ L n
    have k126 : τ 126 n = ro σ L n := (hr.2 n n0 n1).2
    have no : ¬ (σ 1 n = 3 ∧ (t ≠ 0 ∨ ro σ L n = 0)) → Q (-1) τ := fun q => kF (by simp only [lyo]; rw [if_neg q]) τ zsm.rf
    have yes : σ 1 n = 3 → (t ≠ 0 ∨ ro σ L n = 0) → bk_MM_lay_171 Q (lp_MM_lay_40 Q (m + (pdig p).length)) c swap v4 v5 (v6 - 1) (2 + 4 * dval (pdig p ++ ds)) n τ := fun q1 q2 => by
      unfold bk_MM_lay_171
      rw [em, hr.1 115 (by decide) (by decide), nd.2.1]
      refine ⟨fun _ => ⟨n0, by omega, by omega, by omega, ?_⟩, fun q => absurd rfl q⟩
      rintro _ rfl
      rintro _ rfl
      rw [es, show v6 - 1 + 1 = v6 by omega]
      have dx := hn'.2 q1
      have z134 : zup τ 132 (v6 - 1) (σ 2 n) 134 0 = τ 134 0 := zup_ne _ _ _ _ (by decide)
      refine sm_layP (Cm := Cm) h hD hd c0 c1 hz sw0 sw1 p m ds (σ 2 n) 0 v4 v5 v6 _ (hr.sm (fun f h1 h2 => zup_f _ _ _ (by omega))) (by rw [zup_f _ _ _ (by decide)]; exact hCm) hp hds (by omega) (hD _ dx).1 (hD _ dx).2 (Or.inl dx) ⟨fun q => absurd rfl q, fun q => by omega⟩ (by omega) v60 v68 (by rw [z134]; exact p0) (by rw [z134]; exact p4) hv5 hv30 (zup_at _ _ _ _) (fun a υ ha hla => ?_) (fun ha υ us => ?_)
      · refine kS a υ (by simp only [lyo]; rw [if_pos ⟨q1, q2⟩]; exact ha) ?_
        obtain ⟨l1, l2, l3, l4, l5⟩ := hla
        rw [z134] at l3 l4 l5
        refine ⟨(zsm_up (by decide)).trans l1, fun i hi => by rw [l2 i hi, zup_ni _ _ _ (by omega)], l3, fun i hi => by rw [l4 i hi, zup_ne _ _ _ _ (by decide)], l5⟩
      · exact kF (by simp only [lyo]; rw [if_pos ⟨q1, q2⟩]; exact ha) υ ((zsm_up (by decide)).trans us)
    have hlp : (pdig (.neg p : Pat)).length = (pdig p).length + 1 := by simp [pdig]
    rw [hlp]
    show lp_MM_lay_40 Q ((m + (pdig p).length) + 1) c swap v4 v5 v6 _ τ
    unfold lp_MM_lay_40
    refine ⟨hzc, fun q => absurd q (by omega), fun _ => ⟨by omega, by omega, ?_⟩⟩
    rw [show v6 + -1 = v6 - 1 by omega, h132]
    intro y hy
    rw [hy, em, hr.1 114 (by decide) (by decide), nd.1]
    refine ⟨fun q => absurd q (by decide), fun _ => ⟨n0, by omega, fun _ => ?_, fun q => absurd rfl q⟩⟩
    refine ⟨by omega, by decide, fun q => ⟨c0, c1, hzc, by rw [hr.1 121 (by decide) (by decide)]; exact hz, fun q2 => yes q (Or.inl (ht.mpr (by rw [← hr.1 121 (by decide) (by decide)]; exact q2))), fun q2 => ⟨n0, by omega, by rw [k126]; omega, fun q3 => yes q (Or.inr (by rw [← k126]; exact q3)), fun q3 => no (fun q4 => ?_)⟩⟩, fun q => no (fun q4 => q q4.1)⟩
    rcases q4.2 with q5 | q5
    · exact q2 (by rw [hr.1 121 (by decide) (by decide)]; exact ht.mp q5)
    · exact q3 (by rw [k126]; exact q5)
  | .add p q, m, ds, n, t, v4, v5, v6, τ, hr, hCm, hp, hds, hlen, n0, n1, hn, ht, hle, v60, v68, p0, p4, hv5, hv30, h132, kS, kF => by
    have hl := h.len
    have nd := h.nd n0 n1
    have hn' : dpt (σ 1) (σ 2) (σ 3) D n := hn.elim (hd n) (fun q => q.2)
    have hq13 : ∀ d ∈ pdig q ++ ds, 1 ≤ d ∧ d ≤ 3 := fun d hd' => (List.mem_append.mp hd').elim (pdig_13 q hp.2 d) (hds d)
    have hl13 : ∀ d ∈ pdig p ++ (pdig q ++ ds), 1 ≤ d ∧ d ≤ 3 := fun d hd' => (List.mem_append.mp hd').elim (pdig_13 p hp.1 d) (hq13 d)
    have hlp : (pdig (.add p q : Pat)).length = (pdig q).length + (pdig p).length + 1 := by simp [pdig]; omega
    have hlen' : (pdig q).length + (pdig p).length + 1 + ds.length ≤ 7 := by rw [← hlp]; exact hlen
    have dge := (dval_ge _ hl13).1
    have dlt := dval_c hl13 (by rw [List.length_append, List.length_append]; omega)
    have ev : dval (pdig (.add p q : Pat) ++ ds) = 3 + 4 * dval (pdig p ++ (pdig q ++ ds)) := by
      simp only [pdig, List.cons_append, List.append_assoc, dval]
    rw [ev] at ht hle ⊢
    have hzc : zc (3 + 4 * dval (pdig p ++ (pdig q ++ ds))) := by omega
    have em : zand (3 + 4 * dval (pdig p ++ (pdig q ++ ds))) 3 = 3 := by rw [z_m3 hzc]; omega
    have es : zshr (3 + 4 * dval (pdig p ++ (pdig q ++ ds))) 2 = dval (pdig p ++ (pdig q ++ ds)) := by
      rw [show zshr (3 + 4 * dval (pdig p ++ (pdig q ++ ds))) 2 = (3 + 4 * dval (pdig p ++ (pdig q ++ ds))) / 4 from b_shr (k := 2) hzc (by decide)]
      omega
    have hqd : dval (pdig q ++ ds) ≤ dval (pdig p ++ (pdig q ++ ds)) := by
      have gen : ∀ l r : List Int, (∀ d ∈ l ++ r, 1 ≤ d ∧ d ≤ 3) → dval r ≤ dval (l ++ r) := by
        intro l
        induction l with
        | nil => exact fun r _ => Int.le_refl _
        | cons d l ih =>
          intro r hr'
          have i1 := ih r (fun x hx => hr' x (List.mem_cons_of_mem _ hx))
          have i2 := hr' d (List.mem_cons_self ..)
          have i3 := (dval_ge (l ++ r) (fun x hx => hr' x (List.mem_cons_of_mem _ hx))).1
          simp only [List.cons_append, dval]
          omega
      exact gen (pdig p) (pdig q ++ ds) hl13
    simp only [nn] at v68 hv5 kS kF
    simp only [ppins] at p4
    have r01 := ro_01 σ L n
    have k126 : τ 126 n = ro σ L n := (hr.2 n n0 n1).2
    have no : ¬ (σ 1 n = 2 ∧ (t ≠ 0 ∨ ro σ L n = 0)) → Q (-1) τ := fun q => kF (by simp only [lyo]; rw [if_neg q]) τ zsm.rf
    -- the bits
    have e0 : (v5 + 1 - ((nn p + nn q + 1 : Nat) : Int)).toNat = (v5 - nn p - nn q).toNat := by omega
    rw [e0] at kS kF
    have hsb : swap / 2 ^ (v5 - nn p - nn q).toNat / 2 ^ (nn p + nn q) % 2 = zand (zshr swap v5) 1 := by
      rw [Int.ediv_ediv_of_nonneg (Int.le_of_lt (Int.pow_pos (by decide))), ← Int.pow_add, show (v5 - nn p - nn q).toNat + (nn p + nn q) = v5.toNat by omega]
      have := z_bit (x := swap) (k := v5.toNat) (by omega) (by omega)
      rw [show ((v5.toNat : Nat) : Int) = v5 by omega] at this
      exact this.symm
    have hsp : swap / 2 ^ (v5 - nn p - nn q).toNat / 2 ^ nn q = swap / 2 ^ (v5 - 1 + 1 - nn p).toNat := by
      rw [Int.ediv_ediv_of_nonneg (Int.le_of_lt (Int.pow_pos (by decide))), ← Int.pow_add, show (v5 - nn p - nn q).toNat + nn q = (v5 - 1 + 1 - nn p).toNat by omega]
    have hsq : (v5 - 1 - nn p + 1 - nn q : Int).toNat = (v5 - nn p - nn q).toNat := by omega
    have b01 := bt_01 swap v5
    have yes : σ 1 n = 2 → (t ≠ 0 ∨ ro σ L n = 0) → bk_MM_lay_171 Q (lp_MM_lay_40 Q (m + (pdig q).length + (pdig p).length)) c swap v4 v5 (v6 - 1) (3 + 4 * dval (pdig p ++ (pdig q ++ ds))) n τ := fun q1 q2 => by
      obtain ⟨dx, dy⟩ := hn'.1 q1
      -- the two halves, u on top
      have two : ∀ u w, D u → D w → (if zand (zshr swap v5) 1 = 1 then σ 3 n else σ 2 n) = u → (if zand (zshr swap v5) 1 = 1 then σ 2 n else σ 3 n) = w → ∀ y38, y38 = v6 - 1 + 2 → bk_MM_lay_285 Q (lp_MM_lay_40 Q (m + (pdig q).length + (pdig p).length)) c swap v4 (v5 + -1) y38 (3 + 4 * dval (pdig p ++ (pdig q ++ ds))) (zup (zup τ 132 (v6 - 1) w) 132 (v6 - 1 + 1) u) := by
        rintro u w du dw hu hw _ rfl _ rfl
        have hs2 : zsm [132, 133, 134] τ (zup (zup τ 132 (v6 - 1) w) 132 (v6 - 1 + 1) u) := (zsm_up (by decide)).up (by decide)
        have z134 : zup (zup τ 132 (v6 - 1) w) 132 (v6 - 1 + 1) u 134 0 = τ 134 0 := by rw [zup_ne _ _ _ _ (by decide), zup_ne _ _ _ _ (by decide)]
        have zw : zup (zup τ 132 (v6 - 1) w) 132 (v6 - 1 + 1) u 132 (v6 - 1) = w := by rw [zup_ni _ _ _ (by omega), zup_at]
        have zo : ∀ i : Int, i < v6 - 1 → zup (zup τ 132 (v6 - 1) w) 132 (v6 - 1 + 1) u 132 i = τ 132 i := fun i hi => by rw [zup_ni _ _ _ (by omega), zup_ni _ _ _ (by omega)]
        have zu : zup (zup τ 132 (v6 - 1) w) 132 (v6 - 1 + 1) u 132 (v6 + 1 - 1) = u := by rw [show v6 + 1 - 1 = v6 - 1 + 1 by omega, zup_at]
        have hr2 : mr σ (zup (zup τ 132 (v6 - 1) w) 132 (v6 - 1 + 1) u) L := hr.sm (fun f h1 h2 => by rw [zup_f _ _ _ (by omega), zup_f _ _ _ (by omega)])
        have z128 : zup (zup τ 132 (v6 - 1) w) 132 (v6 - 1 + 1) u 128 = Cm := by rw [zup_f _ _ _ (by decide), zup_f _ _ _ (by decide)]; exact hCm
        have z133 : zup (zup τ 132 (v6 - 1) w) 132 (v6 - 1 + 1) u 133 = τ 133 := by rw [zup_f _ _ _ (by decide), zup_f _ _ _ (by decide)]
        rw [es, show v6 - 1 + 2 = v6 + 1 by omega, show v5 + -1 = v5 - 1 by omega]
        generalize zup (zup τ 132 (v6 - 1) w) 132 (v6 - 1 + 1) u = τ2 at *
        have lyE : lyo (σ 1) (σ 2) (σ 3) (ro σ L) Cm (.add p q) n t (swap / 2 ^ (v5 - nn p - nn q).toNat) = (match lyo (σ 1) (σ 2) (σ 3) (ro σ L) Cm p u 0 (swap / 2 ^ (v5 - 1 + 1 - nn p).toNat) with
          | none => none
          | some a => match lyo (σ 1) (σ 2) (σ 3) (ro σ L) Cm q w 0 (swap / 2 ^ (v5 - nn p - nn q).toNat) with
            | none => none
            | some b => some (a + b)) := by
          simp only [lyo]
          rw [if_pos ⟨q1, q2⟩, hsb, hu, hw, hsp]
          cases lyo (σ 1) (σ 2) (σ 3) (ro σ L) Cm p u 0 (swap / 2 ^ (v5 - 1 + 1 - nn p).toNat) with
          | none => rfl
          | some a =>
            cases lyo (σ 1) (σ 2) (σ 3) (ro σ L) Cm q w 0 (swap / 2 ^ (v5 - nn p - nn q).toNat) with
            | none => rfl
            | some b => rfl
        have lpE : lyp (σ 2) (σ 3) (.add p q) n (swap / 2 ^ (v5 - nn p - nn q).toNat) = lyp (σ 2) (σ 3) p u (swap / 2 ^ (v5 - 1 + 1 - nn p).toNat) ++ lyp (σ 2) (σ 3) q w (swap / 2 ^ (v5 - nn p - nn q).toNat) := by
          simp only [lyp]
          rw [hsb, hu, hw, hsp]
        refine sm_layP (Cm := Cm) h hD hd c0 c1 hz sw0 sw1 p (m + (pdig q).length) (pdig q ++ ds) u 0 v4 (v5 - 1) (v6 + 1) τ2 hr2 z128 hp.1 hq13 (by rw [List.length_append]; omega) (hD _ du).1 (hD _ du).2 (Or.inl du) ⟨fun q => absurd rfl q, fun q => by omega⟩ (by omega) (by omega) (by omega) (by rw [z134]; exact p0) (by rw [z134]; omega) (by omega) (by omega) zu (fun a υ ha hla => ?_) (fun ha υ us => ?_)
        · obtain ⟨l1, l2, l3, l4, l5⟩ := hla
          rw [z134] at l3 l4 l5
          rw [z133] at l4
          have uw : υ 132 (v6 - 1) = w := by rw [l2 _ (by omega)]; exact zw
          rw [show v6 + 1 - 1 = v6 by omega]
          refine sm_layP (Cm := Cm) h hD hd c0 c1 hz sw0 sw1 q m ds w 0 (v4 + a) (v5 - 1 - nn p) v6 υ (hr2.sm (fun f h1 h2 => l1 f (by simp; omega))) (by rw [l1 128 (by decide)]; exact z128) hp.2 hds (by omega) (hD _ dw).1 (hD _ dw).2 (Or.inl dw) ⟨fun q => absurd rfl q, fun q => by omega⟩ (by omega) (by omega) (by omega) (by omega) (by omega) (by omega) (by omega) uw (fun b ω hb hlb => ?_) (fun hb ω ws => ?_)
          · rw [hsq] at hb hlb
            obtain ⟨g1, g2, g3, g4, g5⟩ := hlb
            have := kS (a + b) ω (by rw [lyE, ha, hb]) ⟨(hs2.trans l1).trans g1, fun i hi => by rw [g2 i hi, l2 i (by omega)]; exact zo i hi, by rw [g3, l3]; simp only [ppins]; omega, fun i hi => by rw [g4 i (by omega), l4 i hi], fun r hr' => ?_⟩
            · rw [show v5 - ((nn p + nn q + 1 : Nat) : Int) = v5 - 1 - nn p - nn q by omega, show v4 + (a + b) = v4 + a + b by omega] at this
              exact this
            · simp only [ppins] at hr'
              rw [lpE]
              have hlp2 := lyp_len (σ 2) (σ 3) p u (swap / 2 ^ (v5 - 1 + 1 - nn p).toNat) hp.1
              by_cases hrp : r < ppins p
              · rw [List.getD_eq_getElem?_getD, List.getElem?_append_left (by omega), ← List.getD_eq_getElem?_getD, g4 _ (by omega)]
                exact l5 r hrp
              · rw [List.getD_eq_getElem?_getD, List.getElem?_append_right (by omega), ← List.getD_eq_getElem?_getD, hlp2]
                have := g5 (r - ppins p) (by omega)
                rw [l3, show τ 134 0 + (ppins p : Int) + ((r - ppins p : Nat) : Int) = τ 134 0 + (r : Int) by omega] at this
                exact this
          · rw [hsq] at hb
            exact kF (by rw [lyE, ha, hb]) ω ((hs2.trans l1).trans ws)
        · exact kF (by rw [lyE, ha]) υ (hs2.trans us)
      have z115 : ∀ υ : zS, (∀ f, 100 ≤ f → f < 124 → υ f = σ f) → υ 115 n = σ 2 n ∧ υ 116 n = σ 3 n := fun υ hυ => by
        rw [hυ 115 (by decide) (by decide), hυ 116 (by decide) (by decide)]
        exact ⟨nd.2.1, nd.2.2.1⟩
      have t5 := z115 τ hr.1
      unfold bk_MM_lay_171
      rw [em]
      refine ⟨fun q => absurd q (by decide), fun _ => ⟨fun q3 => ?_, fun q3 => ?_⟩⟩
      · rw [q3] at two
        refine ⟨by decide, fun q => absurd q (by decide), fun _ => ⟨n0, by omega, by omega, by omega, ?_⟩⟩
        rintro _ rfl
        refine ⟨by decide, fun q => absurd q (by decide), fun _ => ⟨n0, by omega, by omega, by omega, ?_⟩⟩
        rintro _ rfl
        have := two (σ 3 n) (σ 2 n) dy dx rfl rfl
        rw [zup_ne _ _ _ n (by decide), t5.1, t5.2]
        exact this
      · rw [if_neg q3, if_neg q3] at two
        refine ⟨by decide, fun _ => ⟨n0, by omega, by omega, by omega, ?_⟩, fun q => absurd rfl q⟩
        rintro _ rfl
        refine ⟨by decide, fun _ => ⟨n0, by omega, by omega, by omega, ?_⟩, fun q => absurd rfl q⟩
        rintro _ rfl
        have := two (σ 2 n) (σ 3 n) dx dy rfl rfl
        rw [zup_ne _ _ _ n (by decide), t5.1, t5.2]
        exact this
    rw [hlp]
    rw [show m + ((pdig q).length + (pdig p).length + 1) = (m + (pdig q).length + (pdig p).length) + 1 by omega]
    unfold lp_MM_lay_40
    refine ⟨hzc, fun q => absurd q (by omega), fun _ => ⟨by omega, by omega, ?_⟩⟩
    rw [show v6 + -1 = v6 - 1 by omega, h132]
    intro y hy
    rw [hy, em, hr.1 114 (by decide) (by decide), nd.1]
    refine ⟨fun q => absurd q (by decide), fun _ => ⟨n0, by omega, fun q => absurd q (by decide), fun _ => ?_⟩⟩
    refine ⟨by omega, by decide, fun q => ⟨c0, c1, hzc, by rw [hr.1 121 (by decide) (by decide)]; exact hz, fun q2 => yes q (Or.inl (ht.mpr (by rw [← hr.1 121 (by decide) (by decide)]; exact q2))), fun q2 => ⟨n0, by omega, by rw [k126]; omega, fun q3 => yes q (Or.inr (by rw [← k126]; exact q3)), fun q3 => no (fun q4 => ?_)⟩⟩, fun q => no (fun q4 => q q4.1)⟩
    rcases q4.2 with q5 | q5
    · exact q2 (by rw [hr.1 121 (by decide) (by decide)]; exact ht.mp q5)
    · exact q3 (by rw [k126]; exact q5)
