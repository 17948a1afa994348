/-! the value of a pattern; both sides work it out -/
def pval : Pat → (Int → Int) → Int → Int
  | .var _, f, b => f b
  | .neg p, f, b => 1 - pval p f b
  | .add p q, f, b => 1 - pval p f b * pval q f (b + ppins p)
  | _, _, _ => 0
theorem pval_01 {f : Int → Int} (hf : ∀ k, f k = 0 ∨ f k = 1) : ∀ (P : Pat) (b : Int), pval P f b = 0 ∨ pval P f b = 1
  | .var _, b => hf b
  | .neg p, b => by
    have := pval_01 hf p b
    simp only [pval]
    omega
  | .add p q, b => by
    have h1 := pval_01 hf p b
    have h2 := pval_01 hf q (b + ppins p)
    simp only [pval]
    rcases h1 with e | e <;> rcases h2 with e2 | e2 <;> rw [e, e2] <;> simp
  | .num _, _ => Or.inl rfl
  | .sub _ _, _ => Or.inl rfl
  | .mulL _ _, _ => Or.inl rfl
  | .mulR _ _, _ => Or.inl rfl
theorem pval_congr {f g : Int → Int} : ∀ (P : Pat) (b : Int), (∀ k : Int, b ≤ k → k < b + ppins P → f k = g k) → pval P f b = pval P g b
  | .var _, b, h => h b (Int.le_refl _) (by simp [ppins]; omega)
  | .neg p, b, h => by
    simp only [pval]
    rw [pval_congr p b h]
  | .add p q, b, h => by
    simp only [pval, ppins] at *
    rw [pval_congr p b (fun k k0 k1 => h k k0 (by omega)), pval_congr q _ (fun k k0 k1 => h k (by omega) (by omega))]
  | .num _, _, _ => rfl
  | .sub _ _, _, _ => rfl
  | .mulL _ _, _, _ => rfl
  | .mulR _ _, _, _ => rfl
/-- the values of the pins, as bits of a number -/
def pbit (x : Int) (k : Int) : Int := zand (zshr x k) 1
theorem pbit_01 (x k : Int) : pbit x k = 0 ∨ pbit x k = 1 := bt_01 x k
theorem sx_value {σ : zS} {x : Int} : ∀ (P : Pat) (d : Nat) (j b : Int) (Q : Int → zS → Prop), pok P → (pdig P).length ≤ d → prep σ P j b → Q (pval P (pbit x) b) σ → wp_value d Q j x σ
  | .var _, 0, _, _, _, _, hd, _, _ => by simp [pdig] at hd
  | .neg _, 0, _, _, _, _, hd, _, _ => by simp [pdig] at hd
  | .add _ _, 0, _, _, _, _, hd, _, _ => by simp [pdig] at hd
  | .var _, d + 1, j, b, Q, _, _, ⟨a1, a2, a3, a4⟩, h => ⟨a1, a2, Or.inl ⟨a3, a1, a2, a3, by rw [a4]; exact h⟩⟩
  | .neg p, d + 1, j, b, Q, hp, hd, ⟨a1, a2, a3, a4⟩, h => ⟨a1, a2, Or.inr (Or.inl ⟨a3, a1, a2, a3, sx_value p d _ b _ hp (by simp [pdig] at hd; omega) a4 h⟩)⟩
  | .add p q, d + 1, j, b, Q, hp, hd, ⟨a1, a2, a3, a4, a5⟩, h => ⟨a1, a2, Or.inr (Or.inr ⟨a3, a1, a2, a3, sx_value p d _ b _ hp.1 (by simp [pdig] at hd; omega) a4 ⟨a1, a2, a3, sx_value q d _ _ _ hp.2 (by simp [pdig] at hd; omega) a5 (by
      rw [z_andb (pval_01 (pbit_01 x) p b) (pval_01 (pbit_01 x) q _)]
      exact h)⟩⟩)⟩
  | .num _, _, _, _, _, hp, _, _, _ => hp.elim
  | .sub _ _, _, _, _, _, hp, _, _, _ => hp.elim
  | .mulL _ _, _, _, _, _, hp, _, _, _ => hp.elim
  | .mulR _ _, _, _, _, _, hp, _, _, _ => hp.elim
def dones : List Int → Int
  | [] => 0
  | d :: l => (if d = 1 then 1 else 0) + dones l
theorem dones_app : ∀ (l m : List Int), dones (l ++ m) = dones l + dones m
  | [], m => by simp [dones]
  | d :: l, m => by
    simp only [List.cons_append, dones, dones_app l m]
    omega
theorem dones_pins : ∀ (P : Pat), pok P → dones (pdig P) = ppins P
  | .var _, _ => by simp [pdig, dones, ppins]
  | .neg p, h => by simp [pdig, dones, ppins, dones_pins p h]
  | .add p q, h => by simp [pdig, dones, ppins, dones_app, dones_pins p h.1, dones_pins q h.2]
  | .num _, h => h.elim
  | .sub _ _, h => h.elim
  | .mulL _ _, h => h.elim
  | .mulR _ _, h => h.elim
theorem dval_c {l : List Int} (h : ∀ d ∈ l, 1 ≤ d ∧ d ≤ 3) (hl : l.length ≤ 7) : 0 ≤ dval l ∧ dval l < 16384 := by
  have h1 := dval_lt l h
  have h2 := (dval_ge l h).1
  have h5 : (4 : Int) ^ l.length ≤ 4 ^ 7 := by
    have := Nat.pow_le_pow_right (n := 4) (by decide) hl
    exact_mod_cast this
  have h6 : (4 : Int) ^ 7 = 16384 := by decide
  omega
theorem sm_pinsOf {σ : zS} {Q : Int → zS → Prop} {c : Int} {P : Pat} (c0 : 0 ≤ c) (c1 : c < 8) (hp : pok P) (hl : (pdig P).length ≤ 7) (hv : σ 121 c = dval (pdig P)) (h : Q (ppins P) σ) : wp_MM_pinsOf Q c σ := by
  refine ⟨c0, c1, ?_⟩
  rintro _ rfl
  rw [hv, ← dones_pins P hp] at *
  have h13 := pdig_13 P hp
  generalize pdig P = l at *
  refine ⟨l.length + 1, ?_⟩
  have loop : ∀ (l : List Int) (r : Int), (∀ d ∈ l, 1 ≤ d ∧ d ≤ 3) → l.length ≤ 7 → Q (r + dones l) σ → lp_MM_pinsOf_9 Q (l.length + 1) r (dval l) σ := by
    intro l
    induction l with
    | nil =>
      intro r _ _ hq
      exact ⟨by show zc 0; decide, fun _ => by simpa [dones] using hq, fun q => absurd rfl q⟩
    | cons d l ih =>
      intro r h13 hl hq
      have hc := dval_c h13 hl
      have hd := h13 d (List.mem_cons_self ..)
      have h13' : ∀ d ∈ l, 1 ≤ d ∧ d ≤ 3 := fun x hx => h13 x (List.mem_cons_of_mem _ hx)
      have hl' : l.length ≤ 7 := by simp only [List.length_cons] at hl; omega
      have hg := (dval_ge l h13').1
      have hz : zc (dval (d :: l)) := by omega
      have ev : dval (d :: l) = d + 4 * dval l := rfl
      have em : zand (dval (d :: l)) 3 = d := by rw [z_m3 hz]; omega
      have es : zshr (dval (d :: l)) 2 = dval l := by
        rw [show zshr (dval (d :: l)) 2 = dval (d :: l) / 4 from b_shr (k := 2) hz (by decide)]
        omega
      unfold lp_MM_pinsOf_9
      refine ⟨hz, fun q => absurd q (by omega), fun _ => ?_⟩
      rw [em]
      refine ⟨fun q => ?_, fun q => ?_⟩
      · rintro _ rfl
        rw [es]
        refine ih _ h13' hl' ?_
        simp only [dones, if_pos q] at hq
        rw [Int.add_assoc]
        exact hq
      · rintro _ rfl
        rw [es]
        refine ih _ h13' hl' ?_
        simp only [dones, if_neg q, Int.zero_add] at hq
        exact hq
  exact loop l 0 h13 hl (by rw [Int.zero_add]; exact h)
theorem dval_at : ∀ (l : List Int) (i : Nat), (∀ d ∈ l, 1 ≤ d ∧ d ≤ 3) → dval l / 4 ^ i % 4 = l.getD i 0
  | [], i, _ => by simp [dval]
  | d :: l, 0, h => by
    have := h d (List.mem_cons_self ..)
    simp only [dval, Int.pow_zero, Int.ediv_one, List.getD_cons_zero]
    omega
  | d :: l, i + 1, h => by
    have h1 := h d (List.mem_cons_self ..)
    have := dval_at l i (fun x hx => h x (List.mem_cons_of_mem _ hx))
    rw [List.getD_cons_succ, ← this]
    simp only [dval]
    rw [Int.pow_succ, Int.mul_comm (4 ^ i) 4, ← Int.ediv_ediv_of_nonneg (by decide)]
    congr 2
    omega
theorem dig_at {l : List Int} {x : Int} {i : Nat} (h : ∀ d ∈ l, 1 ≤ d ∧ d ≤ 3) (hl : l.length ≤ 7) (hx : x = dval l) (hi : i < 7) : zand (zshr x (2 * (i : Int))) 3 = l.getD i 0 := by
  have hc := dval_c h hl
  have hz : zc x := by omega
  rw [z_m3 (zc_shr _ _)]
  have := b_shr (k := 2 * i) hz (by omega)
  rw [show ((2 * i : Nat) : Int) = 2 * (i : Int) by omega] at this
  rw [this, ← dval_at l i h, hx]
  congr 2
  rw [Int.pow_mul]
  rfl
theorem sm_workP {c x : Int} {l : List Int} {Q : Int → zS → Prop} (c0 : 0 ≤ c) (c1 : c < 8) (h13 : ∀ d ∈ l, 1 ≤ d ∧ d ≤ 3) (hl : l.length ≤ 7) : ∀ (P : Pat) (n a : Nat) (p top : Int) (σ : zS), pok P → σ 121 c = dval l → a + (pdig P).length ≤ 7 → (∀ j : Nat, j < (pdig P).length → l.getD (a + j) 0 = (pdig P).getD j 0) → 0 ≤ top → top + (pdig P).length ≤ 8 → (∀ τ, zsm [150] σ τ → (∀ i : Int, i < top → τ 150 i = σ 150 i) → τ 150 top = pval P (pbit x) (p - ppins P) → lp_MM_work_13 Q n c x (p - ppins P) (top + 1) ((a : Int) - 1) τ) → lp_MM_work_13 Q (n + (pdig P).length) c x p top ((a : Int) + (pdig P).length - 1) σ
  | .var _, n, a, p, top, σ, hp, hv, ha, hj, t0, t1, k => by
    have e0 := hj 0 (by simp [pdig])
    simp only [pdig, List.length_cons, List.length_nil, Nat.zero_add] at ha t1 ⊢
    have ea : (a : Int) + ((1 : Nat) : Int) - 1 = a := by omega
    rw [ea]
    have ed := dig_at (x := σ 121 c) h13 hl hv (show a < 7 by omega)
    simp only [Nat.add_zero, pdig, List.getD_cons_zero] at e0
    unfold lp_MM_work_13
    refine ⟨by omega, fun q => absurd q (by omega), fun _ => ⟨c0, c1, ?_⟩⟩
    rintro _ rfl
    rw [ed, e0]
    refine ⟨fun _ => ⟨t0, by omega, ?_⟩, fun q => absurd rfl q⟩
    rintro _ rfl
    have := k (zup σ 150 top (zand (zshr x (p + -1)) 1)) (zsm_up (by decide)) (fun i hi => zup_ni _ _ _ (by omega)) (by rw [zup_at]; rfl)
    exact this
  | .neg q, n, a, p, top, σ, hp, hv, ha, hj, t0, t1, k => by
    have e0 := hj 0 (by simp [pdig])
    have hlen : (pdig (.neg q : Pat)).length = (pdig q).length + 1 := by simp [pdig]
    rw [hlen] at ha t1 ⊢
    have ih := sm_workP (Q := Q) c0 c1 h13 hl q (n + 1) (a + 1) p top σ hp hv (by omega) (fun j hj' => by
      have := hj (j + 1) (by rw [hlen]; omega)
      rw [show a + 1 + j = a + (j + 1) by omega, this]
      simp [pdig]) t0 (by omega) (fun τ ts tb tv => by
        have hv' : τ 121 c = dval l := by rw [ts 121 (by decide)]; exact hv
        have ed := dig_at (x := τ 121 c) h13 hl hv' (show a < 7 by omega)
        simp only [Nat.add_zero, pdig, List.getD_cons_zero] at e0
        rw [show ((a + 1 : Nat) : Int) - 1 = a by omega]
        unfold lp_MM_work_13
        refine ⟨by omega, fun q => absurd q (by omega), fun _ => ⟨c0, c1, ?_⟩⟩
        rintro _ rfl
        rw [ed, e0]
        refine ⟨fun q => absurd q (by decide), fun _ => ⟨fun _ => ⟨by omega, by omega, ?_⟩, fun q => absurd rfl q⟩⟩
        rintro _ rfl
        rw [show top + 1 - 1 = top by omega]
        have := k (zup τ 150 top (1 - τ 150 top)) (ts.up (by decide)) (fun i hi => by rw [zup_ni _ _ _ (by omega)]; exact tb i hi) (by rw [zup_at, tv]; rfl)
        exact this)
    rw [show n + ((pdig q).length + 1) = n + 1 + (pdig q).length by omega, show (a : Int) + (((pdig q).length + 1 : Nat) : Int) - 1 = ((a + 1 : Nat) : Int) + ((pdig q).length : Int) - 1 by omega]
    exact ih
  | .add q r, n, a, p, top, σ, hp, hv, ha, hj, t0, t1, k => by
    have e0 := hj 0 (by simp [pdig])
    have hlen : (pdig (.add q r : Pat)).length = (pdig q).length + (pdig r).length + 1 := by simp [pdig]
    rw [hlen] at ha t1 ⊢
    have ih := sm_workP (Q := Q) c0 c1 h13 hl r (n + 1 + (pdig q).length) (a + 1 + (pdig q).length) p top σ hp.2 hv (by omega) (fun j hj' => by
      have := hj (j + (pdig q).length + 1) (by rw [hlen]; omega)
      rw [show a + 1 + (pdig q).length + j = a + (j + (pdig q).length + 1) by omega, this]
      simp only [pdig, List.getD_cons_succ]
      rw [List.getD_eq_getElem?_getD, List.getD_eq_getElem?_getD, List.getElem?_append_right (by omega), Nat.add_sub_cancel]) t0 (by omega) (fun τ ts tb tv => by
        have hv1 : τ 121 c = dval l := by rw [ts 121 (by decide)]; exact hv
        have hq1 : 1 ≤ (pdig q).length := by obtain ⟨_, _, e', _⟩ := pdig_d q hp.1; rw [e']; simp
        have hr1 : 1 ≤ (pdig r).length := by obtain ⟨_, _, e', _⟩ := pdig_d r hp.2; rw [e']; simp
        have ih2 := sm_workP (Q := Q) c0 c1 h13 hl q (n + 1) (a + 1) (p - ppins r) (top + 1) τ hp.1 hv1 (by omega) (fun j hj' => by
          have := hj (j + 1) (by rw [hlen]; omega)
          rw [show a + 1 + j = a + (j + 1) by omega, this]
          simp only [pdig, List.getD_cons_succ]
          rw [List.getD_eq_getElem?_getD, List.getD_eq_getElem?_getD, List.getElem?_append_left hj']) (by omega) (by omega) (fun υ us ub uv => by
            have hv2 : υ 121 c = dval l := by rw [us 121 (by decide)]; exact hv1
            have ed := dig_at (x := υ 121 c) h13 hl hv2 (show a < 7 by omega)
            simp only [Nat.add_zero, pdig, List.getD_cons_zero] at e0
            rw [show ((a + 1 : Nat) : Int) - 1 = a by omega]
            unfold lp_MM_work_13
            refine ⟨by omega, fun q => absurd q (by omega), fun _ => ⟨c0, c1, ?_⟩⟩
            rintro _ rfl
            rw [ed, e0]
            refine ⟨fun q => absurd q (by decide), fun _ => ⟨fun q => absurd q (by decide), fun _ => ⟨fun _ => ⟨by omega, by omega, by omega, by omega, ?_⟩, fun q => absurd rfl q⟩⟩⟩
            rintro _ rfl
            rw [show top + 1 + 1 + -1 - 1 = top by omega, show top + 1 + 1 + -1 = top + 1 by omega]
            have v1 := pval_01 (pbit_01 x) q (p - ppins r - ppins q)
            have v2 := pval_01 (pbit_01 x) r (p - ppins r)
            have u0 : υ 150 top = pval r (pbit x) (p - ppins r) := by rw [ub top (by omega)]; exact tv
            have hpp : p - (ppins (.add q r : Pat) : Int) = p - ppins r - ppins q := by simp only [ppins]; omega
            rw [u0, uv, z_andb v2 v1]
            have := k (zup υ 150 top (1 - pval r (pbit x) (p - ppins r) * pval q (pbit x) (p - ppins r - ppins q))) ((ts.trans us).up (by decide)) (fun i hi => by rw [zup_ni _ _ _ (by omega), ub i (by omega)]; exact tb i hi) (by
              rw [zup_at, hpp]
              simp only [pval]
              rw [show p - (ppins r : Int) - ppins q + ppins q = p - ppins r by omega, Int.mul_comm])
            rw [hpp] at this
            exact this)
        rw [show ((a + 1 + (pdig q).length : Nat) : Int) - 1 = ((a + 1 : Nat) : Int) + ((pdig q).length : Int) - 1 by omega]
        exact ih2)
    rw [show n + ((pdig q).length + (pdig r).length + 1) = n + 1 + (pdig q).length + (pdig r).length by omega, show (a : Int) + (((pdig q).length + (pdig r).length + 1 : Nat) : Int) - 1 = ((a + 1 + (pdig q).length : Nat) : Int) + ((pdig r).length : Int) - 1 by omega]
    exact ih
  | .num _, _, _, _, _, _, h, _, _, _, _, _, _ => h.elim
  | .sub _ _, _, _, _, _, _, h, _, _, _, _, _, _ => h.elim
  | .mulL _ _, _, _, _, _, _, h, _, _, _, _, _, _ => h.elim
  | .mulR _ _, _, _, _, _, _, h, _, _, _, _, _, _ => h.elim
theorem sm_work {σ : zS} {Q : Int → zS → Prop} {c x : Int} {P : Pat} (c0 : 0 ≤ c) (c1 : c < 8) (hp : pok P) (hl : (pdig P).length ≤ 7) (hv : σ 121 c = dval (pdig P)) (h : ∀ τ, zsm [150] σ τ → Q (pval P (pbit x) 0) τ) : wp_MM_work Q c x σ := by
  refine sm_pinsOf c0 c1 hp hl hv ?_
  have h13 := pdig_13 P hp
  have body : lp_MM_work_13 Q (1 + (pdig P).length) c x (ppins P) 0 ((0 : Nat) + ((pdig P).length : Int) - 1) σ := by
    refine sm_workP c0 c1 h13 hl P 1 0 _ 0 σ hp hv (by omega) (fun j hj => by rw [Nat.zero_add]) (by omega) (by omega) (fun τ ts tb tv => ?_)
    refine ⟨by decide, fun _ => ?_, fun q => absurd q (by decide)⟩
    rw [tv, Int.sub_self]
    exact h τ ts
  have skip : ∀ (m : Nat), (pdig P).length + m ≤ 7 → lp_MM_work_13 Q (1 + (pdig P).length + m) c x (ppins P) 0 (((pdig P).length : Int) + m - 1) σ := by
    intro m
    induction m with
    | zero =>
      intro _
      have e : ((0 : Nat) : Int) + ((pdig P).length : Int) - 1 = ((pdig P).length : Int) + ((0 : Nat) : Int) - 1 := by omega
      rw [← e]
      exact body
    | succ m ih =>
      intro hm
      have ed := dig_at (x := σ 121 c) h13 hl hv (show (pdig P).length + m < 7 by omega)
      rw [List.getD_eq_getElem?_getD, List.getElem?_eq_none (by omega)] at ed
      have e1 : ((pdig P).length : Int) + ((m + 1 : Nat) : Int) - 1 = (((pdig P).length + m : Nat) : Int) := by omega
      rw [e1]
      show lp_MM_work_13 Q ((1 + (pdig P).length + m) + 1) c x (ppins P) 0 _ σ
      refine ⟨by omega, fun q => absurd q (by omega), fun _ => ⟨c0, c1, ?_⟩⟩
      rintro _ rfl
      rw [ed]
      have := ih (by omega)
      rw [show ((pdig P).length : Int) + (m : Int) - 1 = (((pdig P).length + m : Nat) : Int) + -1 by omega] at this
      exact ⟨fun q => absurd q (by decide), fun _ => ⟨fun q => absurd q (by decide), fun _ => ⟨fun q => absurd q (by decide), fun _ => this⟩⟩⟩
  have := skip (7 - (pdig P).length) (by omega)
  rw [show ((pdig P).length : Int) + ((7 - (pdig P).length : Nat) : Int) - 1 = 6 by omega] at this
  exact ⟨_, this⟩
