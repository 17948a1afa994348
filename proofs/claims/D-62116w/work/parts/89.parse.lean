/-! parse: the pattern is laid out in CellMapper's patterns -/
def wpPk (Q : Int → zS → Prop) (v2 z0 : Int) (σ : zS) : Prop :=
  ((z0 < 0 → Q (-1) σ) ∧
   (¬ z0 < 0 → zWf σ ∧ 0 ≤ σ 72 0 ∧ zvp σ z0 ∧ zvp σ v2 ∧ ∀ σ35, σ35 = znew6 2 σ → wp_NA_init (fun σ37 => zle σ35 σ37 ∧ Q (σ 72 0) σ37) (σ 72 0) v2 z0 σ35))
/-- one of the copies over the next one -/
def wpP (nx : (Int → zS → Prop) → Int → zS → Prop) (Q : Int → zS → Prop) (v1 : Int) (σ : zS) : Prop :=
  zc v1 ∧ ((v1 ≤ 7 →
    wp_DG_next (fun r4 σ2 =>
      zle σ σ2 ∧
      zc r4 ∧ ((r4 = 1 →
        zWf σ2 ∧ 0 ≤ σ2 72 0 ∧ ∀ σ8, σ8 = znew6 0 σ2 →
        wp_PI_init (fun σ10 =>
          zle σ8 σ10 ∧
          ∀ y12, y12 = σ2 72 0 →
          ∀ σ13, σ13 = zup σ10 62 0 ((σ10 62 0) + 1) →
          Q y12 σ13) (σ2 72 0) (σ8 62 0) σ8) ∧
       (r4 = 2 →
        nx (fun r16 σ14 =>
          ((r16 < 0 →
            Q (-1) σ14) ∧
           (¬ r16 < 0 →
            zWf σ14 ∧ 0 ≤ σ14 72 0 ∧ zvp σ14 r16 ∧ ∀ σ20, σ20 = znew6 1 σ14 →
            wp_IN_init (fun σ22 =>
              zle σ20 σ22 ∧
              Q (σ14 72 0) σ22) (σ14 72 0) r16 σ20))) (v1 + 1) σ2) ∧
       (r4 = 3 →
        nx (fun r26 σ24 =>
          ((r26 < 0 →
            wpPk Q r26 (-1) σ24) ∧
           (¬ r26 < 0 →
            zvp σ24 r26 ∧ nx (fun r29 σ27 =>
              wpPk Q r26 r29 σ27) (v1 + 1) σ24))) (v1 + 1) σ2) ∧
       (r4 < 1 ∨ 3 < r4 →
        Q (-1) σ2))) σ) ∧
   (¬ v1 ≤ 7 →
    Q (-1) σ))
theorem wpP_8 (Q : Int → zS → Prop) (v : Int) (σ : zS) : wp_CX_parse8 Q v σ = wpP wp_CX_parse9 Q v σ := rfl
theorem wpP_7 (Q : Int → zS → Prop) (v : Int) (σ : zS) : wp_CX_parse7 Q v σ = wpP wp_CX_parse8 Q v σ := rfl
theorem wpP_6 (Q : Int → zS → Prop) (v : Int) (σ : zS) : wp_CX_parse6 Q v σ = wpP wp_CX_parse7 Q v σ := rfl
theorem wpP_5 (Q : Int → zS → Prop) (v : Int) (σ : zS) : wp_CX_parse5 Q v σ = wpP wp_CX_parse6 Q v σ := rfl
theorem wpP_4 (Q : Int → zS → Prop) (v : Int) (σ : zS) : wp_CX_parse4 Q v σ = wpP wp_CX_parse5 Q v σ := rfl
theorem wpP_3 (Q : Int → zS → Prop) (v : Int) (σ : zS) : wp_CX_parse3 Q v σ = wpP wp_CX_parse4 Q v σ := rfl
theorem wpP_2 (Q : Int → zS → Prop) (v : Int) (σ : zS) : wp_CX_parse2 Q v σ = wpP wp_CX_parse3 Q v σ := rfl
theorem wpP_1 (Q : Int → zS → Prop) (v : Int) (σ : zS) : wp_CX_parse1 Q v σ = wpP wp_CX_parse2 Q v σ := rfl
/-- what is there after a pattern has been parsed -/
def parsd (σ τ : zS) (P : Pat) (ds : List Int) (r : Int) : Prop := zsm [30, 31, 32, 61, 62, 72] σ τ ∧ zWf τ ∧ σ 72 0 ≤ τ 72 0 ∧ (∀ i : Int, 0 ≤ i → i < σ 72 0 → τ 30 i = σ 30 i ∧ τ 31 i = σ 31 i ∧ τ 32 i = σ 32 i) ∧ τ 61 0 = dval ds ∧ τ 62 0 = σ 62 0 + ppins P ∧ prep τ P r (σ 62 0) ∧ 0 ≤ r ∧ r < τ 72 0
def SP (wp : (Int → zS → Prop) → Int → zS → Prop) (k : Int) : Prop := ∀ (P : Pat) (ds : List Int) (σ : zS) (Q : Int → zS → Prop), pok P → (pdig P).length + k ≤ 8 → (∀ d ∈ ds, 1 ≤ d ∧ d ≤ 3) → (pdig P).length + ds.length ≤ 7 → zWf σ → 0 ≤ σ 72 0 → σ 61 0 = dval (pdig P ++ ds) → (∀ τ r, parsd σ τ P ds r → Q r τ) → wp Q k σ
theorem znew6_wf {σ : zS} {c x y : Int} (hw : zWf σ) (h0 : 0 ≤ σ 72 0) (hc : c = 0 ∨ (c = 1 ∧ zvp σ x) ∨ (c = 2 ∧ zvp σ x ∧ zvp σ y)) {τ : zS} (hs : zsm [30, 31, 32, 61, 62, 72] σ τ) (h72 : τ 72 0 = σ 72 0 + 1) (h30 : ∀ i : Int, τ 30 i = if i = σ 72 0 then c else σ 30 i) (h31 : ∀ i : Int, τ 31 i = if i = σ 72 0 then x else σ 31 i) (h32 : ∀ i : Int, i ≠ σ 72 0 → τ 32 i = σ 32 i) (h32c : c = 2 → τ 32 (σ 72 0) = y) : zWf τ := by
  obtain ⟨w1, w2, w3, w4, w5, w6⟩ := hw
  have e2 : τ 2 = σ 2 := hs 2 (by decide)
  have e3 : τ 3 = σ 3 := hs 3 (by decide)
  have e5 : τ 5 = σ 5 := hs 5 (by decide)
  have e14 : τ 14 = σ 14 := hs 14 (by decide)
  have e40 : τ 40 = σ 40 := hs 40 (by decide)
  have e46 : τ 46 = σ 46 := hs 46 (by decide)
  have e50 : τ 50 = σ 50 := hs 50 (by decide)
  have e51 : τ 51 = σ 51 := hs 51 (by decide)
  have e70 : τ 70 = σ 70 := hs 70 (by decide)
  have e71 : τ 71 = σ 71 := hs 71 (by decide)
  have e25 : τ 25 = σ 25 := hs 25 (by decide)
  refine ⟨?_, fun l hl => ?_, ?_, ?_, ?_, ?_⟩
  · simp only [zvn, zvc, e2, e3, e5, e14, e70, e71]
    exact w1
  · have el : τ (41 + l) = σ (41 + l) := hs (41 + l) (by simp; omega)
    simp only [zvn, el, e40, e70]
    exact w2 l hl
  · simp only [zvc, e46, e40, e71]
    exact w3
  · simp only [zvn, e50, e51, e70]
    exact w4
  · intro i i0 i1
    rw [e71] at i1
    have := w5 i i0 i1
    unfold zvp at *
    rw [e25, h72]
    omega
  · intro i i0 i1
    rw [h72] at i1
    have := w6 i i0
    unfold zvp at *
    rw [h72]
    by_cases e : i = σ 72 0
    · subst e
      rw [h30, h31, if_pos rfl, if_pos rfl]
      rcases hc with rfl | ⟨rfl, hx⟩ | ⟨rfl, hx, hy⟩
      · exact ⟨Or.inl rfl, Or.inl rfl⟩
      · exact ⟨Or.inr (by omega), Or.inr (Or.inl rfl)⟩
      · rw [h32c rfl]
        exact ⟨Or.inr (by omega), Or.inr (Or.inr (by omega))⟩
    · have := this (by omega)
      rw [h30, h31, if_neg e, if_neg e, h32 i e]
      omega
theorem SP_9 : SP wp_CX_parse9 9 := fun P ds σ Q hP h => by
  omega
theorem SP_step {nx : (Int → zS → Prop) → Int → zS → Prop} {k : Int} (k0 : 1 ≤ k) (hn : SP nx (k + 1)) : SP (wpP nx) k := by
  intro P ds σ Q hP hk hd h7 hw h72 h61 h
  obtain ⟨d, l, e, d1, d3⟩ := pdig_d P hP
  have h13 : ∀ x ∈ pdig P ++ ds, 1 ≤ x ∧ x ≤ 3 := fun x hx => by
    rcases List.mem_append.mp hx with q | q
    · exact pdig_13 P hP x q
    · exact hd x q
  have hlt := dval_lt _ h13
  have hge := (dval_ge _ h13).1
  have hlen : (pdig P ++ ds).length ≤ 7 := by rw [List.length_append]; exact h7
  have h5 : (4 : Int) ^ (pdig P ++ ds).length ≤ 4 ^ 7 := by
    have := Nat.pow_le_pow_right (n := 4) (by decide) hlen
    exact_mod_cast this
  have h6 : (4 : Int) ^ 7 = 16384 := by decide
  have hz : zc (σ 61 0) := by omega
  have hp1 : 1 ≤ (pdig P).length := by rw [e]; simp
  refine ⟨by omega, fun _ => ?_, fun q => absurd q (by omega)⟩
  rintro _ rfl _ rfl
  have ev : dval (pdig P ++ ds) = d + 4 * dval (l ++ ds) := by rw [e]; rfl
  have eu : zushr (σ 61 0) 2 = dval (l ++ ds) := by
    rw [show zushr (σ 61 0) 2 = σ 61 0 / 4 from b_ushr (k := 2) hz (by omega) (by decide)]
    omega
  have em : zand (σ 61 0) 3 = d := by rw [z_m3 hz]; omega
  rw [eu, em]
  have z72 : zup σ 61 0 (dval (l ++ ds)) 72 0 = σ 72 0 := zup_ne _ _ _ _ (by decide)
  have z62 : zup σ 61 0 (dval (l ++ ds)) 62 0 = σ 62 0 := zup_ne _ _ _ _ (by decide)
  have z61 : zup σ 61 0 (dval (l ++ ds)) 61 0 = dval (l ++ ds) := zup_at _ _ _ _
  have zw : zWf (zup σ 61 0 (dval (l ++ ds))) := hw.sm (fun f hf => zup_f _ _ _ (by rintro rfl; exact absurd hf (by decide)))
  have zs : zsm [30, 31, 32, 61, 62, 72] σ (zup σ 61 0 (dval (l ++ ds))) := zsm_up (by decide)
  have zk : ∀ i : Int, 0 ≤ i → i < σ 72 0 → (zup σ 61 0 (dval (l ++ ds))) 30 i = σ 30 i ∧ (zup σ 61 0 (dval (l ++ ds))) 31 i = σ 31 i ∧ (zup σ 61 0 (dval (l ++ ds))) 32 i = σ 32 i := fun i _ _ => ⟨zup_ne _ _ _ _ (by decide), zup_ne _ _ _ _ (by decide), zup_ne _ _ _ _ (by decide)⟩
  generalize zup σ 61 0 (dval (l ++ ds)) = σ2 at z72 z62 z61 zw zs zk
  refine ⟨⟨by rw [zs 70 (by decide)]; exact Int.le_refl _, by rw [zs 71 (by decide)]; exact Int.le_refl _, by omega⟩, by omega, ?_, ?_, ?_, fun q => absurd q (by omega)⟩
  · -- a pin
    intro hd1
    refine ⟨zw, by omega, ?_⟩
    rintro _ rfl
    have n30 : znew6 0 σ2 30 (σ2 72 0) = 0 := by simp [znew6, zdef6]
    have n62 : znew6 0 σ2 62 0 = σ2 62 0 := by simp [znew6]
    have n72 : znew6 0 σ2 72 0 = σ2 72 0 + 1 := by simp [znew6]
    refine ⟨by omega, by omega, n30, ?_⟩
    rintro _ rfl
    refine ⟨⟨by simp [zup], by simp [zup], by simp [zup]⟩, ?_⟩
    rintro _ rfl _ rfl
    have hl : P = .var 0 ∧ l = [] := by
      cases P with
      | var i => simp only [pdig, List.cons.injEq] at e; simp only [pok] at hP; subst hP; exact ⟨rfl, e.2.symm⟩
      | neg p => simp only [pdig, List.cons.injEq] at e; omega
      | add p q => simp only [pdig, List.cons.injEq] at e; omega
      | num _ => exact hP.elim
      | sub _ _ => exact hP.elim
      | mulL _ _ => exact hP.elim
      | mulR _ _ => exact hP.elim
    obtain ⟨rfl, rfl⟩ := hl
    have V : ∀ f i, zup (zup (znew6 0 σ2) 31 (σ2 72 0) (znew6 0 σ2 62 0)) 62 0 (zup (znew6 0 σ2) 31 (σ2 72 0) (znew6 0 σ2 62 0) 62 0 + 1) f i = if f = 62 ∧ i = 0 then σ2 62 0 + 1 else if f = 31 ∧ i = σ2 72 0 then σ2 62 0 else if f = 30 ∧ i = σ2 72 0 then 0 else if f = 32 ∧ i = σ2 72 0 then -1 else if f = 72 ∧ i = 0 then σ2 72 0 + 1 else σ2 f i := by
      intro f i
      rw [n62]
      have e1 : zup (znew6 0 σ2) 31 (σ2 72 0) (σ2 62 0) 62 0 = σ2 62 0 := by rw [zup_ne _ _ _ _ (by decide)]; exact n62
      rw [e1]
      simp only [zup, znew6, zdef6]
      by_cases f1 : f = 62
      · subst f1
        by_cases i1 : i = 0 <;> simp [i1]
      · by_cases f2 : f = 31
        · subst f2
          by_cases i1 : i = σ2 72 0 <;> simp [i1]
        · by_cases f3 : f = 30
          · subst f3
            by_cases i1 : i = σ2 72 0 <;> simp [i1]
          · by_cases f4 : f = 32
            · subst f4
              by_cases i1 : i = σ2 72 0 <;> simp [i1]
            · by_cases f5 : f = 72
              · subst f5
                by_cases i1 : i = 0 <;> simp [i1]
              · have g1 : ¬ (30 ≤ f ∧ f ≤ 32 ∧ i = σ2 72 0) := by omega
                simp [f1, f2, f3, f4, f5, g1]
    generalize zup (zup (znew6 0 σ2) 31 (σ2 72 0) (znew6 0 σ2 62 0)) 62 0 (zup (znew6 0 σ2) 31 (σ2 72 0) (znew6 0 σ2 62 0) 62 0 + 1) = τ at V
    have ts : zsm [30, 31, 32, 61, 62, 72] σ2 τ := fun f hf => by
      funext i
      simp only [List.mem_cons, List.not_mem_nil, or_false, not_or] at hf
      rw [V, if_neg (by omega), if_neg (by omega), if_neg (by omega), if_neg (by omega), if_neg (by omega)]
    have t72 : τ 72 0 = σ2 72 0 + 1 := by simp [V]
    have t31 : ∀ i : Int, τ 31 i = if i = σ2 72 0 then σ2 62 0 else σ2 31 i := fun i => by simp [V]
    have t30 : ∀ i : Int, τ 30 i = if i = σ2 72 0 then 0 else σ2 30 i := fun i => by simp [V]
    have t32 : ∀ i : Int, i ≠ σ2 72 0 → τ 32 i = σ2 32 i := fun i hi => by simp [V, hi]
    refine h τ _ ⟨zs.trans ts, znew6_wf (y := 0) zw (by omega) (Or.inl rfl) ts t72 t30 t31 t32 (fun q => absurd q (by decide)), by omega, fun i i0 i1 => ?_, ?_, ?_, ?_, by omega, by omega⟩
    · obtain ⟨a1, a2, a3⟩ := zk i i0 i1
      rw [t30, t31, t32 i (by omega), if_neg (by omega), if_neg (by omega)]
      exact ⟨a1, a2, a3⟩
    · rw [V]
      simp [z61]
    · rw [V]
      simp [z62, ppins]
    · refine ⟨by omega, by omega, ?_, ?_⟩
      · rw [t30, if_pos rfl]
      · rw [t31, if_pos rfl, z62]
  · -- an inverter
    intro hd2
    obtain ⟨p, rfl, rfl⟩ : ∃ p, P = .neg p ∧ l = pdig p := by
      cases P with
      | var i => simp only [pdig, List.cons.injEq] at e; omega
      | neg p => simp only [pdig, List.cons.injEq] at e; exact ⟨p, rfl, e.2.symm⟩
      | add p q => simp only [pdig, List.cons.injEq] at e; omega
      | num _ => exact hP.elim
      | sub _ _ => exact hP.elim
      | mulL _ _ => exact hP.elim
      | mulR _ _ => exact hP.elim
    have hl : (pdig (.neg p : Pat)).length = (pdig p).length + 1 := by simp [pdig]
    refine hn p ds σ2 _ hP (by omega) hd (by omega) zw (by omega) z61 (fun τ r ht => ?_)
    obtain ⟨t1, t2, t3, t4, t5, t6, t7, t8, t9⟩ := ht
    refine ⟨fun q => absurd q (by omega), fun _ => ⟨t2, by omega, Or.inr ⟨t8, t9⟩, ?_⟩⟩
    rintro _ rfl
    have n30 : znew6 1 τ 30 (τ 72 0) = 1 := by simp [znew6, zdef6]
    have n72 : znew6 1 τ 72 0 = τ 72 0 + 1 := by simp [znew6]
    refine ⟨by omega, by omega, n30, ?_⟩
    rintro _ rfl
    refine ⟨⟨by simp [zup], by simp [zup], by simp [zup]⟩, ?_⟩
    have V : ∀ f i, zup (znew6 1 τ) 31 (τ 72 0) r f i = if f = 31 ∧ i = τ 72 0 then r else if f = 30 ∧ i = τ 72 0 then 1 else if f = 32 ∧ i = τ 72 0 then -1 else if f = 72 ∧ i = 0 then τ 72 0 + 1 else τ f i := by
      intro f i
      simp only [zup, znew6, zdef6]
      by_cases f2 : f = 31
      · subst f2
        by_cases i1 : i = τ 72 0 <;> simp [i1]
      · by_cases f3 : f = 30
        · subst f3
          by_cases i1 : i = τ 72 0 <;> simp [i1]
        · by_cases f4 : f = 32
          · subst f4
            by_cases i1 : i = τ 72 0 <;> simp [i1]
          · by_cases f5 : f = 72
            · subst f5
              by_cases i1 : i = 0 <;> simp [i1]
            · have g1 : ¬ (30 ≤ f ∧ f ≤ 32 ∧ i = τ 72 0) := by omega
              simp [f2, f3, f4, f5, g1]
    generalize zup (znew6 1 τ) 31 (τ 72 0) r = υ at V
    have us : zsm [30, 31, 32, 61, 62, 72] τ υ := fun f hf => by
      funext i
      simp only [List.mem_cons, List.not_mem_nil, or_false, not_or] at hf
      rw [V, if_neg (by omega), if_neg (by omega), if_neg (by omega), if_neg (by omega)]
    have u72 : υ 72 0 = τ 72 0 + 1 := by simp [V]
    have u31 : ∀ i : Int, υ 31 i = if i = τ 72 0 then r else τ 31 i := fun i => by simp [V]
    have u30 : ∀ i : Int, υ 30 i = if i = τ 72 0 then 1 else τ 30 i := fun i => by simp [V]
    have u32 : ∀ i : Int, i ≠ τ 72 0 → υ 32 i = τ 32 i := fun i hi => by simp [V, hi]
    have keep : ∀ i : Int, 0 ≤ i → i < τ 72 0 → υ 30 i = τ 30 i ∧ υ 31 i = τ 31 i ∧ υ 32 i = τ 32 i := fun i i0 i1 => by
      rw [u30, u31, u32 i (by omega), if_neg (by omega), if_neg (by omega)]
      exact ⟨rfl, rfl, rfl⟩
    refine h υ _ ⟨(zs.trans t1).trans us, znew6_wf (y := 0) t2 (by omega) (Or.inr (Or.inl ⟨rfl, Or.inr ⟨t8, t9⟩⟩)) us u72 u30 u31 u32 (fun q => absurd q (by decide)), by omega, fun i i0 i1 => ?_, ?_, ?_, ?_, by omega, by omega⟩
    · obtain ⟨a1, a2, a3⟩ := zk i i0 i1
      obtain ⟨b1, b2, b3⟩ := t4 i i0 (by omega)
      obtain ⟨c1, c2, c3⟩ := keep i i0 (by omega)
      exact ⟨by omega, by omega, by omega⟩
    · rw [V]
      simp [t5]
    · rw [V]
      simp [t6, z62, ppins]
    · refine ⟨by omega, by omega, ?_, ?_⟩
      · rw [u30, if_pos rfl]
      · rw [u31, if_pos rfl, ← z62]
        exact prep_ext (by omega) keep _ _ _ t7
  · -- a NAND
    intro hd3
    obtain ⟨p, q, rfl, rfl⟩ : ∃ p q, P = .add p q ∧ l = pdig p ++ pdig q := by
      cases P with
      | var i => simp only [pdig, List.cons.injEq] at e; omega
      | neg p => simp only [pdig, List.cons.injEq] at e; omega
      | add p q => simp only [pdig, List.cons.injEq] at e; exact ⟨p, q, rfl, e.2.symm⟩
      | num _ => exact hP.elim
      | sub _ _ => exact hP.elim
      | mulL _ _ => exact hP.elim
      | mulR _ _ => exact hP.elim
    have hl : (pdig (.add p q : Pat)).length = (pdig p).length + (pdig q).length + 1 := by simp [pdig]
    have hq1 : 1 ≤ (pdig q).length := by obtain ⟨_, _, e', _⟩ := pdig_d q hP.2; rw [e']; simp
    have hp1 : 1 ≤ (pdig p).length := by obtain ⟨_, _, e', _⟩ := pdig_d p hP.1; rw [e']; simp
    refine hn p (pdig q ++ ds) σ2 _ hP.1 (by omega) (fun x hx => ?_) (by rw [List.length_append]; omega) zw (by omega) (by rw [z61, List.append_assoc]) (fun τ r ht => ?_)
    · rcases List.mem_append.mp hx with g | g
      · exact pdig_13 q hP.2 x g
      · exact hd x g
    obtain ⟨t1, t2, t3, t4, t5, t6, t7, t8, t9⟩ := ht
    refine ⟨fun q => absurd q (by omega), fun _ => ⟨Or.inr ⟨t8, t9⟩, ?_⟩⟩
    refine hn q ds τ _ hP.2 (by omega) hd (by omega) t2 (by omega) t5 (fun υ s hu => ?_)
    obtain ⟨u1, u2, u3, u4, u5, u6, u7, u8, u9⟩ := hu
    refine ⟨fun q => absurd q (by omega), fun _ => ⟨u2, by omega, Or.inr ⟨u8, u9⟩, Or.inr ⟨t8, by omega⟩, ?_⟩⟩
    rintro _ rfl
    have n30 : znew6 2 υ 30 (υ 72 0) = 2 := by simp [znew6, zdef6]
    have n72 : znew6 2 υ 72 0 = υ 72 0 + 1 := by simp [znew6]
    refine ⟨by omega, by omega, n30, ?_⟩
    rintro _ rfl
    refine ⟨by rw [zup_ne _ _ _ _ (by decide)]; exact n30, ?_⟩
    rintro _ rfl
    refine ⟨⟨by simp [zup], by simp [zup], by simp [zup]⟩, ?_⟩
    have V : ∀ f i, zup (zup (znew6 2 υ) 31 (υ 72 0) r) 32 (υ 72 0) s f i = if f = 31 ∧ i = υ 72 0 then r else if f = 30 ∧ i = υ 72 0 then 2 else if f = 32 ∧ i = υ 72 0 then s else if f = 72 ∧ i = 0 then υ 72 0 + 1 else υ f i := by
      intro f i
      simp only [zup, znew6, zdef6]
      by_cases f2 : f = 31
      · subst f2
        by_cases i1 : i = υ 72 0 <;> simp [i1]
      · by_cases f3 : f = 30
        · subst f3
          by_cases i1 : i = υ 72 0 <;> simp [i1]
        · by_cases f4 : f = 32
          · subst f4
            by_cases i1 : i = υ 72 0 <;> simp [i1]
          · by_cases f5 : f = 72
            · subst f5
              by_cases i1 : i = 0 <;> simp [i1]
            · have g1 : ¬ (30 ≤ f ∧ f ≤ 32 ∧ i = υ 72 0) := by omega
              simp [f2, f3, f4, f5, g1]
    generalize zup (zup (znew6 2 υ) 31 (υ 72 0) r) 32 (υ 72 0) s = ω at V
    have ws : zsm [30, 31, 32, 61, 62, 72] υ ω := fun f hf => by
      funext i
      simp only [List.mem_cons, List.not_mem_nil, or_false, not_or] at hf
      rw [V, if_neg (by omega), if_neg (by omega), if_neg (by omega), if_neg (by omega)]
    have w72 : ω 72 0 = υ 72 0 + 1 := by simp [V]
    have w31 : ∀ i : Int, ω 31 i = if i = υ 72 0 then r else υ 31 i := fun i => by simp [V]
    have w30 : ∀ i : Int, ω 30 i = if i = υ 72 0 then 2 else υ 30 i := fun i => by simp [V]
    have w32' : ∀ i : Int, ω 32 i = if i = υ 72 0 then s else υ 32 i := fun i => by simp [V]
    have w32 : ∀ i : Int, i ≠ υ 72 0 → ω 32 i = υ 32 i := fun i hi => by simp [V, hi]
    have keep : ∀ i : Int, 0 ≤ i → i < υ 72 0 → ω 30 i = υ 30 i ∧ ω 31 i = υ 31 i ∧ ω 32 i = υ 32 i := fun i i0 i1 => by
      rw [w30, w31, w32 i (by omega), if_neg (by omega), if_neg (by omega)]
      exact ⟨rfl, rfl, rfl⟩
    have keep2 : ∀ i : Int, 0 ≤ i → i < τ 72 0 → ω 30 i = τ 30 i ∧ ω 31 i = τ 31 i ∧ ω 32 i = τ 32 i := fun i i0 i1 => by
      obtain ⟨b1, b2, b3⟩ := u4 i i0 (by omega)
      obtain ⟨c1, c2, c3⟩ := keep i i0 (by omega)
      exact ⟨by omega, by omega, by omega⟩
    refine h ω _ ⟨((zs.trans t1).trans u1).trans ws, znew6_wf u2 (by omega) (Or.inr (Or.inr ⟨rfl, Or.inr ⟨t8, by omega⟩, Or.inr ⟨u8, u9⟩⟩)) ws w72 w30 w31 w32 (fun _ => by rw [w32', if_pos rfl]), by omega, fun i i0 i1 => ?_, ?_, ?_, ?_, by omega, by omega⟩
    · obtain ⟨a1, a2, a3⟩ := zk i i0 i1
      obtain ⟨b1, b2, b3⟩ := t4 i i0 (by omega)
      obtain ⟨c1, c2, c3⟩ := keep2 i i0 (by omega)
      exact ⟨by omega, by omega, by omega⟩
    · rw [V]
      simp [u5]
    · rw [V]
      simp [u6, t6, z62, ppins]
      omega
    · refine ⟨by omega, by omega, ?_, ?_, ?_⟩
      · rw [w30, if_pos rfl]
      · rw [w31, if_pos rfl, ← z62]
        exact prep_ext (by omega) keep2 _ _ _ t7
      · rw [w32', if_pos rfl, ← z62, ← t6]
        exact prep_ext (by omega) keep _ _ _ u7
theorem SP_8 : SP wp_CX_parse8 8 := fun P ds σ Q a b c d e f g h => (wpP_8 Q 8 σ).symm ▸ SP_step (nx := wp_CX_parse9) (by decide) SP_9 P ds σ Q a b c d e f g h
theorem SP_7 : SP wp_CX_parse7 7 := fun P ds σ Q a b c d e f g h => (wpP_7 Q 7 σ).symm ▸ SP_step (nx := wp_CX_parse8) (by decide) SP_8 P ds σ Q a b c d e f g h
theorem SP_6 : SP wp_CX_parse6 6 := fun P ds σ Q a b c d e f g h => (wpP_6 Q 6 σ).symm ▸ SP_step (nx := wp_CX_parse7) (by decide) SP_7 P ds σ Q a b c d e f g h
theorem SP_5 : SP wp_CX_parse5 5 := fun P ds σ Q a b c d e f g h => (wpP_5 Q 5 σ).symm ▸ SP_step (nx := wp_CX_parse6) (by decide) SP_6 P ds σ Q a b c d e f g h
theorem SP_4 : SP wp_CX_parse4 4 := fun P ds σ Q a b c d e f g h => (wpP_4 Q 4 σ).symm ▸ SP_step (nx := wp_CX_parse5) (by decide) SP_5 P ds σ Q a b c d e f g h
theorem SP_3 : SP wp_CX_parse3 3 := fun P ds σ Q a b c d e f g h => (wpP_3 Q 3 σ).symm ▸ SP_step (nx := wp_CX_parse4) (by decide) SP_4 P ds σ Q a b c d e f g h
theorem SP_2 : SP wp_CX_parse2 2 := fun P ds σ Q a b c d e f g h => (wpP_2 Q 2 σ).symm ▸ SP_step (nx := wp_CX_parse3) (by decide) SP_3 P ds σ Q a b c d e f g h
theorem SP_1 : SP wp_CX_parse1 1 := fun P ds σ Q a b c d e f g h => (wpP_1 Q 1 σ).symm ▸ SP_step (nx := wp_CX_parse2) (by decide) SP_2 P ds σ Q a b c d e f g h
