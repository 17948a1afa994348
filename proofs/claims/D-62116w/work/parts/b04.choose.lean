/-! x's lay and choose -/
def mk : List Nat := [9, 10, 11, 12, 13, 14, 15, 16, 17, 50, 51, 52, 53, 54, 56, 57, 58, 59, 60]
/-- what is live, pinned and used stands in the state -/
def xr (σ τ : zS) (L : Gr) : Prop := zsm mk σ τ ∧ ∀ i : Int, 0 ≤ i → i < L.length → τ 9 i = ind (LV σ L i) ∧ τ 10 i = ind (pinP σ L i) ∧ τ 12 i = usN σ L i
theorem usN_b (σ : zS) (L : Gr) (i : Int) (hl : L.length ≤ 48) : 0 ≤ usN σ L i ∧ usN σ L i ≤ 48 := by
  have ug := cnt_ge (fun k => LV σ L k ∧ prt σ k i) L.length
  have ul := cnt_le (fun k => LV σ L k ∧ prt σ k i) L.length
  unfold usN
  omega
theorem sx_root {σ τ : zS} {L : Gr} {pt : Int → Pat} {Q : Int → zS → Prop} {n : Int} (h : BW σ L pt) (hr : xr σ τ L) (n0 : 0 ≤ n) (n1 : n < L.length) (hQ : Q (ro σ L n) τ) : wp_ND_root Q n τ := by
  obtain ⟨r1, r2⟩ := hr
  obtain ⟨a1, a2, a3⟩ := r2 n n0 n1
  have e70 := h.e70
  have hn := h.nd n0 n1
  have ub := usN_b σ L n h.len
  have l01 := ind_01 (LV σ L n)
  have p01 := ind_01 (pinP σ L n)
  unfold wp_ND_root
  rw [r1 70 (by decide), r1 1 (by decide), a1, a2, a3]
  have zero : ¬ RT σ L n → Q 0 τ := fun q => by
    unfold ro at hQ
    rw [ind_f q] at hQ
    exact hQ
  have one : RT σ L n → Q 1 τ := fun q => by
    unfold ro at hQ
    rw [ind_t q] at hQ
    exact hQ
  refine ⟨n0, by omega, by omega, by omega, fun q => zero (fun r => ?_), fun q => ⟨by omega, fun q2 => zero (fun r => ?_), fun q2 => ⟨by omega, fun q3 => ⟨by omega, fun q4 => zero (fun r => ?_), fun q4 => one ⟨?_, Or.inr (by omega)⟩⟩, fun q3 => one ⟨?_, Or.inl (ind_eq1.mp (by omega))⟩⟩⟩⟩
  · have := r.1
    unfold lgc at q
    rw [if_pos this] at q
    omega
  · exact ind_eq0.mp q2 r.lv
  · rcases r.2 with r2 | r2
    · exact ind_eq0.mp q3 r2
    · omega
  · exact Classical.byContradiction fun q5 => q (by unfold lgc; rw [if_neg q5])
  · exact Classical.byContradiction fun q5 => q (by unfold lgc; rw [if_neg q5])
theorem ro_01 (σ : zS) (L : Gr) (n : Int) : ro σ L n = 0 ∨ ro σ L n = 1 := ind_01 _
theorem sx_inner {σ τ : zS} {L : Gr} {pt : Int → Pat} {Q : Int → zS → Prop} {n : Int} (h : BW σ L pt) (hr : xr σ τ L) (n0 : 0 ≤ n) (n1 : n < L.length) (h1 : 2 ≤ σ 1 n → ro σ L n = 0 → Q 1 τ) (h0 : ¬ (2 ≤ σ 1 n ∧ ro σ L n = 0) → Q 0 τ) : wp_ND_inner Q n τ := by
  have e70 := h.e70
  have hn := h.nd n0 n1
  have r01 := ro_01 σ L n
  unfold wp_ND_inner
  rw [hr.1 70 (by decide), hr.1 1 (by decide)]
  refine ⟨n0, by omega, by omega, by omega, fun q => h0 (fun r => ?_), fun q => sx_root h hr n0 n1 ⟨by omega, fun q2 => h1 ?_ q2, fun q2 => h0 (fun r => q2 r.2)⟩⟩
  · unfold lgc at q
    rw [if_pos r.1] at q
    omega
  · exact Classical.byContradiction fun q5 => q (by unfold lgc; rw [if_neg q5])
noncomputable abbrev xlS (σ : zS) (L : Gr) (C : Int → Int) : Pat → Int → Int → Int := xl (σ 1) (σ 2) (σ 3) (ro σ L) C
theorem xlS_b {σ : zS} {L : Gr} {D : Int → Prop} {C : Int → Int} (hd : ∀ n, D n → dpt (σ 1) (σ 2) (σ 3) D n) (hC : ∀ n, D n → 2 ≤ σ 1 n → ro σ L n = 0 → 0 ≤ C n ∧ C n ≤ 268435456) (P : Pat) (n t : Int) (hn : D n ∨ (¬ isv P ∧ dpt (σ 1) (σ 2) (σ 3) D n)) : 0 ≤ xlS σ L C P n t ∧ xlS σ L C P n t ≤ 268435456 := xl_b hd hC P n t hn
section
variable {σ τ : zS} {L : Gr} {pt : Int → Pat} {D : Int → Prop}
theorem sx_lay (h : BW σ L pt) (hr : xr σ τ L) (hD : ∀ n, D n → 0 ≤ n ∧ n < L.length) (hd : ∀ n, D n → dpt (σ 1) (σ 2) (σ 3) D n) (hC : ∀ n, D n → 2 ≤ σ 1 n → ro σ L n = 0 → 0 ≤ τ 13 n ∧ τ 13 n ≤ 268435456) : ∀ (P : Pat) (d : Nat) (j b n t : Int) (Q : Int → zS → Prop), pok P → (pdig P).length ≤ d → prep σ P j b → 0 ≤ n → n < L.length → D n ∨ (¬ isv P ∧ dpt (σ 1) (σ 2) (σ 3) D n) → zc t → Q (xlS σ L (τ 13) P n t) τ → wp_lay d Q j n t τ
  | .var _, 0, _, _, _, _, _, _, hd, _, _, _, _, _, _ => by simp [pdig] at hd
  | .neg _, 0, _, _, _, _, _, _, hd, _, _, _, _, _, _ => by simp [pdig] at hd
  | .add _ _, 0, _, _, _, _, _, _, hd, _, _, _, _, _, _ => by simp [pdig] at hd
  | .var _, d + 1, j, b, n, t, Q, _, _, ⟨a1, a2, a3, a4⟩, n0, n1, hn, ht, hQ => by
    have e70 := h.e70
    have k72 := hr.1 72 (by decide)
    have k30 := hr.1 30 (by decide)
    have k70 := hr.1 70 (by decide)
    refine ⟨a1, by rw [k72]; exact a2, Or.inl ⟨by rw [k30]; exact a3, a1, by rw [k72]; exact a2, n0, by rw [k70]; omega, sx_inner h hr n0 n1 (fun q1 q2 => ⟨by decide, fun q3 => absurd q3 (by decide), fun _ => ⟨n0, by rw [k70]; omega, ?_⟩⟩) (fun q => ⟨by decide, fun _ => ?_, fun q3 => absurd rfl q3⟩)⟩⟩
    · simp only [xlS, xl] at hQ
      rw [if_pos ⟨q1, q2⟩] at hQ
      exact hQ
    · simp only [xlS, xl] at hQ
      rw [if_neg q] at hQ
      exact hQ
  | .neg p, d + 1, j, b, n, t, Q, hp, hlen, ⟨a1, a2, a3, a4⟩, n0, n1, hn, ht, hQ => by
    have e70 := h.e70
    have k72 := hr.1 72 (by decide)
    have k30 := hr.1 30 (by decide)
    have k31 := hr.1 31 (by decide)
    have k70 := hr.1 70 (by decide)
    have k1 := hr.1 1 (by decide)
    have k2 := hr.1 2 (by decide)
    have nd := h.nd n0 n1
    have hn' : dpt (σ 1) (σ 2) (σ 3) D n := hn.elim (hd n) (fun q => q.2)
    have r01 := ro_01 σ L n
    have go : σ 1 n = 3 → (t ≠ 0 ∨ ro σ L n = 0) → bk_IN_lay_26 (wp_lay d) Q j n τ := fun q1 q2 => by
      unfold bk_IN_lay_26
      rw [k72, k30, k70, k31, k2]
      have dx := hn'.2 q1
      refine ⟨a1, a2, a3, n0, by omega, sx_lay h hr hD hd hC p d _ b _ 0 _ hp (by simp [pdig] at hlen; omega) a4 (hD _ dx).1 (hD _ dx).2 (Or.inl dx) (by decide) ?_⟩
      simp only [xlS, xl] at hQ
      rw [if_pos ⟨q1, q2⟩] at hQ
      exact hQ
    have no : ¬ (σ 1 n = 3 ∧ (t ≠ 0 ∨ ro σ L n = 0)) → Q 268435456 τ := fun q => by
      simp only [xlS, xl] at hQ
      rw [if_neg q] at hQ
      exact hQ
    refine ⟨a1, by rw [k72]; exact a2, Or.inr (Or.inl ⟨by rw [k30]; exact a3, ?_⟩)⟩
    unfold wp_IN_lay
    rw [k72, k70, k1]
    refine ⟨a1, a2, n0, by omega, by omega, by omega, fun q1 => ⟨ht, fun q2 => sx_root h hr n0 n1 ⟨by omega, fun q3 => go q1 (Or.inr q3), fun q3 => no (fun q4 => by omega)⟩, fun q2 => go q1 (Or.inl q2)⟩, fun q1 => no (fun q4 => q1 q4.1)⟩
  | .add p q, d + 1, j, b, n, t, Q, hp, hlen, ⟨a1, a2, a3, a4, a5⟩, n0, n1, hn, ht, hQ => by
    have e70 := h.e70
    have k72 := hr.1 72 (by decide)
    have k30 := hr.1 30 (by decide)
    have k31 := hr.1 31 (by decide)
    have k32 := hr.1 32 (by decide)
    have k70 := hr.1 70 (by decide)
    have k1 := hr.1 1 (by decide)
    have k2 := hr.1 2 (by decide)
    have k3 := hr.1 3 (by decide)
    have nd := h.nd n0 n1
    have hn' : dpt (σ 1) (σ 2) (σ 3) D n := hn.elim (hd n) (fun q => q.2)
    have r01 := ro_01 σ L n
    have hl1 : (pdig p).length ≤ d := by simp [pdig] at hlen; omega
    have hl2 : (pdig q).length ≤ d := by simp [pdig] at hlen; omega
    have go : σ 1 n = 2 → (t ≠ 0 ∨ ro σ L n = 0) → bk_NA_lay_24 (wp_lay d) Q j n τ := fun q1 q2 => by
      obtain ⟨dx, dy⟩ := hn'.1 q1
      have b1 := xl_b hd hC p (σ 2 n) 0 (Or.inl dx)
      have b2 := xl_b hd hC q (σ 3 n) 0 (Or.inl dy)
      have b3 := xl_b hd hC p (σ 3 n) 0 (Or.inl dy)
      have b4 := xl_b hd hC q (σ 2 n) 0 (Or.inl dx)
      have g1 := xlS_b hd hC p (σ 2 n) 0 (Or.inl dx)
      have g2 := xlS_b hd hC q (σ 3 n) 0 (Or.inl dy)
      have g3 := xlS_b hd hC p (σ 3 n) 0 (Or.inl dy)
      have g4 := xlS_b hd hC q (σ 2 n) 0 (Or.inl dx)
      refine ⟨a1, by rw [k72]; exact a2, by rw [k30]; exact a3, ?_⟩
      unfold wp_NA_straight
      rw [k72, k30, k70, k31, k2]
      refine ⟨a1, a2, a3, n0, by omega, sx_lay h hr hD hd hC p d _ b _ 0 _ hp.1 hl1 a4 (hD _ dx).1 (hD _ dx).2 (Or.inl dx) (by decide) ?_⟩
      rw [k72, k30, k70, k32, k3]
      refine ⟨a1, a2, a3, n0, by omega, sx_lay h hr hD hd hC q d _ _ _ 0 _ hp.2 hl2 a5 (hD _ dy).1 (hD _ dy).2 (Or.inl dy) (by decide) ⟨by omega, ?_⟩⟩
      refine ⟨a1, by rw [k72]; exact a2, by rw [k30]; exact a3, ?_⟩
      unfold wp_NA_swapped
      rw [k72, k30, k70, k31, k3]
      refine ⟨a1, a2, a3, n0, by omega, sx_lay h hr hD hd hC p d _ b _ 0 _ hp.1 hl1 a4 (hD _ dy).1 (hD _ dy).2 (Or.inl dy) (by decide) ?_⟩
      rw [k72, k30, k70, k32, k2]
      refine ⟨a1, a2, a3, n0, by omega, sx_lay h hr hD hd hC q d _ _ _ 0 _ hp.2 hl2 a5 (hD _ dx).1 (hD _ dx).2 (Or.inl dx) (by decide) ⟨by omega, ?_⟩⟩
      have s1 : zc (xst (σ 1) (σ 2) (σ 3) (ro σ L) (τ 13) p q n) := by
        simp only [xst]
        split <;> omega
      have s2 : zc (xsw (σ 1) (σ 2) (σ 3) (ro σ L) (τ 13) p q n) := by
        simp only [xsw]
        split <;> omega
      rw [xlS, xl_add, if_pos ⟨q1, q2⟩] at hQ
      exact ⟨s1, s2, hQ⟩
    have no : ¬ (σ 1 n = 2 ∧ (t ≠ 0 ∨ ro σ L n = 0)) → Q 268435456 τ := fun q' => by
      rw [xlS, xl_add, if_neg q'] at hQ
      exact hQ
    refine ⟨a1, by rw [k72]; exact a2, Or.inr (Or.inr ⟨by rw [k30]; exact a3, ?_⟩)⟩
    unfold wp_NA_lay
    rw [k72, k70, k1]
    refine ⟨a1, a2, n0, by omega, by omega, by omega, fun q1 => ⟨ht, fun q2 => sx_root h hr n0 n1 ⟨by omega, fun q3 => go q1 (Or.inr q3), fun q3 => no (fun q4 => by omega)⟩, fun q2 => go q1 (Or.inl q2)⟩, fun q1 => no (fun q4 => q1 q4.1)⟩
  | .num _, _, _, _, _, _, _, hp, _, _, _, _, _, _, _ => hp.elim
  | .sub _ _, _, _, _, _, _, _, hp, _, _, _, _, _, _, _ => hp.elim
  | .mulL _ _, _, _, _, _, _, _, hp, _, _, _, _, _, _, _ => hp.elim
  | .mulR _ _, _, _, _, _, _, _, hp, _, _, _, _, _, _, _ => hp.elim
end
theorem isv_of {P : Pat} (hp : pok P) (hv : P ≠ .var 0) : ¬ isv P := by
  cases P with
  | var i => exact absurd (congrArg _ hp) hv
  | neg _ => exact id
  | add _ _ => exact id
  | num _ => exact id
  | sub _ _ => exact id
  | mulL _ _ => exact id
  | mulR _ _ => exact id
/-- what laying cell c on n costs -/
noncomputable def cv (σ : zS) (L : Gr) (pt : Int → Pat) (C : Int → Int) (n c : Int) : Int := if σ 22 c + xlS σ L C (pt c) n 1 < 268435456 then σ 22 c + xlS σ L C (pt c) n 1 else 268435456
theorem sx_choose {σ τ : zS} {L : Gr} {pt : Int → Pat} {D : Int → Prop} {Q : zS → Prop} {n : Int} (h : BW σ L pt) (hr : xr σ τ L) (hD : ∀ n, D n → 0 ≤ n ∧ n < L.length) (hd : ∀ n, D n → dpt (σ 1) (σ 2) (σ 3) D n) (hC : ∀ n, D n → 2 ≤ σ 1 n → ro σ L n = 0 → 0 ≤ τ 13 n ∧ τ 13 n ≤ 268435456) (n0 : 0 ≤ n) (n1 : n < L.length) (hn : dpt (σ 1) (σ 2) (σ 3) D n) (hnD : ¬ D n) (hQ : ∀ υ, zsm [13, 14] τ υ → (∀ i : Int, i ≠ n → υ 13 i = τ 13 i ∧ υ 14 i = τ 14 i) → (∀ c : Int, 0 ≤ c → c < σ 40 5 → υ 13 n ≤ cv σ L pt (τ 13) n c) → ((υ 13 n = 268435456 ∧ υ 14 n = τ 14 n) ∨ (0 ≤ υ 14 n ∧ υ 14 n < σ 40 5 ∧ υ 13 n = cv σ L pt (τ 13) n (υ 14 n) ∧ υ 13 n < 268435456 ∧ ∀ c : Int, 0 ≤ c → c < υ 14 n → υ 13 n < cv σ L pt (τ 13) n c)) → Q υ) : wp_CX_choose Q n τ := by
  have e70 := h.e70
  have c0 := h.c0
  have c1 := h.c1
  have c3 := h.c3
  refine ⟨n0, by rw [hr.1 70 (by decide)]; omega, ?_⟩
  rintro _ rfl
  refine lp_for (lp := fun m v a => lp_CX_choose_8 Q m n v a) (fun v υ => 0 ≤ v ∧ zsm [13, 14] τ υ ∧ (∀ i : Int, i ≠ n → υ 13 i = τ 13 i ∧ υ 14 i = τ 14 i) ∧ (∀ c : Int, 0 ≤ c → c < v → υ 13 n ≤ cv σ L pt (τ 13) n c) ∧ ((υ 13 n = 268435456 ∧ υ 14 n = τ 14 n) ∨ (0 ≤ υ 14 n ∧ υ 14 n < v ∧ υ 13 n = cv σ L pt (τ 13) n (υ 14 n) ∧ υ 13 n < 268435456 ∧ ∀ c : Int, 0 ≤ c → c < υ 14 n → υ 13 n < cv σ L pt (τ 13) n c))) (σ 40 5) (fun m v υ hv hI nx => ?_) 0 _ c0 ⟨by omega, zsm_up (by decide), fun i hi => ⟨zup_ni _ _ _ hi, zup_ne _ _ _ _ (by decide)⟩, fun c q0 q1 => absurd q1 (by omega), Or.inl ⟨zup_at _ _ _ _, zup_ne _ _ _ _ (by decide)⟩⟩
  obtain ⟨v0, us, hi, hle, hbest⟩ := hI
  have U : zsm mk σ υ := hr.1.trans (us.mono (by decide))
  have ur : xr σ υ L := ⟨U, fun i i0 i1 => by rw [us 9 (by decide), us 10 (by decide), us 12 (by decide)]; exact hr.2 i i0 i1⟩
  unfold lp_CX_choose_8
  rw [U 40 (by decide), U 46 (by decide), U 71 (by decide)]
  refine ⟨by omega, by omega, fun q => ?_, fun q => ?_⟩
  · have hv5 : v = σ 40 5 := by omega
    subst hv5
    exact hQ υ us hi hle hbest
  · have ce := h.cel v v0 (by omega)
    obtain ⟨a1, a2, a3, a4, a5, a6⟩ := h.cpt v v0 (by omega)
    rw [ce.1]
    refine ⟨v0, by omega, v0, by omega, ?_⟩
    intro y hy
    rw [hy, U 22 (by decide), U 25 (by decide)]
    have hCu : ∀ i, D i → 2 ≤ σ 1 i → ro σ L i = 0 → 0 ≤ υ 13 i ∧ υ 13 i ≤ 268435456 := fun i di k1 k2 => by
      rw [(hi i (fun e => hnD (by rw [← e]; exact di))).1]
      exact hC i di k1 k2
    have hnv : D n ∨ (¬ isv (pt v) ∧ dpt (σ 1) (σ 2) (σ 3) D n) := Or.inr ⟨isv_of a1 a2, hn⟩
    refine sx_lay h ur hD hd hCu (pt v) 8 _ 0 n 1 _ a1 (by omega) a6 n0 n1 hnv (by decide) ?_
    have ex : xlS σ L (υ 13) (pt v) n 1 = xlS σ L (τ 13) (pt v) n 1 := xl_congr hd (fun i di _ _ => (hi i (fun e => hnD (by rw [← e]; exact di))).1) (pt v) n 1 hnv
    have xb := xlS_b hd hC (pt v) n 1 hnv
    rw [ex]
    refine ⟨by omega, ?_⟩
    intro y2 hy2
    have hy3 : y2 = cv σ L pt (τ 13) n v := hy2
    have yb : 0 ≤ y2 ∧ y2 ≤ 268435456 := by
      rw [hy2]
      split <;> omega
    have ub : υ 13 n ≤ 268435456 ∧ 0 ≤ υ 13 n := by
      rcases hbest with q1 | q1
      · omega
      · have e2 := q1.2.2.1
        have ce2 := h.cel (υ 14 n) q1.1 (by omega)
        obtain ⟨g1, g2, -⟩ := h.cpt (υ 14 n) q1.1 (by omega)
        have xb2 := xlS_b hd hC (pt (υ 14 n)) n 1 (Or.inr ⟨isv_of g1 g2, hn⟩)
        unfold cv at e2
        split at e2 <;> omega
    refine ⟨n0, by rw [U 70 (by decide)]; omega, by omega, by omega, fun q2 => nx (by omega) υ ⟨by omega, us, hi, fun c q0 q1 => ?_, ?_⟩, fun q2 => ?_⟩
    · by_cases e : c = v
      · rw [e, ← hy3]; exact q2
      · exact hle c q0 (by omega)
    · rcases hbest with q1 | q1
      · exact Or.inl q1
      · exact Or.inr ⟨q1.1, by omega, q1.2.2⟩
    · rintro _ rfl _ rfl
      have z13 : ∀ i : Int, zup (zup υ 13 n y2) 14 n v 13 i = if i = n then y2 else υ 13 i := fun i => by rw [zup_ne _ _ _ _ (by decide), zup_or]
      have z14 : ∀ i : Int, zup (zup υ 13 n y2) 14 n v 14 i = if i = n then v else υ 14 i := fun i => by rw [zup_or, zup_ne _ _ _ _ (by decide)]
      refine nx (by omega) _ ⟨by omega, (us.up (by decide)).up (by decide), fun i hin => ?_, fun c q0 q1 => ?_, Or.inr ?_⟩
      · rw [z13, z14, if_neg hin, if_neg hin]
        exact hi i hin
      · rw [z13, if_pos rfl]
        by_cases e : c = v
        · rw [e, ← hy3]; exact Int.le_refl _
        · have := hle c q0 (by omega)
          omega
      · rw [z13, z14, if_pos rfl, if_pos rfl]
        refine ⟨v0, by omega, hy3, by omega, fun c q0 q1 => ?_⟩
        have := hle c q0 q1
        omega
