/-! heap rows for the model's object and arrays; calls and returns that make nothing -/
theorem zids_eq {σ τ : zS} (h7 : τ 47 = σ 47) (h0 : τ 70 = σ 70) (h1 : τ 71 = σ 71) (h2 : τ 72 = σ 72) : zids τ = zids σ := by simp only [zids, h7, h0, h1, h2]
theorem zids_sort {σ : zS} {t : zT} (h : t ∈ zids σ) : t.1 ≤ 7 := by
  simp only [zids, List.mem_append, List.mem_map] at h
  rcases h with (((h | ⟨_, _, rfl⟩) | ⟨_, _, rfl⟩) | ⟨_, _, rfl⟩) | ⟨_, _, rfl⟩
  · have : ∀ t ∈ zfix, t.1 ≤ 7 := by decide +kernel
    exact this t h
  all_goals simp
theorem zids_zero {σ : zS} {i : Nat} (h : (0, i) ∈ zids σ) : i ≤ 3 := by
  simp only [zids, List.mem_append, List.mem_map] at h
  rcases h with (((h | ⟨_, _, q⟩) | ⟨_, _, q⟩) | ⟨_, _, q⟩) | ⟨_, _, q⟩
  · have : ∀ t ∈ zfix, t.1 = 0 → t.2 ≤ 3 := by decide +kernel
    exact this _ h rfl
  all_goals cases q
theorem zids_two {σ : zS} {i : Nat} (h : (2, i) ∈ zids σ) : i < 6 ∧ 0 < σ 47 i := by
  simp only [zids, List.mem_append, List.mem_map] at h
  rcases h with (((h | ⟨j, hj, q⟩) | ⟨_, _, q⟩) | ⟨_, _, q⟩) | ⟨_, _, q⟩
  · have : ∀ t ∈ zfix, t.1 ≠ 2 := by decide +kernel
    exact absurd rfl (this _ h)
  · cases q
    have := List.mem_filter.mp hj
    exact ⟨List.mem_range.mp this.1, by simpa using this.2⟩
  all_goals cases q
/-- which families a cell is made of -/
def fam (t : zT) (k : Nat) : Prop := match t.1 with
  | 0 => (match t.2 with
    | 0 => 56 ≤ k ∧ k ≤ 60
    | 1 => False
    | 2 => k = 61 ∨ k = 62
    | _ => 100 ≤ k)
  | 1 => k = 40 ∨ k = 47 ∨ k = 48
  | 2 => k = 47 ∨ k = 41 + t.2
  | 3 => 50 ≤ k ∧ k ≤ 54
  | 4 => k < 18
  | 5 => 20 ≤ k ∧ k ≤ 25
  | 6 => 30 ≤ k ∧ k ≤ 32
  | _ => 100 ≤ k
theorem ct_fam {g : zG} {ad : zA} {σ τ : zS} {t : zT} (h : ∀ k, fam t k → τ k = σ k) : ct g ad τ t = ct g ad σ t := by
  obtain ⟨a, b⟩ := t
  rcases a with _ | _ | _ | _ | _ | _ | _ | a
  · rcases b with _ | _ | _ | b
    · have e : ∀ q ∈ xtab, q.1 = none → 56 ≤ q.2 ∧ q.2 ≤ 60 := by decide
      simp only [ct, ctX]
      congr 2
      apply List.map_congr_left
      intro q hq
      cases hn : q.1 with
      | some t => rfl
      | none => simp only [h q.2 (e q hq hn)]
    · rfl
    · simp only [ct, h 61 (Or.inl rfl), h 62 (Or.inr rfl)]
    · simp only [ct, ctM]
      congr 2
      apply List.map_congr_left
      intro j _
      rw [h (100 + j) (by show 100 ≤ 100 + j; omega)]
  · simp only [ct, ctL, h 47 (Or.inr (Or.inl rfl)), h 40 (Or.inl rfl), h 48 (Or.inr (Or.inr rfl))]
  · simp only [ct, ctE, h 47 (Or.inl rfl), h (41 + b) (Or.inr rfl)]
  · have e : ∀ k, 50 ≤ k → k ≤ 54 → τ k = σ k := fun k h1 h2 => h k ⟨h1, h2⟩
    rcases b with _ | _ | _ | _ | b <;> simp only [ct, ctY, e 50 (by decide) (by decide), e 51 (by decide) (by decide), e 52 (by decide) (by decide), e 53 (by decide) (by decide), e 54 (by decide) (by decide)]
  · simp only [ct, ctN]
    congr 2
    apply List.map_congr_left
    intro f hf
    rw [h f (List.mem_range.mp hf)]
  · simp only [ct, ctC]
    congr 2
    apply List.map_congr_left
    intro f hf
    have := List.mem_range.mp hf
    rw [h (20 + f) ⟨by omega, by omega⟩]
  · have e : ∀ k, 30 ≤ k → k ≤ 32 → τ k = σ k := fun k h1 h2 => h k ⟨h1, h2⟩
    simp only [ct, ctP, e 30 (by decide) (by decide), e 31 (by decide) (by decide), e 32 (by decide) (by decide)]
  · simp only [ct, ctA, h (100 + b) (by show 100 ≤ 100 + b; omega)]
/-- cells of CellMapper's side read no family of the model's -/
theorem fam_lo {t : zT} {k : Nat} (h7 : t.1 ≤ 6) (h3 : t.1 = 0 → t.2 ≤ 2) (h2 : t.1 = 2 → t.2 < 6) (hk : fam t k) : k < 100 := by
  obtain ⟨a, b⟩ := t
  dsimp only at h7 h3 h2
  rcases a with _ | _ | _ | _ | _ | _ | _ | a
  · rcases b with _ | _ | _ | b
    · have : 56 ≤ k ∧ k ≤ 60 := hk
      omega
    · exact hk.elim
    · have : k = 61 ∨ k = 62 := hk
      omega
    · have := h3 rfl
      omega
  · have : k = 40 ∨ k = 47 ∨ k = 48 := hk
    omega
  · have : k = 47 ∨ k = 41 + b := hk
    have := h2 rfl
    omega
  · have : 50 ≤ k ∧ k ≤ 54 := hk
    omega
  · have : k < 18 := hk
    omega
  · have : 20 ≤ k ∧ k ≤ 25 := hk
    omega
  · have : 30 ≤ k ∧ k ≤ 32 := hk
    omega
  · omega
theorem ctM_arr {ad : zA} {σ : zS} {j : Nat} (hj : j < 51) (h : (mAr j).isSome = true) : (ctM ad σ)[j]? = some (.ref (ad (7, j))) := by
  rw [ctM, List.getElem?_map, List.getElem?_range hj]
  obtain ⟨x, hx⟩ := Option.isSome_iff_exists.mp h
  simp only [Option.map_some, hx]
theorem ctM_num {ad : zA} {σ : zS} {j : Nat} (hj : j < 51) (h : mAr j = none) : (ctM ad σ)[j]? = some (.int (zi (σ (100 + j) 0))) := by
  rw [ctM, List.getElem?_map, List.getElem?_range hj]
  simp only [Option.map_some, h]
theorem ctM_set {ad : zA} {σ : zS} {j : Nat} (hj : j < 51) (h : mAr j = none) (v : Int) : ctM ad (zup σ (100 + j) 0 v) = (ctM ad σ).set j (.int (zi v)) := by
  apply List.ext_getElem?
  intro i
  have hl : (ctM ad σ).length = 51 := by simp [ctM]
  by_cases hi : i = j
  · subst hi
    rw [List.getElem?_set_self (by omega), ctM_num hj h, zup_at]
  · rw [List.getElem?_set_ne (Ne.symm hi)]
    simp only [ctM, List.getElem?_map]
    cases hr : (List.range 51)[i]? with
    | none => rfl
    | some i' =>
      have : i' = i := by
        have h2 := List.getElem?_eq_some_iff.mp hr
        obtain ⟨h3, h4⟩ := h2
        rw [List.getElem_range] at h4
        exact h4.symm
      subst this
      simp only [Option.map_some, zup_ne σ 0 v 0 (show 100 + i' ≠ 100 + j by omega)]
theorem ct_marr_ne {g : zG} {ad : zA} {σ : zS} {j : Nat} {i v : Int} (hj : (mAr j).isSome = true) {t : zT} (ht : t ∈ zids σ) (hne : t ≠ (7, j)) : ct g ad (zup σ (100 + j) i v) t = ct g ad σ t := by
  have hz := zids_sort ht
  obtain ⟨a, b⟩ := t
  by_cases h7 : a = 7
  · subst h7
    have hb : b ≠ j := fun q => hne (by rw [q])
    show ctA g _ b = ctA g σ b
    simp only [ctA, zup_f σ i v (show 100 + b ≠ 100 + j by omega)]
  by_cases h0 : a = 0 ∧ b = 3
  · obtain ⟨rfl, rfl⟩ := h0
    show Sum.inr (9, ctM ad _) = Sum.inr (9, ctM ad σ)
    simp only [ctM]
    congr 2
    apply List.map_congr_left
    intro b _
    by_cases hb : b = j
    · subst hb
      obtain ⟨x, hx⟩ := Option.isSome_iff_exists.mp hj
      simp only [hx]
    · rw [zup_f σ i v (show 100 + b ≠ 100 + j by omega)]
  · refine ct_fam (fun k hk => zup_f σ i v (Nat.ne_of_lt (Nat.lt_of_lt_of_le (fam_lo (t := (a, b)) (by dsimp only at hz ⊢; omega) (fun q => ?_) (fun q => ?_) hk) (Nat.le_add_right 100 j))))
    · dsimp only at q ⊢
      subst q
      have := zids_zero ht
      omega
    · dsimp only at q ⊢
      subst q
      exact (zids_two ht).1
theorem ct_mnum_ne {g : zG} {ad : zA} {σ : zS} {j : Nat} {v : Int} (hj : mAr j = none) {t : zT} (ht : t ∈ zids σ) (hne : t ≠ (0, 3)) : ct g ad (zup σ (100 + j) 0 v) t = ct g ad σ t := by
  have hz := zids_sort ht
  obtain ⟨a, b⟩ := t
  by_cases h7 : a = 7
  · subst h7
    show ctA g _ b = ctA g σ b
    by_cases hb : b = j
    · subst hb
      simp only [ctA, hj]
    · simp only [ctA, zup_f σ 0 v (show 100 + b ≠ 100 + j by omega)]
  · refine ct_fam (fun k hk => zup_f σ 0 v (Nat.ne_of_lt (Nat.lt_of_lt_of_le (fam_lo (t := (a, b)) (by dsimp only at hz ⊢; omega) (fun q => ?_) (fun q => ?_) hk) (Nat.le_add_right 100 j))))
    · dsimp only at q ⊢
      subst q
      have := zids_zero ht
      have : b ≠ 3 := fun q => hne (by rw [q])
      omega
    · dsimp only at q ⊢
      subst q
      exact (zids_two ht).1
theorem zids_hi {σ : zS} {k : Nat} {i v : Int} (hk : 100 ≤ k) : zids (zup σ k i v) = zids σ := zids_eq (zup_f σ i v (by omega)) (zup_f σ i v (by omega)) (zup_f σ i v (by omega)) (zup_f σ i v (by omega))
theorem zLs_eq {σ τ : zS} (hl : ∀ k, 40 ≤ k → k ≤ 47 → τ k = σ k) (h : zLs σ) : zLs τ := by
  intro l hl6
  rw [hl 40 (by omega) (by omega), hl 47 (by omega) (by omega), hl (41 + l) (by omega) (by omega)]
  exact h l hl6
theorem zD_ids {A : Nat → Prop} {ad : zA} {σ τ : zS} (h : zids τ = zids σ) (hl : ∀ k, 40 ≤ k → k ≤ 47 → τ k = σ k) (hD : zD A ad σ) : zD A ad τ := by
  unfold zD
  rw [h]
  exact ⟨hD.1, hD.2.1, hD.2.2.1, zLs_eq hl hD.2.2.2⟩
theorem zD_hi {A : Nat → Prop} {ad : zA} {σ : zS} {k : Nat} {i v : Int} (hk : 100 ≤ k) (hD : zD A ad σ) : zD A ad (zup σ k i v) := zD_ids (zids_hi hk) (fun k' _ _ => zup_f σ i v (by omega)) hD
