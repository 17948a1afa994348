/-! CellMapper's cells by their families -/
theorem ctN_at {g : zG} {ad : zA} {σ : zS} {e : Int} {f : Nat} (hf : f < 18) (h0 : 0 ≤ e) : (ctN g ad σ e.toNat)[f]? = some (nv g ad f (σ f e)) := by
  rw [ctN, List.getElem?_map, List.getElem?_range hf, Int.toNat_of_nonneg h0]
  rfl
theorem ctN_set {g : zG} {ad : zA} {σ : zS} {e : Int} {f : Nat} (hf : f < 18) (h0 : 0 ≤ e) (v : Int) : ctN g ad (zup σ f e v) e.toNat = (ctN g ad σ e.toNat).set f (nv g ad f v) := by
  apply List.ext_getElem?
  intro i
  have hl : (ctN g ad σ e.toNat).length = 18 := by simp [ctN]
  by_cases hi : i = f
  · subst hi
    rw [List.getElem?_set_self (by omega), ctN_at hf h0, zup_at]
  · rw [List.getElem?_set_ne (Ne.symm hi)]
    by_cases h18 : i < 18
    · rw [ctN_at h18 h0, ctN_at h18 h0, zup_ne σ e v e hi]
    · rw [List.getElem?_eq_none (by simp [ctN]; omega), List.getElem?_eq_none (by omega)]
theorem ctC_at {ad : zA} {σ : zS} {e : Int} {f : Nat} (hf : f < 6) (h0 : 0 ≤ e) : (ctC ad σ e.toNat)[f]? = some (cv ad f (σ (20 + f) e)) := by
  rw [ctC, List.getElem?_map, List.getElem?_range hf, Int.toNat_of_nonneg h0]
  rfl
theorem ct_node_ne {g : zG} {ad : zA} {σ : zS} {e v : Int} {f : Nat} (hf : f < 18) (h0 : 0 ≤ e) {u : zT} (hu : u ∈ zids σ) (hne : u ≠ (4, e.toNat)) : ct g ad (zup σ f e v) u = ct g ad σ u := by
  have hz := zids_sort hu
  obtain ⟨a, b⟩ := u
  by_cases h4 : a = 4
  · subst h4
    have hb : b ≠ e.toNat := fun q => hne (by rw [q])
    show Sum.inr (4, ctN g ad _ b) = Sum.inr (4, ctN g ad σ b)
    simp only [ctN]
    congr 2
    apply List.map_congr_left
    intro i _
    by_cases hi : i = f
    · subst hi
      rw [zup_ni σ i v (show (b : Int) ≠ e by omega)]
    · rw [zup_ne σ e v b hi]
  · refine ct_fam (fun k hk => zup_f σ e v ?_)
    rcases a with _ | _ | _ | _ | _ | _ | _ | a
    · rcases b with _ | _ | _ | b
      · have : 56 ≤ k ∧ k ≤ 60 := hk
        omega
      · exact hk.elim
      · have : k = 61 ∨ k = 62 := hk
        omega
      · have : 100 ≤ k := hk
        omega
    · have : k = 40 ∨ k = 47 ∨ k = 48 := hk
      omega
    · have : k = 47 ∨ k = 41 + b := hk
      omega
    · have : 50 ≤ k ∧ k ≤ 54 := hk
      omega
    · omega
    · have : 20 ≤ k ∧ k ≤ 25 := hk
      omega
    · have : 30 ≤ k ∧ k ≤ 32 := hk
      omega
    · have : 100 ≤ k := hk
      omega
/-- families whose change moves no cell's being there -/
theorem zids_up {σ : zS} {k : Nat} {i v : Int} (h1 : k ≠ 47) (h2 : k ≠ 70) (h3 : k ≠ 71) (h4 : k ≠ 72) : zids (zup σ k i v) = zids σ := zids_eq (zup_f σ i v (Ne.symm h1)) (zup_f σ i v (Ne.symm h2)) (zup_f σ i v (Ne.symm h3)) (zup_f σ i v (Ne.symm h4))
/-- a family of one cell alone -/
theorem ct_only {g : zG} {ad : zA} {σ : zS} {i v : Int} {k : Nat} (t : zT) (hk : ∀ u : zT, fam u k → u.1 ≤ 7 → (u.1 = 0 → u.2 ≤ 3) → (u.1 = 3 → False) → u = t) {u : zT} (hu : u ∈ zids σ) (h3 : u.1 ≠ 3) (hne : u ≠ t) : ct g ad (zup σ k i v) u = ct g ad σ u := by
  refine ct_fam (fun k' hk' => zup_f σ i v (fun q => ?_))
  subst q
  refine hne (hk u hk' (zids_sort hu) (fun q => ?_) h3)
  obtain ⟨a, b⟩ := u
  dsimp only at q
  subst q
  exact zids_zero hu
section ZH
variable {E : zE} {k n pc : Nat} {L L' : List (Nat × Value)} {st : List Value} {σ : zS} {cc : ByteArray} {own : String} {D : va_G} {g : zG} {rm : Room} {nl : Nat} {A : Nat → Prop} {ad : zA}
theorem x_getN {e : Int} {index : Nat} {v : Value} (C : zX E cc own D g rm nl) (f : Nat) (hf : f < 18) (h0 : 0 ≤ e) (h1 : e < σ 70 0) (hv : nv g ad f (σ f e) = v) (hlink : Cond.fieldLink own index R_ND (F_ND f).2.1 (F_ND f).2.2.1 ∈ lw_g) (d : decode cc pc = .ok (.getfield index, 3))
    (kk : zW E (zOK D A (zst E) g ad) k n (pc + 3) L (v :: st) σ) : zW E (zOK D A (zst E) g ad) k n pc L (zr ad 4 e :: st) σ := by
  have hd : ∀ j, j < 18 → (F_ND j).1 = R_ND := by decide +kernel
  rw [zr_s ad 4 h0]
  exact g_get (T := F_ND) (ci := 4) C (zids_node h0 h1) rfl rfl i_ND hf (hd f hf) hlink (by rw [ctN_at hf h0, hv]) d kk
theorem x_putN {e v : Int} {index : Nat} {w : Value} (C : zX E cc own D g rm nl) (f : Nat) (hf : f < 18) (h0 : 0 ≤ e) (h1 : e < σ 70 0) (hv : nv g ad f v = w) (hn : narrow (t_ND f) w = w ∧ fits (t_ND f) w = true) (hfin : (F_ND f).2.2.2 = false) (hlink : Cond.fieldLink own index R_ND (F_ND f).2.1 (F_ND f).2.2.1 ∈ lw_g) (d : decode cc pc = .ok (.putfield index, 3))
    (kk : zW E (zOK D A (zst E) g ad) k n (pc + 3) L st (zup σ f e v)) : zW E (zOK D A (zst E) g ad) k n pc L (w :: zr ad 4 e :: st) σ := by
  have hd : ∀ j, j < 18 → (F_ND j).1 = R_ND := by decide +kernel
  rw [zr_s ad 4 h0]
  refine g_put (T := F_ND) (ci := 4) (ty := t_ND) C (zids_node h0 h1) rfl rfl i_ND t_ND_ok n_ND hf (hd f hf) hlink hfin hn (by simp [ctN]; exact hf) (zids_up (by omega) (by omega) (by omega) (by omega)) (fun k' _ _ => zup_f σ e v (by omega)) ?_ (fun u hu hne => ct_node_ne hf h0 hu hne) d kk
  show Sum.inr (4, ctN g ad _ e.toNat) = _
  rw [ctN_set hf h0, hv]
theorem x_getC {e : Int} {index : Nat} {v : Value} (C : zX E cc own D g rm nl) (f : Nat) (hf : f < 6) (h0 : 0 ≤ e) (h1 : e < σ 71 0) (hv : cv ad f (σ (20 + f) e) = v) (hlink : Cond.fieldLink own index R_CE (F_CE f).2.1 (F_CE f).2.2.1 ∈ lw_g) (d : decode cc pc = .ok (.getfield index, 3))
    (kk : zW E (zOK D A (zst E) g ad) k n (pc + 3) L (v :: st) σ) : zW E (zOK D A (zst E) g ad) k n pc L (zr ad 5 e :: st) σ := by
  have hd : ∀ j, j < 6 → (F_CE j).1 = R_CE := by decide +kernel
  rw [zr_s ad 5 h0]
  exact g_get (T := F_CE) (ci := 5) C (zids_cell h0 h1) rfl rfl i_CE hf (hd f hf) hlink (by rw [ctC_at hf h0, hv]) d kk
/-- an object of CellMapper's, of the graph's, a number of theirs -/
theorem x_getX {index : Nat} {v : Value} (C : zX E cc own D g rm nl) (j : Nat) (hj : j < 18) (hv : (ctX ad σ)[j]? = some v) (hlink : Cond.fieldLink own index R_CX (F_CX j).2.1 (F_CX j).2.2.1 ∈ lw_g) (d : decode cc pc = .ok (.getfield index, 3))
    (kk : zW E (zOK D A (zst E) g ad) k n (pc + 3) L (v :: st) σ) : zW E (zOK D A (zst E) g ad) k n pc L (.ref (ad (0, 0)) :: st) σ := by
  have hd : ∀ j, j < 18 → (F_CX j).1 = R_CX := by decide +kernel
  exact g_get (T := F_CX) (ci := 1) C (zids_fix zfix_0) rfl rfl i_CX hj (hd j hj) hlink hv d kk
theorem ctX_set {ad : zA} {σ : zS} {j f : Nat} (hj : xtab[j]? = some (none, f)) (v : Int) : ctX ad (zup σ f 0 v) = (ctX ad σ).set j (.int (zi v)) := by
  have e : ∀ i j : Nat, i < 18 → j < 18 → ∀ f, xtab[i]? = some (none, f) → xtab[j]? = some (none, f) → i = j := by
    intro i j hi hj f h1 h2
    have : (List.range 18).all (fun i => (List.range 18).all (fun j => decide (i = j) || decide (xtab[i]? ≠ xtab[j]?))) = true := by decide
    have h3 := List.all_eq_true.mp (List.all_eq_true.mp this i (List.mem_range.mpr hi)) j (List.mem_range.mpr hj)
    simp only [Bool.or_eq_true, decide_eq_true_eq] at h3
    rcases h3 with h3 | h3
    · exact h3
    · exact absurd (h1.trans h2.symm) h3
  have hl : (ctX ad σ).length = 18 := by simp [ctX, xtab]
  have hlj : j < 18 := by
    have := (List.getElem?_eq_some_iff.mp hj).1
    simpa [xtab] using this
  apply List.ext_getElem?
  intro i
  by_cases hi : i = j
  · subst hi
    rw [List.getElem?_set_self (by omega), ctX, List.getElem?_map, hj]
    simp only [Option.map_some, zup_at]
  · rw [List.getElem?_set_ne (Ne.symm hi)]
    simp only [ctX, List.getElem?_map]
    cases hx : xtab[i]? with
    | none => rfl
    | some q =>
      obtain ⟨a, b⟩ := q
      cases a with
      | some t => rfl
      | none =>
        have hli : i < 18 := by
          have := (List.getElem?_eq_some_iff.mp hx).1
          simpa [xtab] using this
        have hb : b ≠ f := fun q => hi (e i j hli hlj f (by rw [hx, q]) hj)
        simp only [Option.map_some, zup_ne σ 0 v 0 hb]
theorem x_putX {index : Nat} {v : Int} (C : zX E cc own D g rm nl) (j f : Nat) (hj : xtab[j]? = some (none, f)) (hf : 56 ≤ f ∧ f ≤ 60) (hn : narrow (t_CX j) (.int (zi v)) = .int (zi v) ∧ fits (t_CX j) (.int (zi v)) = true) (hfin : (F_CX j).2.2.2 = false) (hlink : Cond.fieldLink own index R_CX (F_CX j).2.1 (F_CX j).2.2.1 ∈ lw_g) (d : decode cc pc = .ok (.putfield index, 3))
    (kk : zW E (zOK D A (zst E) g ad) k n (pc + 3) L st (zup σ f 0 v)) : zW E (zOK D A (zst E) g ad) k n pc L (.int (zi v) :: .ref (ad (0, 0)) :: st) σ := by
  have hd : ∀ j, j < 18 → (F_CX j).1 = R_CX := by decide +kernel
  have hlj : j < 18 := by
    have := (List.getElem?_eq_some_iff.mp hj).1
    simpa [xtab] using this
  refine g_put (T := F_CX) (ci := 1) (ty := t_CX) C (zids_fix zfix_0) rfl rfl i_CX t_CX_ok n_CX hlj (hd j hlj) hlink hfin hn (by simp [ctX, xtab]; exact hlj) (zids_up (by omega) (by omega) (by omega) (by omega)) (fun k' _ _ => zup_f σ 0 v (by omega)) ?_ (fun u hu hne => ?_) d kk
  · show Sum.inr (1, ctX ad _) = _
    rw [ctX_set hj]
  · refine ct_fam (fun k hk => zup_f σ 0 v (fun q => ?_))
    subst q
    have hz := zids_sort hu
    obtain ⟨a, b⟩ := u
    rcases a with _ | _ | _ | _ | _ | _ | _ | a
    · rcases b with _ | _ | _ | b
      · exact hne rfl
      · exact hk.elim
      · have : k = 61 ∨ k = 62 := hk
        omega
      · have : 100 ≤ k := hk
        omega
    · have : k = 40 ∨ k = 47 ∨ k = 48 := hk
      omega
    · have : k = 47 ∨ k = 41 + b := hk
      have := (zids_two hu).1
      omega
    · have : 50 ≤ k ∧ k ≤ 54 := hk
      omega
    · have : k < 18 := hk
      omega
    · have : 20 ≤ k ∧ k ≤ 25 := hk
      omega
    · have : 30 ≤ k ∧ k ≤ 32 := hk
      omega
    · have : 100 ≤ k := hk
      omega
theorem x_getG {index : Nat} (C : zX E cc own D g rm nl) (hlink : Cond.fieldLink own index R_GR (F_GR 0).2.1 (F_GR 0).2.2.1 ∈ lw_g) (d : decode cc pc = .ok (.getfield index, 3))
    (kk : zW E (zOK D A (zst E) g ad) k n (pc + 3) L (.ref (ad (1, 0)) :: st) σ) : zW E (zOK D A (zst E) g ad) k n pc L (.ref (ad (0, 1)) :: st) σ :=
  g_get (T := F_GR) (ci := 2) C (zids_fix zfix_1) rfl rfl i_GR (by decide) rfl hlink rfl d kk
theorem x_getD {index : Nat} (C : zX E cc own D g rm nl) (j : Nat) (hj : j < 2) (hlink : Cond.fieldLink own index R_DG (F_DG j).2.1 (F_DG j).2.2.1 ∈ lw_g) (d : decode cc pc = .ok (.getfield index, 3))
    (kk : zW E (zOK D A (zst E) g ad) k n (pc + 3) L (.int (zi (σ (61 + j) 0)) :: st) σ) : zW E (zOK D A (zst E) g ad) k n pc L (.ref (ad (0, 2)) :: st) σ := by
  have hd : ∀ j, j < 2 → (F_DG j).1 = R_DG := by decide +kernel
  refine g_get (T := F_DG) (ci := 3) C (zids_fix zfix_2) rfl rfl i_DG hj (hd j hj) hlink ?_ d kk
  rcases (show j = 0 ∨ j = 1 by omega) with rfl | rfl <;> rfl
theorem x_putD {index : Nat} {v : Int} (C : zX E cc own D g rm nl) (j : Nat) (hj : j < 2) (hlink : Cond.fieldLink own index R_DG (F_DG j).2.1 (F_DG j).2.2.1 ∈ lw_g) (d : decode cc pc = .ok (.putfield index, 3))
    (kk : zW E (zOK D A (zst E) g ad) k n (pc + 3) L st (zup σ (61 + j) 0 v)) : zW E (zOK D A (zst E) g ad) k n pc L (.int (zi v) :: .ref (ad (0, 2)) :: st) σ := by
  have hd : ∀ j, j < 2 → (F_DG j).1 = R_DG ∧ (F_DG j).2.2.2 = false ∧ t_DG j = .int := by decide +kernel
  refine g_put (T := F_DG) (ci := 3) (ty := t_DG) C (zids_fix zfix_2) rfl rfl i_DG t_DG_ok n_DG hj (hd j hj).1 hlink (hd j hj).2.1 (by rw [(hd j hj).2.2]; exact ⟨rfl, rfl⟩) (by simpa using hj) (zids_up (by omega) (by omega) (by omega) (by omega)) (fun k' _ _ => zup_f σ 0 v (by omega)) ?_ (fun u hu hne => ?_) d kk
  · rcases (show j = 0 ∨ j = 1 by omega) with rfl | rfl
    · show Sum.inr (3, [Value.int (zi (zup σ 61 0 v 61 0)), Value.int (zi (zup σ 61 0 v 62 0))]) = _
      rw [zup_at, zup_ne σ 0 v 0 (by decide)]
      rfl
    · show Sum.inr (3, [Value.int (zi (zup σ 62 0 v 61 0)), Value.int (zi (zup σ 62 0 v 62 0))]) = _
      rw [zup_at, zup_ne σ 0 v 0 (by decide)]
      rfl
  · refine ct_fam (fun k hk => zup_f σ 0 v (fun q => ?_))
    subst q
    have hz := zids_sort hu
    obtain ⟨a, b⟩ := u
    rcases a with _ | _ | _ | _ | _ | _ | _ | a
    · rcases b with _ | _ | _ | b
      · have : 56 ≤ 61 + j ∧ 61 + j ≤ 60 := hk
        omega
      · exact hk.elim
      · exact hne rfl
      · have : 100 ≤ 61 + j := hk
        omega
    · have : 61 + j = 40 ∨ 61 + j = 47 ∨ 61 + j = 48 := hk
      omega
    · have : 61 + j = 47 ∨ 61 + j = 41 + b := hk
      have := (zids_two hu).1
      omega
    · have : 50 ≤ 61 + j ∧ 61 + j ≤ 54 := hk
      omega
    · have : 61 + j < 18 := hk
      omega
    · have : 20 ≤ 61 + j ∧ 61 + j ≤ 25 := hk
      omega
    · have : 30 ≤ 61 + j ∧ 61 + j ≤ 32 := hk
      omega
    · have : 100 ≤ 61 + j := hk
      omega
/-- patterns -/
theorem x_getP0 {e : Int} {index : Nat} (C : zX E cc own D g rm nl) (h0 : 0 ≤ e) (h1 : e < σ 72 0) (hs : σ 30 e = 0) (hlink : Cond.fieldLink own index R_PI (F_PI 0).2.1 (F_PI 0).2.2.1 ∈ lw_g) (d : decode cc pc = .ok (.getfield index, 3))
    (kk : zW E (zOK D A (zst E) g ad) k n (pc + 3) L (.int (zi (σ 31 e)) :: st) σ) : zW E (zOK D A (zst E) g ad) k n pc L (zr ad 6 e :: st) σ := by
  rw [zr_s ad 6 h0]
  refine g_get (T := F_PI) (ci := 6) (fs := [.int (zi (σ 31 e))]) C (zids_pat h0 h1) ?_ rfl i_PI (by decide) rfl hlink rfl d kk
  show ctP ad σ e.toNat = _
  simp only [ctP, Int.toNat_of_nonneg h0, if_pos hs]
theorem x_getP1 {e : Int} {index : Nat} (C : zX E cc own D g rm nl) (h0 : 0 ≤ e) (h1 : e < σ 72 0) (hs : σ 30 e = 1) (hlink : Cond.fieldLink own index R_IN (F_IN 0).2.1 (F_IN 0).2.2.1 ∈ lw_g) (d : decode cc pc = .ok (.getfield index, 3))
    (kk : zW E (zOK D A (zst E) g ad) k n (pc + 3) L (zr ad 6 (σ 31 e) :: st) σ) : zW E (zOK D A (zst E) g ad) k n pc L (zr ad 6 e :: st) σ := by
  rw [zr_s ad 6 h0]
  refine g_get (T := F_IN) (ci := 7) (fs := [zr ad 6 (σ 31 e)]) C (zids_pat h0 h1) ?_ rfl i_IN (by decide) rfl hlink rfl d kk
  show ctP ad σ e.toNat = _
  simp only [ctP, Int.toNat_of_nonneg h0, if_neg (show ¬ σ 30 e = 0 by omega), if_pos hs]
theorem x_getP2 {e : Int} {index : Nat} (C : zX E cc own D g rm nl) (j : Nat) (hj : j < 2) (h0 : 0 ≤ e) (h1 : e < σ 72 0) (hs : σ 30 e = 2) (hlink : Cond.fieldLink own index R_NA (F_NA j).2.1 (F_NA j).2.2.1 ∈ lw_g) (d : decode cc pc = .ok (.getfield index, 3))
    (kk : zW E (zOK D A (zst E) g ad) k n (pc + 3) L (zr ad 6 (σ (31 + j) e) :: st) σ) : zW E (zOK D A (zst E) g ad) k n pc L (zr ad 6 e :: st) σ := by
  have hd : ∀ j, j < 2 → (F_NA j).1 = R_NA := by decide +kernel
  rw [zr_s ad 6 h0]
  refine g_get (T := F_NA) (ci := 8) (fs := [zr ad 6 (σ 31 e), zr ad 6 (σ 32 e)]) C (zids_pat h0 h1) ?_ rfl i_NA hj (hd j hj) hlink ?_ d kk
  · show ctP ad σ e.toNat = _
    simp only [ctP, Int.toNat_of_nonneg h0, if_neg (show ¬ σ 30 e = 0 by omega), if_neg (show ¬ σ 30 e = 1 by omega)]
  · rcases (show j = 0 ∨ j = 1 by omega) with rfl | rfl <;> rfl
end ZH
