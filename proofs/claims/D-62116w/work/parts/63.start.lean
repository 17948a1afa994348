/-! what is there at the law's entry -/
theorem st_K {s : State} {args : Array Value} (hts : ∀ w ∈ lw_g, w.before args s = true) : ∃ D : va_G, ∀ (c : Nat) (q : vw_C), classes[c]? = some q → u_Kn s q.1 q.2.1 q.2.2 (D.1 c) (D.2 c) := by
  have k : ∀ c : Nat, ∃ d : ClassId × (Nat → Nat), ∀ q : vw_C, classes[c]? = some q → u_Kn s q.1 q.2.1 q.2.2 d.1 d.2 := by
    intro c
    by_cases hc : c < 10
    · have e : ∀ {C : String} {T : u_T} {N : Nat}, classes[c]? = some (C, T, N) → (∀ w ∈ u_ws C T N, w ∈ lw_g) → Cond.instantiable C N ∈ lw_g → ∃ d : ClassId × (Nat → Nat), ∀ q : vw_C, classes[c]? = some q → u_Kn s q.1 q.2.1 q.2.2 d.1 d.2 := by
        intro C T N h1 h2 h3
        obtain ⟨cC, iS, h⟩ := u_known hts h2 (hts _ h3)
        refine ⟨(cC, iS), fun q hq => ?_⟩
        rw [h1] at hq
        cases hq
        exact h
      rcases (show c = 0 ∨ c = 1 ∨ c = 2 ∨ c = 3 ∨ c = 4 ∨ c = 5 ∨ c = 6 ∨ c = 7 ∨ c = 8 ∨ c = 9 by omega) with rfl | rfl | rfl | rfl | rfl | rfl | rfl | rfl | rfl | rfl
      · exact e rfl i_AL wd_37
      · exact e rfl i_CX wd_23
      · exact e rfl i_GR wd_31
      · exact e rfl i_DG wd_70
      · exact e rfl i_ND wd_157
      · exact e rfl i_CE wd_423
      · exact e rfl i_PI wd_387
      · exact e rfl i_IN wd_400
      · exact e rfl i_NA wd_410
      · exact e rfl i_MM wd_699
    · refine ⟨(0, fun _ => 0), fun q hq => ?_⟩
      have := (List.getElem?_eq_some_iff.mp hq).1
      exact absurd this (by show ¬ c < 10; exact hc)
  refine ⟨(fun c => (k c).choose.1, fun c => (k c).choose.2), fun c q hq => (k c).choose_spec q hq⟩
theorem st_arr {s : State} {args : Array Value} {ty : FieldType} (h : (Cond.arrayClass ty).before args s = true) (hty : ∀ C, ty ≠ .object C) : ∃ cA : ClassId, ArrOfT s cA ty ∧ va_RA s cA ty := by
  obtain ⟨c, k, comp, h1, h2, h3⟩ := Cond.arrayClass_spec h
  refine ⟨c, fun n z => ⟨fun k h => (by cases h), k, h2, comp, h3⟩, ?_⟩
  cases ty <;> first | exact absurd rfl (hty _) | exact h1
theorem st_over {s : State} {args : Array Value} {C : String} (h : (Cond.arrayOver (.object C)).before args s = true) : ∃ cA : ClassId, ArrOfT s cA (.object C) ∧ va_RA s cA (.object C) := by
  obtain ⟨comp, c, k, h1, h2, h3, h4, h5⟩ := Cond.arrayOver_spec h
  exact ⟨c, fun n z => ⟨fun k h => (by cases h), k, h3, comp, h4⟩, k, comp, h3, h4, h1, h5⟩
theorem st_start {s : State} {args : Array Value} (hts : ∀ w ∈ lw_tbl, w.before args s = true) (hgv : (Jvm.Cond.and given_1 narrow_1).before args s = true) : ∃ (D : va_G) (g : zG), va_K D classes (ztys g) s ∧ zSt g (fun q => s.heap.size ≤ q) s s.heap := by
  have hs := flat_of_before _ hgv
  have htg : ∀ w ∈ lw_g, w.before args s = true := fun w hw => hts w (lw_gt hw)
  obtain ⟨D, hD⟩ := st_K htg
  obtain ⟨c0, a0, b0⟩ := st_arr (htg _ wd_140) (fun _ h => by cases h)
  obtain ⟨c1, a1, b1⟩ := st_arr (htg _ wd_858) (fun _ h => by cases h)
  obtain ⟨c2, a2, b2⟩ := st_arr (htg _ wd_141) (fun _ h => by cases h)
  obtain ⟨c3, a3, b3⟩ := st_over (hts _ wd_287)
  obtain ⟨c4, a4, b4⟩ := st_over (hts _ wd_84)
  have hA : ∀ a : Nat, a < s.heap.size → ¬ (fun q => s.heap.size ≤ q) a := fun a h => Nat.not_le.mpr h
  obtain ⟨mi, hmi⟩ := va_Mi.of (C := "[Ljava/lang/Object;") (hs _ (by decide +kernel))
  obtain ⟨kd, hkd⟩ := va_Enof (E := "CellMapper$Kind") (d := "LCellMapper$Kind;") (nm := zKn) (F := zKF) (A := fun q => s.heap.size ≤ q) (args := args) (s := s)
    (fun i hi => hts _ ((show ∀ i, i < 4 → (Cond.laysStatic "CellMapper$Kind" (zKn.getD i "") "LCellMapper$Kind;") ∈ lw_tbl by decide +kernel) i hi)) (hts _ (by decide +kernel))
    (fun i hi => hs _ ((show ∀ i, i < 4 → (Cond.exactly (.static "CellMapper$Kind" (zKn.getD i "") "LCellMapper$Kind;") "CellMapper$Kind") ∈ flatC (Jvm.Cond.and given_1 narrow_1) by decide +kernel) i hi))
    (fun q hq i hi => hs _ ((show ∀ q ∈ zKF, ∀ i, i < 4 → (Cond.eq (.field (.static "CellMapper$Kind" (zKn.getD i "") "LCellMapper$Kind;") q.1 q.2.1 q.2.2.1) (.int (q.2.2.2.getD i 0))) ∈ flatC (Jvm.Cond.and given_1 narrow_1) by decide +kernel) q hq i hi))
    (fun i j hi hj hne => by
      have h : ∀ i, i < 4 → ∀ j, j < 4 → i ≠ j → (Cond.not (.eq (.static "CellMapper$Kind" (zKn.getD i "") "LCellMapper$Kind;") (.static "CellMapper$Kind" (zKn.getD j "") "LCellMapper$Kind;"))) ∈ flatC (Jvm.Cond.and given_1 narrow_1) ∨ (Cond.not (.eq (.static "CellMapper$Kind" (zKn.getD j "") "LCellMapper$Kind;") (.static "CellMapper$Kind" (zKn.getD i "") "LCellMapper$Kind;"))) ∈ flatC (Jvm.Cond.and given_1 narrow_1) := by decide +kernel
      rcases h i hi j hj hne with h | h
      · exact Or.inl (hs _ h)
      · exact Or.inr (hs _ h)) hA
  have hlen : (Cond.eq (.length (.static "java/util/ArrayList" "DEFAULTCAPACITY_EMPTY_ELEMENTDATA" "[Ljava/lang/Object;")) (.int 0)).before args s = true := hs _ (by decide +kernel)
  obtain ⟨t, ht, hT⟩ := va_Tof (N := 0) (f := fun _ => .null) (A := fun q => s.heap.size ≤ q) (tm := .static "java/util/ArrayList" "DEFAULTCAPACITY_EMPTY_ELEMENTDATA" "[Ljava/lang/Object;") (ty := .object "java/lang/Object") (by decide) (hs _ (by decide +kernel)) (va_eqt hlen) (fun j hj => absurd hj (Nat.not_lt_zero j)) hA
  refine ⟨D, (fun i => match i with | 0 => c0 | 1 => c1 | 2 => c2 | 3 => c3 | 4 => c4 | _ => mi, t, kd), ⟨hD, fun k q hk => ?_⟩, hkd, va_Zof (hts _ (by decide +kernel)) (hts _ (by decide +kernel)) ht hA, hT, ?_⟩
  · have hl := (List.getElem?_eq_some_iff.mp hk).1
    have hl : k < 5 := hl
    rcases (show k = 0 ∨ k = 1 ∨ k = 2 ∨ k = 3 ∨ k = 4 by omega) with rfl | rfl | rfl | rfl | rfl <;> cases hk
    · exact ⟨a0, b0⟩
    · exact ⟨a1, b1⟩
    · exact ⟨a2, b2⟩
    · exact ⟨a3, b3⟩
    · exact ⟨a4, b4⟩
  · refine ⟨fun q hq => ?_, fun q hq => ?_, va_Nw.of rfl (hts _ (by decide +kernel)), va_AO.of (hts _ wd_84), va_AO.of (hts _ wd_287), va_Nw.of rfl (hts _ (by decide +kernel)), va_Nw.of rfl (hts _ (by decide +kernel)), va_Dc.of (hts _ (by decide +kernel)), hmi⟩
    · have h : ∀ q ∈ zFw, (Cond.declares q.2.1) ∈ lw_tbl ∧ (Cond.interfaceMethod q.2.1.cls q.2.1.cls q.2.1.name q.2.1.desc) ∈ lw_tbl ∧ (Cond.publicMethod q.2.2) ∈ lw_tbl ∧ (Cond.unhidden q.1 q.2.1.name q.2.1.desc) ∈ lw_tbl ∧ (Cond.castable q.1 q.2.1.cls) ∈ lw_tbl := by decide +kernel
      obtain ⟨h1, h2, h3, h4, h5⟩ := h q hq
      exact va_Fw.of (hts _ h1) (hts _ h2) (hts _ h3) (hts _ h4) (hts _ h5)
    · have h : ∀ q ∈ zNs, (Cond.methodLinkNest q.1 q.2.1 q.2.2.1 q.2.2.2) ∈ lw_tbl := by decide +kernel
      exact va_Nw.of rfl (hts _ (h q hq))
