/-! ArrayList.add: the array may be made anew; a raw array beside the world -/
theorem zids_nd (σ : zS) : (zids σ).Nodup := by
  have hf : zfix.Nodup := by decide +kernel
  have hm : ∀ (s : Nat) (l : List Nat), l.Nodup → (l.map (fun i => ((s, i) : zT))).Nodup := fun s l h => List.pairwise_map.mpr (List.Pairwise.imp (fun hne e => hne (congrArg Prod.snd e)) h)
  have hr : ∀ n : Nat, (List.range n).Nodup := fun n => List.nodup_range
  have h1 : ∀ t ∈ zfix, t.1 ≠ 2 ∧ t.1 ≠ 4 ∧ t.1 ≠ 5 ∧ t.1 ≠ 6 := by decide +kernel
  have hs : ∀ (s : Nat) (l : List Nat) (t : zT), t ∈ l.map (fun i => ((s, i) : zT)) → t.1 = s := fun s l t ht => by
    obtain ⟨i, -, rfl⟩ := List.mem_map.mp ht
    rfl
  unfold zids
  refine List.nodup_append.mpr ⟨List.nodup_append.mpr ⟨List.nodup_append.mpr ⟨List.nodup_append.mpr ⟨hf, hm 2 _ ((hr 6).filter _), fun a ha b hb e => ?_⟩, hm 4 _ (hr _), fun a ha b hb e => ?_⟩, hm 5 _ (hr _), fun a ha b hb e => ?_⟩, hm 6 _ (hr _), fun a ha b hb e => ?_⟩
  · subst e
    exact (h1 a ha).1 (hs 2 _ a hb)
  · subst e
    have := hs 4 _ a hb
    rcases List.mem_append.mp ha with h | h
    · exact (h1 a h).2.1 this
    · have := hs 2 _ a h
      omega
  · subst e
    have := hs 5 _ a hb
    rcases List.mem_append.mp ha with h | h
    · rcases List.mem_append.mp h with h | h
      · exact (h1 a h).2.2.1 this
      · have := hs 2 _ a h
        omega
    · have := hs 4 _ a h
      omega
  · subst e
    have := hs 6 _ a hb
    rcases List.mem_append.mp ha with h | h
    · rcases List.mem_append.mp h with h | h
      · rcases List.mem_append.mp h with h | h
        · exact (h1 a h).2.2.2 this
        · have := hs 2 _ a h
          omega
      · have := hs 4 _ a h
        omega
    · have := hs 5 _ a h
      omega
section ZLA
variable {E : zE} {k n pc : Nat} {L L' : List (Nat × Value)} {st : List Value} {σ : zS} {cc : ByteArray} {own : String} {D : va_G} {g : zG} {rm : Room} {nl : Nat} {A : Nat → Prop} {ad : zA}
/-- the world, and an array of Objects of c places that hold f -/
def arE (g : zG) (c : Nat) (f : Nat → Option Nat) : va_E := .inl (g.1 3, c, .inr (.inr (.inr (.inr f))))
def zOe (D : va_G) (A : Nat → Prop) (s : State) (g : zG) (ad : zA) (q c : Nat) (f : Nat → Option Nat) (σ : zS) (H : Heap) (locs : List Loc) : Prop := va_P D classes (gw (zids σ) ad (ct g ad σ) ++ [(q, arE g c f)]) H ∧ va_D A (gw (zids σ) ad (ct g ad σ) ++ [(q, arE g c f)]) ∧ zD A ad σ ∧ va_S A s.heap H locs
theorem va_RA_eq {U : State} {a b : ClassId} {C : String} (h1 : va_RA U a (.object C)) (h2 : va_RA U b (.object C)) : a = b := by
  obtain ⟨_, _, _, _, _, q1⟩ := h1
  obtain ⟨_, _, _, _, _, q2⟩ := h2
  exact Option.some.inj (q1.symm.trans q2)
theorem xl_anew {index : Nat} {c : Int} (C : zX E cc own D g rm nl) (S : zSt g A (zst E) (zst E).heap) (hA : ∀ q, (zst E).heap.size ≤ q → A q) (hcl : Cond.classLink own index "java/lang/Object" ∈ lw_g) (h0 : 0 ≤ c) (h1 : c ≤ 1000) (hkn : k + 1 ≤ rm.cells ∧ n + c.toNat ≤ rm.slots) (d : decode cc pc = .ok (.anewarray index, 3))
    (kk : ∀ q : Nat, zW E (zOe D A (zst E) g ad q c.toNat (fun _ => none)) (k + 1) (n + c.toNat) (pc + 3) L (.ref q :: st) σ) : zW E (zOK D A (zst E) g ad) k n pc L (.int (zi c) :: st) σ := by
  obtain ⟨p, l, e, R0, s, m, args, below, meth, c0, nL, Z⟩ := E
  obtain ⟨⟨hx, hb, hml, hown, hts⟩, hK, hRm, hN⟩ := C
  subst hRm
  intro H locs ls ho hl
  refine va_newq hx hb hown (hts _ hcl) S.2.2.2.2.2.2.2.1 hK ho.1 (zD_va ho.2.1 _) ho.2.2 hA (N' := c.toNat) (by rw [← zi_0, zi_lt (by omega) (by decide)]; omega) (zi_cl h0 (by omega)) (by omega) hkn.1 hkn.2 d (fun q cA H1 hK1 hP1 hD1 hS1 => ?_)
  have e1 : cA = g.1 3 := va_RA_eq (hK1.2 5 (cA, .object "java/lang/Object") rfl).2 (hK.2 3 (g.1 3, .object "java/lang/Object") rfl).2
  subst e1
  exact kk q H1 locs ls ⟨hP1, hD1, ho.2.1, hS1⟩ hl
/-- the array gets into its list -/
theorem xl_put {index q : Nat} {c : Int} {f : Nat → Option Nat} (C : zX E cc "java/util/ArrayList" D g rm nl) (l : Nat) (hl6 : l < 6) (h0 : 0 < c) (h1 : c ≤ 1000) (h2 : σ 40 l ≤ c) (hf : ∀ x : Nat, f x = zro ad (lst l) (σ (41 + l) x)) (hlink : Cond.fieldLink "java/util/ArrayList" index "java/util/ArrayList" "elementData" "[Ljava/lang/Object;" ∈ lw_g) (d : decode cc pc = .ok (.putfield index, 3))
    (kk : zW E (zOK D A (zst E) g (adup ad (2, l) q)) k n (pc + 3) L st (zup σ 47 l c)) : zW E (zOe D A (zst E) g ad q c.toNat f) k n pc L (.ref q :: .ref (ad (1, l)) :: st) σ := by
  obtain ⟨p, l0, e, R0, s, m, args, below, meth, c0, nL, Z⟩ := E
  obtain ⟨⟨hx, hb, hml, hown, hts⟩, hK, hRm, hN⟩ := C
  intro H locs ls ho hl
  obtain ⟨hP, hD, hz, hS⟩ := ho
  have hlen : (gw (zids σ) ad (ct g ad σ)).length = (zids σ).length := by simp [gw]
  obtain ⟨j, hj1, hj2⟩ := gw_get (ad := ad) (ct := ct g ad σ) (zids_fix (σ := σ) (zfix_l hl6))
  have hjl : j < (zids σ).length := (List.getElem?_eq_some_iff.mp hj1).1
  have hj3 : (gw (zids σ) ad (ct g ad σ) ++ [(q, arE g c.toNat f)])[j]? = some (ad (1, l), .inr (0, ctL g ad σ l)) := by
    rw [List.getElem?_append_left (by omega)]
    exact hj2
  refine va_put (C := "java/util/ArrayList") (T := F_AL) (N := 3) (ci := 0) (fs := ctL g ad σ l) hx hb hts i_AL t_AL t_AL_ok n_AL hown hK hP hD hS j hj3 rfl 0 (by decide) (hts _ hlink) (fun _ h9 => h9) rfl (t_AL_ok 0 (by decide)) rfl rfl (by show 0 < 3; decide) d (fun H1 locs1 hP1 hD1 hS1 => ?_)
  have hlast : ((gw (zids σ) ad (ct g ad σ) ++ [(q, arE g c.toNat f)]).set j (ad (1, l), .inr (0, (ctL g ad σ l).set 0 (.ref q))))[(zids σ).length]? = some (q, arE g c.toNat f) := by
    rw [List.getElem?_set_ne (by omega), List.getElem?_append_right (by omega), hlen, Nat.sub_self]
    rfl
  have hself : ((gw (zids σ) ad (ct g ad σ) ++ [(q, arE g c.toNat f)]).set j (ad (1, l), .inr (0, (ctL g ad σ l).set 0 (.ref q))))[j]? = some (ad (1, l), .inr (0, (ctL g ad σ l).set 0 (.ref q))) := List.getElem?_set_self (by simp [hlen]; omega)
  have hin : ∀ {u : zT}, u ∈ zids σ → u ≠ (1, l) → ∃ i, i < (zids σ).length ∧ ((gw (zids σ) ad (ct g ad σ) ++ [(q, arE g c.toNat f)]).set j (ad (1, l), .inr (0, (ctL g ad σ l).set 0 (.ref q))))[i]? = some (ad u, ct g ad σ u) := by
    intro u hu hne
    obtain ⟨i, h3, h4⟩ := gw_get (ad := ad) (ct := ct g ad σ) hu
    have hi := (List.getElem?_eq_some_iff.mp h3).1
    refine ⟨i, hi, ?_⟩
    rw [List.getElem?_set_ne (fun q => hne ?_), List.getElem?_append_left (by omega)]
    · exact h4
    · subst q
      exact Option.some.inj (h3.symm.trans hj1)
  have hmem : ∀ t, t ∈ zids (zup σ 47 l c) ↔ (t = (2, l) ∨ (t ∈ zids σ ∧ t ≠ (2, l))) := by
    intro t
    have e7 : ∀ i : Nat, zup σ 47 l c 47 i = if (i : Int) = l then c else σ 47 i := fun i => zup_or σ 47 l c i
    constructor
    · intro ht
      simp only [zids, List.mem_append, List.mem_map, zup_f σ (l : Int) c (show 70 ≠ 47 by decide), zup_f σ (l : Int) c (show 71 ≠ 47 by decide), zup_f σ (l : Int) c (show 72 ≠ 47 by decide)] at ht
      by_cases h2l : t = (2, l)
      · exact Or.inl h2l
      · refine Or.inr ⟨?_, h2l⟩
        simp only [zids, List.mem_append, List.mem_map]
        rcases ht with (((h | ⟨i, hi, rfl⟩) | h) | h) | h
        · exact Or.inl (Or.inl (Or.inl (Or.inl h)))
        · refine Or.inl (Or.inl (Or.inl (Or.inr ⟨i, ?_, rfl⟩)))
          obtain ⟨h3, h4⟩ := List.mem_filter.mp hi
          refine List.mem_filter.mpr ⟨h3, ?_⟩
          rw [e7, if_neg (fun q => h2l (by rw [show i = l by omega]))] at h4
          exact h4
        · exact Or.inl (Or.inl (Or.inr h))
        · exact Or.inl (Or.inr h)
        · exact Or.inr h
    · rintro (rfl | ⟨ht, hne⟩)
      · exact zids_ea hl6 (by rw [zup_at]; exact h0)
      · simp only [zids, List.mem_append, List.mem_map] at ht
        simp only [zids, List.mem_append, List.mem_map, zup_f σ (l : Int) c (show 70 ≠ 47 by decide), zup_f σ (l : Int) c (show 71 ≠ 47 by decide), zup_f σ (l : Int) c (show 72 ≠ 47 by decide)]
        rcases ht with (((h | ⟨i, hi, rfl⟩) | h) | h) | h
        · exact Or.inl (Or.inl (Or.inl (Or.inl h)))
        · refine Or.inl (Or.inl (Or.inl (Or.inr ⟨i, ?_, rfl⟩)))
          obtain ⟨h3, h4⟩ := List.mem_filter.mp hi
          refine List.mem_filter.mpr ⟨h3, ?_⟩
          rw [e7, if_neg (fun q => hne (by rw [show i = l by omega]))]
          exact h4
        · exact Or.inl (Or.inl (Or.inr h))
        · exact Or.inl (Or.inr h)
        · exact Or.inr h
  have hag : ∀ u, u ≠ (2, l) → adup ad (2, l) q u = ad u := fun u hu => if_neg hu
  have hq0 : adup ad (2, l) q (2, l) = q := if_pos rfl
  -- what the cells hold
  have hc1 : ct g (adup ad (2, l) q) (zup σ 47 l c) (1, l) = .inr (0, (ctL g ad σ l).set 0 (.ref q)) := by
    show Sum.inr (0, ctL g _ _ l) = _
    simp only [ctL, zup_at, if_pos h0, hq0, zup_f σ (l : Int) c (show 40 ≠ 47 by decide), zup_f σ (l : Int) c (show 48 ≠ 47 by decide)]
    rfl
  have hc2 : ct g (adup ad (2, l) q) (zup σ 47 l c) (2, l) = arE g c.toNat f := by
    show ctE g _ _ l = _
    simp only [ctE, zup_at, arE]
    refine inl_q (fun x => ?_)
    rw [hf x, zup_f σ (l : Int) c (show 41 + l ≠ 47 by omega)]
    unfold lst zro
    split
    · rfl
    · rw [hag _ (fun h => by have := congrArg Prod.fst h; dsimp only at this; split at this <;> omega)]
  have hco : ∀ u ∈ zids σ, u ≠ (1, l) → u ≠ (2, l) → ct g (adup ad (2, l) q) (zup σ 47 l c) u = ct g ad σ u := by
    intro u hu h1l h2l
    have hz' := zids_sort hu
    have ez : ∀ (t : Nat) (v : Int), t ≠ 2 → zro (adup ad (2, l) q) t v = zro ad t v := fun t v ht => by
      unfold zro
      rw [hag _ (fun h => ht (congrArg Prod.fst h))]
    have er : ∀ (t : Nat) (v : Int), t ≠ 2 → zr (adup ad (2, l) q) t v = zr ad t v := fun t v ht => congrArg va_rf (ez t v ht)
    have e7 : ∀ f', f' ≠ 47 → zup σ 47 l c f' = σ f' := fun f' hf' => zup_f σ (l : Int) c hf'
    obtain ⟨a, b⟩ := u
    rcases a with _ | _ | _ | _ | _ | _ | _ | a
    · have hb := zids_zero hu
      rcases (show b = 0 ∨ b = 1 ∨ b = 2 ∨ b = 3 by omega) with rfl | rfl | rfl | rfl
      · refine congrArg (fun x => (Sum.inr (1, x) : va_E)) (List.map_congr_left fun q' hq' => ?_)
        have e2 : ∀ q ∈ xtab, (∀ t, q.1 = some t → t.1 ≠ 2) ∧ q.2 ≠ 47 := by decide +kernel
        cases hn : q'.1 with
        | some t => simp only [hag t (fun h => (e2 q' hq').1 t hn (by rw [h]))]
        | none => simp only [e7 q'.2 (e2 q' hq').2]
      · simp only [ct, hag (1, 0) (fun h => absurd (congrArg Prod.fst h) (by show (1 : Nat) ≠ 2; decide))]
      · simp only [ct, e7 61 (by decide), e7 62 (by decide)]
      · refine congrArg (fun x => (Sum.inr (9, x) : va_E)) (List.map_congr_left fun i _ => ?_)
        rw [hag (7, i) (fun h => by have := congrArg Prod.fst h; dsimp only at this; omega), e7 (100 + i) (by omega)]
    · have hbl : b ≠ l := fun h => h1l (by rw [h])
      simp only [ct, ctL, e7 40 (by decide), e7 48 (by decide), zup_ni σ 47 c (show (b : Int) ≠ l by omega), hag (2, b) (fun h => hbl (congrArg Prod.snd h))]
    · have hbl : b ≠ l := fun h => h2l (by rw [h])
      have hb6 := (zids_two hu).1
      simp only [ct, ctE, zup_ni σ 47 c (show (b : Int) ≠ l by omega), e7 (41 + b) (by omega)]
      refine inl_q (fun x => ?_)
      exact ez _ _ (by split <;> omega)
    · have hb := zids_three hu
      rcases (show b = 0 ∨ b = 1 ∨ b = 2 ∨ b = 3 ∨ b = 4 by omega) with rfl | rfl | rfl | rfl | rfl
      · simp only [ct, ctY, e7 50 (by decide)]
        exact inl_q (fun x => ez _ _ (by decide))
      · simp only [ct, ctY, e7 51 (by decide)]
        exact inl_q (fun x => ez _ _ (by decide))
      · simp only [ct, ctY, e7 52 (by decide)]
      · simp only [ct, ctY, e7 53 (by decide)]
      · simp only [ct, ctY, e7 54 (by decide)]
    · refine congrArg (fun x => (Sum.inr (4, x) : va_E)) (List.map_congr_left fun f' hf' => ?_)
      have := List.mem_range.mp hf'
      rw [e7 f' (by omega)]
      unfold nv
      split <;> first | rfl | exact er _ _ (by decide)
    · refine congrArg (fun x => (Sum.inr (5, x) : va_E)) (List.map_congr_left fun f' hf' => ?_)
      have := List.mem_range.mp hf'
      rw [e7 (20 + f') (by omega)]
      unfold cv
      split <;> first | rfl | exact er _ _ (by decide)
    · simp only [ct, ctP, e7 30 (by decide), e7 31 (by decide), e7 32 (by decide), er 6 _ (by decide)]
    · simp only [ct, ctA, e7 (100 + b) (by omega)]
  have hlt : ∀ u ∈ zids σ, ad u ≠ q := by
    intro u hu h
    by_cases h1l : u = (1, l)
    · subst h1l
      have := hD1.1 _ _ _ _ hself hlast h
      omega
    · obtain ⟨i, hi, h4⟩ := hin hu h1l
      have := hD1.1 _ _ _ _ h4 hlast h
      omega
  refine kk H1 locs1 ls ⟨zP_iff.mpr fun t ht => ?_, ⟨fun t ht u hu heq => ?_, fun t ht => ?_, ?_, ?_⟩, hS1⟩ hl
  · rcases (hmem t).mp ht with rfl | ⟨ht, hne⟩
    · rw [hq0, hc2]
      exact hP1 _ _ hlast
    · rw [hag t hne]
      by_cases h1l : t = (1, l)
      · subst h1l
        rw [hc1]
        exact hP1 _ _ hself
      · obtain ⟨i, hi, h4⟩ := hin ht h1l
        rw [hco t ht h1l hne]
        exact hP1 _ _ h4
  · rcases (hmem t).mp ht with rfl | ⟨ht, hne⟩ <;> rcases (hmem u).mp hu with rfl | ⟨hu, hne'⟩
    · rfl
    · rw [hq0, hag u hne'] at heq
      exact absurd heq.symm (hlt u hu)
    · rw [hq0, hag t hne] at heq
      exact absurd heq (hlt t ht)
    · rw [hag t hne, hag u hne'] at heq
      exact hz.1 t ht u hu heq
  · rcases (hmem t).mp ht with rfl | ⟨ht, hne⟩
    · rw [hq0]
      exact hD1.2 _ _ hlast
    · rw [hag t hne]
      exact hz.2.1 t ht
  · exact zids_nd _
  · intro l' hl'
    obtain ⟨z1, z2, z3, z4⟩ := hz.2.2.2 l' hl'
    rw [zup_f σ (l : Int) c (show 40 ≠ 47 by decide), zup_f σ (l : Int) c (show 41 + l' ≠ 47 by omega)]
    by_cases hll : l' = l
    · subst hll
      rw [zup_at]
      exact ⟨z1, h2, h1, z4⟩
    · rw [zup_ni σ 47 c (show (l' : Int) ≠ l by omega)]
      exact ⟨z1, z2, z3, z4⟩
end ZLA
